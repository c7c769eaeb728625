/-! Exact numbers: words of 32 bits. By hand -/
def z_P (k : Nat) : Int := ((2 ^ (32 * k) : Nat) : Int)
theorem z_P_pos (k : Nat) : 0 < z_P k := by
  unfold z_P
  have := Nat.two_pow_pos (32 * k)
  omega
theorem z_P_succ (k : Nat) : z_P (k + 1) = z_P k * 4294967296 := by
  unfold z_P
  rw [Nat.mul_succ, Nat.pow_add, Int.natCast_mul]
  rfl
theorem z_P_add (k j : Nat) : z_P (k + j) = z_P k * z_P j := by
  unfold z_P
  rw [Nat.mul_add, Nat.pow_add, Int.natCast_mul]
/-- digits to a number -/
def z_W (D : Nat → Int) : Nat → Int
  | 0 => 0
  | k + 1 => z_W D k + D k * z_P k
/-- carries -/
def z_c (D : Nat → Int) (c0 : Int) : Nat → Int
  | 0 => c0
  | k + 1 => (z_c D c0 k + D k) / 4294967296
theorem z_W_carry (D : Nat → Int) (c0 : Int) (k : Nat) : z_W (fun j => (z_c D c0 j + D j) % 4294967296) k + z_c D c0 k * z_P k = c0 + z_W D k := by
  induction k with
  | zero => show 0 + c0 * z_P 0 = c0 + 0; rw [show z_P 0 = 1 from rfl]; omega
  | succ k ih =>
    show z_W _ k + (z_c D c0 k + D k) % 4294967296 * z_P k + (z_c D c0 k + D k) / 4294967296 * z_P (k + 1) = c0 + (z_W D k + D k * z_P k)
    have e := Int.emod_add_ediv_mul (z_c D c0 k + D k) 4294967296
    have e2 : (z_c D c0 k + D k) * z_P k = (z_c D c0 k + D k) % 4294967296 * z_P k + (z_c D c0 k + D k) / 4294967296 * z_P (k + 1) := by
      rw [z_P_succ, Int.mul_comm (z_P k), ← Int.mul_assoc, ← Int.add_mul, e]
    rw [Int.add_mul] at e2
    omega
theorem z_W_congr {D D' : Nat → Int} {n : Nat} (h : ∀ j, j < n → D j = D' j) : z_W D n = z_W D' n := by
  induction n with
  | zero => rfl
  | succ n ih =>
    show z_W D n + D n * z_P n = z_W D' n + D' n * z_P n
    rw [ih (fun j hj => h j (by omega)), h n (by omega)]
theorem z_W_bd {D : Nat → Int} {n : Nat} (h : ∀ j, j < n → 0 ≤ D j ∧ D j < 4294967296) : 0 ≤ z_W D n ∧ z_W D n < z_P n := by
  induction n with
  | zero => exact ⟨Int.le_refl _, z_P_pos 0⟩
  | succ n ih =>
    obtain ⟨i1, i2⟩ := ih (fun j hj => h j (by omega))
    obtain ⟨d1, d2⟩ := h n (by omega)
    have hp := z_P_pos n
    show 0 ≤ z_W D n + D n * z_P n ∧ z_W D n + D n * z_P n < z_P (n + 1)
    have h1 : 0 ≤ D n * z_P n := Int.mul_nonneg d1 (by omega)
    have h2 : D n * z_P n ≤ 4294967295 * z_P n := Int.mul_le_mul_of_nonneg_right (by omega) (by omega)
    rw [z_P_succ]
    omega
theorem z_W_add (D D' : Nat → Int) (n : Nat) : z_W (fun j => D j + D' j) n = z_W D n + z_W D' n := by
  induction n with
  | zero => rfl
  | succ n ih =>
    show z_W _ n + (D n + D' n) * z_P n = z_W D n + D n * z_P n + (z_W D' n + D' n * z_P n)
    rw [ih, Int.add_mul]
    omega
theorem z_W_mul (D : Nat → Int) (c : Int) (n : Nat) : z_W (fun j => D j * c) n = z_W D n * c := by
  induction n with
  | zero => show (0 : Int) = 0 * c; omega
  | succ n ih =>
    show z_W _ n + D n * c * z_P n = (z_W D n + D n * z_P n) * c
    rw [ih, Int.add_mul, Int.mul_assoc, Int.mul_comm c, ← Int.mul_assoc]
theorem z_W_split (D : Nat → Int) (n k : Nat) : z_W D (n + k) = z_W D n + z_W (fun j => D (n + j)) k * z_P n := by
  induction k with
  | zero => show z_W D n = z_W D n + 0 * z_P n; omega
  | succ k ih =>
    show z_W D (n + k) + D (n + k) * z_P (n + k) = z_W D n + (z_W (fun j => D (n + j)) k + D (n + k) * z_P k) * z_P n
    rw [ih, Int.add_mul, z_P_add, Int.mul_comm (z_P n), Int.mul_assoc]
    omega
theorem z_W_not (D : Nat → Int) (n : Nat) : z_W (fun j => 4294967295 - D j) n = z_P n - 1 - z_W D n := by
  induction n with
  | zero => rfl
  | succ n ih =>
    show z_W _ n + (4294967295 - D n) * z_P n = z_P (n + 1) - 1 - (z_W D n + D n * z_P n)
    rw [ih, Int.sub_mul, z_P_succ]
    omega
/-- digits are the number's -/
theorem z_W_inj {D D' : Nat → Int} {n : Nat} (h : ∀ j, j < n → 0 ≤ D j ∧ D j < 4294967296) (h' : ∀ j, j < n → 0 ≤ D' j ∧ D' j < 4294967296) (e : z_W D n = z_W D' n) : ∀ j, j < n → D j = D' j := by
  induction n with
  | zero => intro j hj; omega
  | succ n ih =>
    obtain ⟨a1, a2⟩ := z_W_bd (n := n) (fun j hj => h j (by omega))
    obtain ⟨b1, b2⟩ := z_W_bd (n := n) (fun j hj => h' j (by omega))
    have e : z_W D n + D n * z_P n = z_W D' n + D' n * z_P n := e
    have e1 : D n = D' n := by
      have q1 : (z_W D n + D n * z_P n) / z_P n = D n := by
        rw [Int.add_mul_ediv_right _ _ (by have := z_P_pos n; omega), Int.ediv_eq_zero_of_lt a1 a2]; omega
      have q2 : (z_W D' n + D' n * z_P n) / z_P n = D' n := by
        rw [Int.add_mul_ediv_right _ _ (by have := z_P_pos n; omega), Int.ediv_eq_zero_of_lt b1 b2]; omega
      rw [← q1, ← q2, e]
    intro j hj
    by_cases c : j = n
    · subst c; exact e1
    · refine ih (fun j hj => h j (by omega)) (fun j hj => h' j (by omega)) ?_ j (by omega)
      rw [e1] at e
      omega
theorem z_W_mod {D : Nat → Int} {n k : Nat} (h : ∀ j, j < n → 0 ≤ D j ∧ D j < 4294967296) (hk : k ≤ n) : z_W D n % z_P k = z_W D k := by
  have hb := z_W_bd (n := k) (fun j hj => h j (by omega))
  rw [show n = k + (n - k) by omega, z_W_split, Int.add_mul_emod_self_right, Int.emod_eq_of_lt hb.1 hb.2]
/-- n words from o on hold the number z (two's complement) -/
def EX (n o : Nat) (f : Nat → Int32) (z : Int) : Prop := z_W (fun j => z_w (f (o + j))) n = z % z_P n
theorem EX_bd (n o : Nat) (f : Nat → Int32) : 0 ≤ z_W (fun j => z_w (f (o + j))) n ∧ z_W (fun j => z_w (f (o + j))) n < z_P n := z_W_bd (fun j _ => z_w_bd _)
theorem EX_mod {n o : Nat} {f : Nat → Int32} {z z' : Int} (h : EX n o f z) (e : z % z_P n = z' % z_P n) : EX n o f z' := h.trans e
/-- what a loop over words leaves -/
def z_st (D : Nat → Int) (c0 : Int) (o : Nat) (f : Nat → Int32) (k : Nat) : Nat → Int32 := fun i => if o ≤ i ∧ i < o + k then Int32.ofInt ((z_c D c0 (i - o) + D (i - o)) % 4294967296) else f i
theorem z_st_step (D : Nat → Int) (c0 : Int) (o : Nat) (f : Nat → Int32) (k : Nat) {x : Int32} (hx : z_w x = (z_c D c0 k + D k) % 4294967296) : upd (z_st D c0 o f k) (o + k) x = z_st D c0 o f (k + 1) := by
  have hx2 : x = Int32.ofInt ((z_c D c0 k + D k) % 4294967296) := by
    apply z_w_inj
    rw [hx]
    unfold z_w
    rw [Int32.toInt_ofInt]
    have := @Int.bmod_emod ((z_c D c0 k + D k) % 4294967296) 4294967296
    have h2 : ((4294967296 : Nat) : Int) = 4294967296 := rfl
    rw [h2] at this
    rw [show Int32.size = 4294967296 from rfl, this]
    omega
  funext i
  simp only [upd, z_st]
  by_cases c : i = o + k
  · subst c
    rw [if_pos rfl, if_pos (by omega), show o + k - o = k by omega, hx2]
  · rw [if_neg c]
    by_cases c2 : o ≤ i ∧ i < o + k
    · rw [if_pos c2, if_pos (by omega)]
    · rw [if_neg c2, if_neg (by omega)]
theorem z_st_0 (D : Nat → Int) (c0 : Int) (o : Nat) (f : Nat → Int32) : z_st D c0 o f 0 = f := by
  funext i
  unfold z_st
  rw [if_neg (by omega)]
theorem z_st_out (D : Nat → Int) (c0 : Int) (o : Nat) (f : Nat → Int32) (k i : Nat) (h : i < o ∨ o + k ≤ i) : z_st D c0 o f k i = f i := by
  unfold z_st
  rw [if_neg (by omega)]
theorem z_st_in (D : Nat → Int) (c0 : Int) (o : Nat) (f : Nat → Int32) (k j : Nat) (h : j < k) : z_w (z_st D c0 o f k (o + j)) = (z_c D c0 j + D j) % 4294967296 := by
  unfold z_st
  rw [if_pos (by omega), show o + j - o = j by omega]
  unfold z_w
  rw [Int32.toInt_ofInt, show Int32.size = 4294967296 from rfl]
  have := @Int.bmod_emod ((z_c D c0 j + D j) % 4294967296) 4294967296
  have h2 : ((4294967296 : Nat) : Int) = 4294967296 := rfl
  rw [h2] at this
  rw [this]
  omega
/-- the words that a loop of n words leaves -/
theorem z_st_EX (D : Nat → Int) (c0 : Int) (o : Nat) (f : Nat → Int32) (n : Nat) : EX n o (z_st D c0 o f n) (c0 + z_W D n) := by
  have h := z_W_carry D c0 n
  have h2 : z_W (fun j => z_w (z_st D c0 o f n (o + j))) n = z_W (fun j => (z_c D c0 j + D j) % 4294967296) n := z_W_congr (fun j hj => z_st_in D c0 o f n j hj)
  have h3 := EX_bd n o (z_st D c0 o f n)
  show z_W (fun j => z_w (z_st D c0 o f n (o + j))) n = _
  rw [h2] at h3 ⊢
  rw [← h, Int.add_mul_emod_self_right, Int.emod_eq_of_lt h3.1 h3.2]
theorem z_c_bd {D : Nat → Int} {c0 lo hi : Int} (h0 : lo ≤ c0 ∧ c0 ≤ hi) (h : ∀ j c, lo ≤ c → c ≤ hi → lo ≤ (c + D j) / 4294967296 ∧ (c + D j) / 4294967296 ≤ hi) (k : Nat) : lo ≤ z_c D c0 k ∧ z_c D c0 k ≤ hi := by
  induction k with
  | zero => exact h0
  | succ k ih => exact h k _ ih.1 ih.2
