/-! the plain law: ends of a call, amounts, exact sums. By hand -/
theorem p_okk {P V : Prop} {t k : Int32} {a b : Int64} (e : t = k) (hk : k = 0) (hv : V) (hab : a = b) (p : P) : (t = k → ((¬ k = 0 → P) ∧ (k = 0 → (V ∧ ((a = b → P) ∧ (¬ a = b → False)))))) ∧ (¬ t = k → False) := ⟨fun _ => ⟨fun _ => p, fun _ => ⟨hv, fun _ => p, fun h => h hab⟩⟩, fun h => h e⟩
theorem p_ern {P V : Prop} {t k : Int32} {a b : Int64} (e : t = k) (hk : ¬ k = 0) (p : P) : (t = k → ((¬ k = 0 → P) ∧ (k = 0 → (V ∧ ((a = b → P) ∧ (¬ a = b → False)))))) ∧ (¬ t = k → False) := ⟨fun _ => ⟨fun _ => p, fun h => absurd h hk⟩, fun h => h e⟩
theorem p_z1 : vp_in (0 : Int32) 1 := vp_in_iff.mpr (by decide)
theorem p_upd0 {f : Nat → Int64} {x : Int64} {g : Nat → Int64} (h : g = vp_updL f (0 : Int32).toNatClampNeg x) : g (0 : Int32).toNatClampNeg = x := by rw [h]; rfl
theorem p_12 {p0 : Int32} (h : vp_in p0 12) : p0.toNatClampNeg < 12 ∧ p0 = Int32.ofNat p0.toNatClampNeg := by
  have := vp_in_iff.mp h
  have e : p0.toNatClampNeg = p0.toInt.toNat := rfl
  refine ⟨by omega, ?_⟩
  rw [← Int32.toInt_inj, nI_int (by omega)]
  omega
theorem p_ofn {p1 : Int32} {n : Nat} (h : vp_in p1 n) (hn : n ≤ 2000) : p1.toNatClampNeg < n ∧ p1 = Int32.ofNat p1.toNatClampNeg := by
  have := vp_in_iff.mp h
  have e : p1.toNatClampNeg = p1.toInt.toNat := rfl
  refine ⟨by omega, ?_⟩
  rw [← Int32.toInt_inj, nI_int (by omega)]
  omega
theorem p_60 {i k : Nat} (hi : i < 12) (hk : k < 60) : vp_in ((60 : Int32) * Int32.ofNat i + Int32.ofNat k) 720 ∧ ((60 : Int32) * Int32.ofNat i + Int32.ofNat k).toNatClampNeg = 60 * i + k := by
  have e : (60 : Int32) * Int32.ofNat i + Int32.ofNat k = Int32.ofNat (60 * i + k) := by
    rw [show (60 : Int32) = Int32.ofNat 60 from rfl, ← Int32.ofNat_mul, ← Int32.ofNat_add]
  rw [e, w_cl (by omega)]
  exact ⟨w_in (by omega) (by omega), rfl⟩
theorem p_row {s : LSt} (hs : RR s) {i : Nat} {A : Led} (hi : i < 12) (hc : cS s.cs i = some A) : RLd s i A := by
  have h := hs.1 i hi
  rw [hc] at h
  exact h
theorem p_cg {s : LSt} (hs : RR s) {i : Nat} (hi : i < 12) : cG s.cs i = (cS s.cs i).map lU := hs.2.1 i hi
theorem p_cgs {s : LSt} (hs : RR s) {i : Nat} {A : Led} (hi : i < 12) (hc : cS s.cs i = some A) : cG s.cs i = some (lU A) := by rw [p_cg hs hi, hc]; rfl
theorem p_cgn {s : LSt} (hs : RR s) {i : Nat} (hi : i < 12) (hc : cS s.cs i = none) : cG s.cs i = none := by rw [p_cg hs hi, hc]; rfl
/-- what a ledger throws -/
theorem p_faultOf {s : LSt} (hs : RR s) {p0 : Int32} {K : Int32 → Prop} (k0 : ∀ A, cS s.cs p0.toNatClampNeg = some A → vp_in p0 12 → K 0) (k1 : vp_in p0 12 → cS s.cs p0.toNatClampNeg = none → K 1) (k2 : ¬ vp_in p0 12 → K 2) : wX3_faultOf p0 s.many K := by
  unfold wX3_faultOf
  refine p_in3 (fun a b => ⟨fun _ => ?_, fun h => absurd h (by decide)⟩) (fun h => ⟨fun h => absurd rfl h, fun _ => k2 ?_⟩)
  · have a : 0 ≤ p0.toInt := a
    have b : p0.toInt ≤ 11 := b
    have hv : vp_in p0 12 := vp_in_iff.mpr ⟨a, by omega⟩
    have hi := hs.1 p0.toNatClampNeg (p_12 hv).1
    refine ⟨hv, ?_⟩
    cases hc : cS s.cs p0.toNatClampNeg with
    | none =>
      rw [hc] at hi
      have hi : s.many p0.toNatClampNeg = -1 := hi
      rw [hi]
      exact ⟨fun h => absurd h (by decide), fun _ => k1 hv hc⟩
    | some A =>
      rw [hc] at hi
      have hi : RLd s p0.toNatClampNeg A := hi
      obtain ⟨l1, l2, -⟩ := hi
      rw [l2]
      have hp : (0 : Int32) ≤ Int32.ofNat (lLn A) := by rw [Int32.le_iff_toInt_le, il_ofNat (by omega), Int32.toInt_zero]; omega
      exact ⟨fun _ => k0 A hc hv, fun h => absurd hp h⟩
  · intro q
    have := vp_in_iff.mp q
    have h : p0.toInt < 0 ∨ 11 < p0.toInt := h
    omega
theorem z_p1174 : (2 : Nat) ^ 1174 ≤ 2 ^ 1200 ∧ 60 * (2 : Nat) ^ 1174 ≤ 2 ^ 1180 ∧ (2 : Nat) ^ 1180 ≤ 2 ^ 1184 ∧ (2 : Nat) ^ 1184 ≤ 2 ^ 1200 ∧ (2 : Nat) ^ 1200 ≤ 2 ^ 1240 := by
  refine ⟨Nat.pow_le_pow_right (by decide) (by decide), ?_, Nat.pow_le_pow_right (by decide) (by decide), Nat.pow_le_pow_right (by decide) (by decide), Nat.pow_le_pow_right (by decide) (by decide)⟩
  rw [show (2 : Nat) ^ 1180 = 2 ^ 6 * 2 ^ 1174 by rw [← Nat.pow_add]]
  exact Nat.mul_le_mul_right _ (by decide)
/-- an amount -/
theorem p_amt {s : LSt} {i : Nat} {A : Led} (h : RLd s i A) {k : Nat} (hk : k < lLn A) : zk (lK A) (s.amountOf (60 * i + k)) ∧ (zV (s.amountOf (60 * i + k))).natAbs ≤ 2 ^ 1174 := by
  obtain ⟨h1, h2⟩ := h.2.2.2.1 k hk
  rw [← h1]
  cases hK : lK A
  · rw [hK] at h2
    obtain ⟨g1, g2⟩ := f_ok.mp h2
    refine ⟨⟨_, g1, rfl⟩, ?_⟩
    show (zV (FP.f2d _)).natAbs ≤ _
    rw [(z_f2d g1).2.1]
    exact g2
  · rw [hK] at h2
    exact z_ok.mp h2
theorem p_at {s : LSt} {i : Nat} {A : Led} (h : RLd s i A) {k : Nat} (hk : k < lLn A) {K : UInt64 → Prop} (hK : K (s.amountOf (60 * i + k))) : wL_at (lK A) (Int32.ofNat k) (lLn A) (lAm A) K := by
  have hn := h.1
  have h1 := (h.2.2.2.1 k hk).1
  have hz := z_n64 (zk_f (p_amt h hk).1)
  cases hk2 : lK A
  · rw [hk2] at h1
    have h1 : FP.f2d (lAm A k).toUInt32 = s.amountOf (60 * i + k) := h1
    show vp_in (Int32.ofNat k) (lLn A) ∧ vf_n64 (FP.f2d (amN (lAm A) (Int32.ofNat k).toNatClampNeg)) ∧ K (FP.f2d (amN (lAm A) (Int32.ofNat k).toNatClampNeg))
    rw [w_cl (by omega)]
    show vp_in (Int32.ofNat k) (lLn A) ∧ vf_n64 (FP.f2d (lAm A k).toUInt32) ∧ K (FP.f2d (lAm A k).toUInt32)
    rw [h1]
    exact ⟨w_in hk (by omega), hz, hK⟩
  · rw [hk2] at h1
    have h1 : lAm A k = s.amountOf (60 * i + k) := h1
    show vp_in (Int32.ofNat k) (lLn A) ∧ K (lAm A (Int32.ofNat k).toNatClampNeg)
    rw [w_cl (by omega), h1]
    exact ⟨w_in hk (by omega), hK⟩
theorem p_wide {s : LSt} {i : Nat} {A : Led} (h : RLd s i A) : s.isWide i = 0 ↔ lK A = false := by
  rw [h.2.2.1]
  exact z_cnd _
/-- the exact sum of the chosen ones -/
def z_tot (a : Nat → UInt64) (q : Nat → Bool) : Nat → Int
  | 0 => 0
  | k + 1 => z_tot a q k + (if q k then zV (a k) else 0)
theorem z_tot_bd {a : Nat → UInt64} {q : Nat → Bool} {B n : Nat} (h : ∀ k, k < n → (zV (a k)).natAbs ≤ B) : (z_tot a q n).natAbs ≤ n * B := by
  induction n with
  | zero => show (0 : Int).natAbs ≤ 0 * B; omega
  | succ n ih =>
    have i := ih (fun k hk => h k (by omega))
    have hn := h n (by omega)
    show (z_tot a q n + (if q n then zV (a n) else 0)).natAbs ≤ (n + 1) * B
    rw [Nat.add_mul, Nat.one_mul]
    split <;> omega
theorem z_tot_congr {a a' : Nat → UInt64} {q q' : Nat → Bool} {n : Nat} (h : ∀ k, k < n → a k = a' k ∧ q k = q' k) : z_tot a q n = z_tot a' q' n := by
  induction n with
  | zero => rfl
  | succ n ih =>
    show z_tot a q n + (if q n then zV (a n) else 0) = z_tot a' q' n + (if q' n then zV (a' n) else 0)
    rw [ih (fun k hk => h k (by omega)), (h n (by omega)).1, (h n (by omega)).2]
/-- a row's amounts; those chosen by account and day -/
def p_am (s : LSt) (i : Nat) : Nat → UInt64 := fun k => s.amountOf (60 * i + k)
def p_sel (s : LSt) (i : Nat) (p2 p3 : Int32) : Nat → Bool := fun k => decide ((p2 = -1 ∨ s.accountOf (60 * i + k) = p2) ∧ (p3 = -1 ∨ s.dayOf (60 * i + k) = p3))
theorem p_totb {s : LSt} {i : Nat} {A : Led} (h : RLd s i A) (q : Nat → Bool) {n : Nat} (hn : n ≤ lLn A) : (z_tot (p_am s i) q n).natAbs ≤ 2 ^ 1180 := by
  have h1 := z_tot_bd (a := p_am s i) (q := q) (B := 2 ^ 1174) (n := n) (fun k hk => (p_amt h (by omega)).2)
  have h2 : n * 2 ^ 1174 ≤ 60 * 2 ^ 1174 := Nat.mul_le_mul_right _ (by have := h.1; omega)
  have h3 := z_p1174.2.1
  omega
theorem p_sum_L {s : LSt} {i : Nat} {A : Led} (h : RLd s i A) {p2 p3 : Int32} {X : Int32 → (Nat → Int32) → Prop} (hX : ∀ i' w, EX 40 0 w (z_tot (p_am s i) (p_sel s i p2 p3) (lLn A)) → X i' w) : ∀ (m k : Nat), k + m = lLn A → ∀ w, EX 40 0 w (z_tot (p_am s i) (p_sel s i p2 p3) k) → wX1_sum_L7 (lK A) (lLn A) (lAc A) (lDa A) (lAm A) p2 p3 X (m + 1) (Int32.ofNat k) w := by
  have hn := h.1
  intro m
  induction m with
  | zero =>
    intro k hk w hw
    have e : k = lLn A := by omega
    subst e
    exact ⟨fun _ => hX _ _ hw, fun c => absurd (Int32.le_refl _) c⟩
  | succ m ih =>
    intro k hk w hw
    have hk2 : k < lLn A := by omega
    have hcl := w_cl (k := k) (by omega)
    have hv : vp_in (Int32.ofNat k) (lLn A) := w_in hk2 (by omega)
    have eA := (h.2.2.2.2.1 k hk2).1
    have eD := (h.2.2.2.2.2.1 k hk2).1
    have am := p_amt h hk2
    have pw := z_p1174
    have step : ∀ (w' : Nat → Int32) (b : Bool), p_sel s i p2 p3 k = b → EX 40 0 w' (z_tot (p_am s i) (p_sel s i p2 p3) k + (if b then zV (p_am s i k) else 0)) → wX1_sum_L7 (lK A) (lLn A) (lAc A) (lDa A) (lAm A) p2 p3 X (m + 1) (Int32.ofNat k + 1) w' := by
      intro w' b hb hw'
      rw [w_suc]
      refine ih (k + 1) (by omega) w' ?_
      show EX 40 0 w' (z_tot (p_am s i) (p_sel s i p2 p3) k + (if p_sel s i p2 p3 k then zV (p_am s i k) else 0))
      rw [hb]
      exact hw'
    have J : (p2 = -1 ∨ s.accountOf (60 * i + k) = p2) → wX1_sum_J31 (lK A) (lLn A) (lDa A) (lAm A) p3 w (wX1_sum_L7 (lK A) (lLn A) (lAc A) (lDa A) (lAm A) p2 p3 X (m + 1)) (Int32.ofNat k) := by
      intro hp2
      refine ⟨fun c => p_at h hk2 (q2_add hw (zk_f am.1) (by omega) (Or.inl rfl) (fun w' hw' x hx => ?_)), fun c => ⟨hv, fun d x hx => ?_, fun d => p_at h hk2 (q2_add hw (zk_f am.1) (by omega) (Or.inl rfl) (fun w' hw' x hx => ?_))⟩⟩
      · subst hx
        refine step w' true (decide_eq_true ⟨hp2, Or.inl c⟩) ?_
        rw [if_pos rfl]
        exact hw'
      · subst hx
        rw [hcl, eD] at d
        refine step w false (decide_eq_false (fun q => ?_)) ?_
        · rcases q.2 with q | q
          · exact c q
          · exact d q
        · rw [if_neg (by decide), Int.add_zero]
          exact hw
      · subst hx
        rw [hcl, eD] at d
        refine step w' true (decide_eq_true ⟨hp2, Or.inr d⟩) ?_
        rw [if_pos rfl]
        exact hw'
    refine ⟨fun c => absurd ((w_leI (by omega) (by omega)).mp c) (by omega), fun _ => ⟨fun c => J (Or.inl c), fun c => ⟨hv, fun d x hx => ?_, fun d => ?_⟩⟩⟩
    · subst hx
      rw [hcl, eA] at d
      refine step w false (decide_eq_false (fun q => ?_)) ?_
      · rcases q.1 with q | q
        · exact c q
        · exact d q
      · rw [if_neg (by decide), Int.add_zero]
        exact hw
    · rw [hcl, eA] at d
      exact J (Or.inr d)
theorem p_sum {s : LSt} {i : Nat} {A : Led} (h : RLd s i A) {p2 p3 : Int32} {w : Nat → Int32} {K : (Nat → Int32) → Prop} (hK : ∀ w', EX 40 0 w' (z_tot (p_am s i) (p_sel s i p2 p3) (lLn A)) → K w') : wX1_sum p2 p3 w (lK A) (lLn A) (lAc A) (lDa A) (lAm A) K := q2_clear (fun w' hw' => ⟨lLn A + 1, p_sum_L h (fun _ => hK) (lLn A) 0 (by omega) w' hw'⟩)
/-- the whole sum -/
def p_all (s : LSt) (i n : Nat) : Int := z_tot (p_am s i) (fun _ => true) n
theorem p_all_sel {s : LSt} {i n : Nat} : z_tot (p_am s i) (p_sel s i (-1) (-1)) n = p_all s i n := z_tot_congr (fun k _ => ⟨rfl, decide_eq_true ⟨Or.inl rfl, Or.inl rfl⟩⟩)
theorem p_sumL_L {s : LSt} {i : Nat} {A : Led} (hi : i < 12) (h : RLd s i A) {t : Nat} (ht : t < 23) {big : Nat → Int32} {X : Int32 → (Nat → Int32) → Prop} (hX : ∀ i' b, EX 44 (44 * t) b (p_all s i (lLn A)) → (∀ j, j < 1012 → (j < 44 * t ∨ 44 * t + 44 ≤ j) → b j = big j) → X i' b) : ∀ (m k : Nat), k + m = lLn A → ∀ b, EX 44 (44 * t) b (p_all s i k) → (∀ j, j < 1012 → (j < 44 * t ∨ 44 * t + 44 ≤ j) → b j = big j) → wX3_sumLedger_L7 s.many s.amountOf (Int32.ofNat t) (Int32.ofNat i) X (m + 1) (Int32.ofNat k) b := by
  have hn := h.1
  have hm := h.2.1
  intro m
  induction m with
  | zero =>
    intro k hk b hb ho
    have e : k = lLn A := by omega
    subst e
    unfold wX3_sumLedger_L7
    rw [w_cl (by omega), hm]
    exact ⟨w_in hi (by omega), fun _ => hX _ _ hb ho, fun c => absurd (Int32.le_refl _) c⟩
  | succ m ih =>
    intro k hk b hb ho
    have hk2 : k < lLn A := by omega
    have am := p_amt h hk2
    have pw := z_p1174
    obtain ⟨i1, i2⟩ := p_60 hi (show k < 60 by omega)
    unfold wX3_sumLedger_L7
    rw [w_cl (by omega), hm, i2]
    refine ⟨w_in hi (by omega), fun c => absurd ((w_leI (by omega) (by omega)).mp c) (by omega), fun _ => ⟨i1, q3_addNumber ht hb (zk_f am.1) (by omega) (fun b' hb' ho' x hx => ?_)⟩⟩
    rw [hx, w_suc]
    exact ih (k + 1) (by omega) b' hb' (fun j h1 h2 => (ho' j h1 h2).trans (ho j h1 h2))
theorem p_sumLedger {s : LSt} {i : Nat} {A : Led} (hi : i < 12) (h : RLd s i A) {t : Nat} (ht : t < 23) {big : Nat → Int32} {K : (Nat → Int32) → Prop} (hK : ∀ b, EX 44 (44 * t) b (p_all s i (lLn A)) → (∀ j, j < 1012 → (j < 44 * t ∨ 44 * t + 44 ≤ j) → b j = big j) → K b) : wX3_sumLedger (Int32.ofNat t) (Int32.ofNat i) s.many s.amountOf big K := q3_clear (by omega) (fun b' hb' ho' => ⟨lLn A + 1, p_sumL_L hi h ht (big := big) (fun _ => hK) (lLn A) 0 (by omega) b' hb' (fun j _ h2 => ho' j h2)⟩)
