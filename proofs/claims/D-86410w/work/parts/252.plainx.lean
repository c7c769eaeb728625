/-! the plain law: about. By hand (gen/252.plainx.src.txt) -/
/-- the least number of a ledger's kind that has its whole precision -/
def p_lst (k : Bool) : UInt64 := if k then 4503599627370496 else 4039728865751334912
theorem p_lstf (k : Bool) : zf (p_lst k) := by
  cases k
  · unfold zf p_lst; decide +kernel
  · unfold zf p_lst; decide +kernel
/-- about: is a number such? -/
def p_such (k : Bool) (v : UInt64) (w : Int32) : Prop := if w = 2 then zV v = 0 ∧ zS v = false else if w = 3 then zV v = 0 ∧ zS v = true else if w = 4 then zV v < 0 else if w = 5 then (zV v).natAbs % z_one = 0 else zV v ≠ 0 ∧ ((zV v).natAbs : Int) < zV (p_lst k)
theorem p_ri {v r : UInt64} (hv : zf v) (hr : zf r) (hs : zS r = zS v) (ha : (zV r).natAbs = z_ri (zV v).natAbs * z_one) : zV r = zV v ↔ (zV v).natAbs % z_one = 0 := by
  refine ⟨fun h => ?_, fun h => ?_⟩
  · refine Classical.byContradiction fun c => z_ri_not c ?_
    rw [← ha, h]
  · rw [z_ri_whole h] at ha
    rw [z_abs_eq hr, z_abs_eq hv, hs, ha]
theorem q_is {k : Bool} {v : UInt64} {w : Int32} {K : Int32 → Prop} (hv : zf v) (hb : (zV v).natAbs ≤ 2 ^ 2097) (k1 : p_such k v w → K 1) (k0 : ¬ p_such k v w → K 0) : wX1_is v w k K := by
  unfold p_such at k1 k0
  obtain ⟨z1, z2, z3⟩ := z_0
  obtain ⟨c1, c2⟩ := z_cpsv v
  obtain ⟨a1, a2, a3⟩ := z_mAbs hv
  have J : ∀ t : Int32, (t = 0 ↔ zV v ≠ 0) → wX1_is_J11 k v w K t := by
    intro t ht
    unfold wX1_is_J11
    refine ⟨fun e => ?_, fun e => ⟨fun e2 => ?_, fun e2 => ⟨fun e3 => ?_, fun e3 => ⟨fun e4 => ?_, fun e4 => ?_⟩⟩⟩⟩
    · rw [if_pos e] at k1 k0
      refine ⟨fun q => k0 (fun m => ht.mp q m.1), fun q => ⟨z_nan hv, ?_⟩⟩
      have hz : zV v = 0 := Classical.byContradiction fun m => q (ht.mpr m)
      rw [c1]
      exact ⟨fun m => k0 (fun n => m n.2), fun m => k1 ⟨hz, m⟩⟩
    · rw [if_neg e, if_pos e2] at k1 k0
      refine ⟨fun q => k0 (fun m => ht.mp q m.1), fun q => ⟨z_nan hv, ?_⟩⟩
      have hz : zV v = 0 := Classical.byContradiction fun m => q (ht.mpr m)
      rw [c2]
      exact ⟨fun m => k0 (fun n => m n.2), fun m => k1 ⟨hz, m⟩⟩
    · rw [if_neg e, if_neg e2, if_pos e3] at k1 k0
      rw [z_dlt hv z1, z2]
      exact ⟨k0, k1⟩
    · rw [if_neg e, if_neg e2, if_neg e3, if_pos e4] at k1 k0
      refine q_rint hv hb (fun r r1 r2 r3 => ⟨z_n64 r1, ?_⟩)
      rw [z_deq r1 hv, p_ri hv r1 r2 r3]
      exact ⟨k0, k1⟩
    · rw [if_neg e, if_neg e2, if_neg e3, if_neg e4] at k1 k0
      refine ⟨fun q => k0 (fun m => q (ht.mpr m.1)), fun q => ⟨z_n64 hv, ?_⟩⟩
      have key : (¬ dlt (mAbs v) (p_lst k) → K 0) ∧ (dlt (mAbs v) (p_lst k) → K 1) := by
        rw [z_dlt a1 (p_lstf k), a2]
        exact ⟨fun m => k0 (fun n => m n.2), fun m => k1 ⟨ht.mp q, m⟩⟩
      cases k
      · exact key
      · exact key
  unfold wX1_is
  rw [z_deq hv z1, z2]
  exact ⟨fun h => J 0 ⟨fun _ => h, fun _ => rfl⟩, fun h => J 1 ⟨fun q => absurd q (by decide), fun q => absurd h q⟩⟩
theorem z_dge {a b : UInt64} (ha : zf a) (hb : zf b) : dge a b ↔ zV b ≤ zV a := by
  have h1 : dge a b ↔ dgt a b ∨ deq a b := Iff.rfl
  rw [h1, z_dgt ha hb, z_deq ha hb]
  omega
/-- below 2^53 the cast to long and back is the whole part -/
theorem z_tr_of {v : UInt64} (hM : (zV v).natAbs < 2 ^ 53 * z_one) : (zV v).natAbs / z_one < 2 ^ 53 := (Nat.div_lt_iff_lt_mul z_one_pos).mpr hM
theorem z_d2l_toInt {v : UInt64} (hv : zf v) (hM : (zV v).natAbs < 2 ^ 53 * z_one) : (FP.d2l v).toInt = FP.Core.signed (zS v) ((zV v).natAbs / z_one) := by
  rw [z_d2l hv]
  have h := z_tr_of hM
  have e : z_tr v = FP.Core.signed (zS v) ((zV v).natAbs / z_one) := rfl
  rw [e]
  generalize (zV v).natAbs / z_one = F at h
  have hb : -(2 ^ 53 : Int) ≤ FP.Core.signed (zS v) F ∧ FP.Core.signed (zS v) F ≤ 2 ^ 53 := by
    cases zS v
    · show -(2 ^ 53 : Int) ≤ (F : Int) ∧ (F : Int) ≤ 2 ^ 53
      omega
    · show -(2 ^ 53 : Int) ≤ -(F : Int) ∧ -(F : Int) ≤ 2 ^ 53
      omega
  generalize FP.Core.signed (zS v) F = z at hb
  rw [show max (-2 ^ 63) (min (2 ^ 63 - 1) z) = z by omega]
  exact Int64.toInt_ofInt_of_le (by omega) (by omega)
theorem z_back {v : UInt64} (hv : zf v) (hM : (zV v).natAbs < 2 ^ 53 * z_one) : zf (FP.l2d (FP.d2l v)) ∧ zV (FP.l2d (FP.d2l v)) = FP.Core.signed (zS v) ((zV v).natAbs / z_one * z_one) ∧ (zS v = false → zS (FP.l2d (FP.d2l v)) = false) := by
  have e := z_d2l_toInt hv hM
  have h := z_tr_of hM
  obtain ⟨b1, b2, b3⟩ := z_l2d (y := FP.d2l v) (by rw [e, z_sg_nat]; exact h)
  refine ⟨b1, ?_, fun hs => ?_⟩
  · rw [b2, e, z_sg_nat]
    generalize (zV v).natAbs / z_one = F at h
    cases zS v
    · rw [show FP.Core.signed false F = (F : Int) from rfl, decide_eq_false (by omega)]
    · rw [show FP.Core.signed true F = -(F : Int) from rfl]
      by_cases c : F = 0
      · subst c
        rw [Nat.zero_mul]
        rfl
      · rw [decide_eq_true (by omega)]
  · rw [b3, e, hs]
    exact decide_eq_false (fun q => absurd q (Int.not_lt.mpr (Int.natCast_nonneg _)))
theorem q3_isWhole {v : UInt64} (hv : zf v) {K : Int32 → Prop} (k1 : (zV v).natAbs % z_one = 0 → K 1) (k0 : ¬ (zV v).natAbs % z_one = 0 → K 0) : wX3_isWhole v K := by
  obtain ⟨c1, c2, -⟩ := z_c53
  obtain ⟨d1, d2⟩ := z_c53n
  unfold wX3_isWhole
  rw [z_dge hv c1, z_dle hv d1, c2, d2]
  refine ⟨fun c => k1 (z_bigw hv (by omega)), fun c => ⟨fun d => k1 (z_bigw hv (by omega)), fun d => ?_⟩⟩
  have hM : (zV v).natAbs < 2 ^ 53 * z_one := by omega
  obtain ⟨b1, b2, -⟩ := z_back hv hM
  have e : deq (FP.l2d (FP.d2l v)) v ↔ (zV v).natAbs % z_one = 0 := by
    rw [z_deq b1 hv, b2]
    have hd := Nat.div_add_mod' (zV v).natAbs z_one
    refine ⟨fun q => ?_, fun q => ?_⟩
    · have := congrArg Int.natAbs q
      rw [z_sg_nat] at this
      omega
    · rw [show (zV v).natAbs / z_one * z_one = (zV v).natAbs by omega]
      exact (z_abs_eq hv).symm
  rw [e]
  exact ⟨k0, k1⟩
theorem q3_isSuch {k : Bool} {v : UInt64} {w p0 : Int32} {iw : Nat → Int32} {K : Int32 → Prop} (hv : zf v) (h0 : vp_in p0 12) (hk : iw p0.toNatClampNeg = 0 ↔ k = false) (k1 : p_such k v w → K 1) (k0 : ¬ p_such k v w → K 0) : wX3_isSuch p0 v w iw K := by
  unfold p_such at k1 k0
  obtain ⟨z1, z2, z3⟩ := z_0
  obtain ⟨a1, a2, a3⟩ := z_mAbs hv
  unfold wX3_isSuch
  rw [z_deq hv z1, z_dlt hv z1, z2]
  refine ⟨fun e => ?_, fun e => ⟨fun e2 => ?_, fun e2 => ⟨fun e3 => ?_, fun e3 => ⟨fun e4 => ?_, fun e4 => ?_⟩⟩⟩⟩
  · rw [if_pos e] at k1 k0
    refine ⟨fun q => k0 (fun m => q m.1), fun q => q3_isMinus hv (fun m => ⟨fun n => absurd rfl n, fun _ => k1 ⟨q, m⟩⟩) (fun m => ⟨fun _ => k0 (fun n => ?_), fun n => absurd n (by decide)⟩)⟩
    rw [m] at n
    cases n.2
  · rw [if_neg e, if_pos e2] at k1 k0
    refine ⟨fun q => k0 (fun m => q m.1), fun q => q3_isMinus hv (fun m => ⟨fun _ => k0 (fun n => ?_), fun n => absurd rfl n⟩) (fun m => ⟨fun n => absurd n (by decide), fun _ => k1 ⟨q, m⟩⟩)⟩
    rw [m] at n
    cases n.2
  · rw [if_neg e, if_neg e2, if_pos e3] at k1 k0
    exact ⟨k0, k1⟩
  · rw [if_neg e, if_neg e2, if_neg e3, if_pos e4] at k1 k0
    exact q3_isWhole hv (fun q => ⟨Or.inr rfl, k1 q⟩) (fun q => ⟨Or.inl rfl, k0 q⟩)
  · rw [if_neg e, if_neg e2, if_neg e3, if_neg e4] at k1 k0
    refine ⟨fun q => k0 (fun m => m.1 q), fun q => q3_sizeOf hv ⟨h0, fun m => ?_, fun m => ?_⟩⟩
    · have e6 : k = false := hk.mp m
      subst e6
      rw [show (4039728865751334912 : UInt64) = p_lst false from rfl, z_dlt a1 (p_lstf false), a2]
      exact ⟨fun m => k0 (fun n => m n.2), fun m => k1 ⟨q, m⟩⟩
    · have e6 : k = true := by
        cases k
        · exact absurd (hk.mpr rfl) m
        · rfl
      subst e6
      rw [show (4503599627370496 : UInt64) = p_lst true from rfl, z_dlt a1 (p_lstf true), a2]
      exact ⟨fun m => k0 (fun n => m n.2), fun m => k1 ⟨q, m⟩⟩
def p_suchD (k : Bool) (v : UInt64) (w : Int32) : Decidable (p_such k v w) := by unfold p_such; infer_instance
/-- about: how many -/
def p_ab (s : LSt) (i : Nat) (k : Bool) (w : Int32) : Nat → Nat
  | 0 => 0
  | n + 1 => p_ab s i k w n + @ite Nat (p_such k (s.amountOf (60 * i + n)) w) (p_suchD _ _ _) 1 0
theorem q_ab_L {s : LSt} {i : Nat} {A : Led} (h : RLd s i A) {w : Int32} {X : Int32 → Int32 → Prop} (hX : ∀ v, X (Int32.ofNat (p_ab s i (lK A) w (lLn A))) v) : ∀ (m k : Nat), k + m = lLn A → wX1_about_L61 (lK A) (lLn A) (lAm A) w (Int32.ofNat (lLn A)) X (m + 1) (Int32.ofNat (p_ab s i (lK A) w k)) (Int32.ofNat k) := by
  have hn := h.1
  intro m
  induction m with
  | zero =>
    intro k hk
    have e : k = lLn A := by omega
    subst e
    exact ⟨fun _ => hX _, fun c => absurd (Int32.le_refl _) c⟩
  | succ m ih =>
    intro k hk
    have hk2 : k < lLn A := by omega
    have am := p_amt h hk2
    have ab : (zV (s.amountOf (60 * i + k))).natAbs ≤ 2 ^ 2097 := Nat.le_trans am.2 (Nat.pow_le_pow_right (by decide) (by decide))
    have ihk := ih (k + 1) (by omega)
    unfold wX1_about_L61
    refine ⟨fun c => absurd c (w_nleO (by omega) (by omega) hk2), fun _ => p_at h hk2 (q_is (zk_f am.1) ab (fun q => ⟨fun c => absurd c (by decide), fun _ x hx y hy => ?_⟩) (fun q => ⟨fun _ x hx y hy => ?_, fun c => absurd rfl c⟩))⟩
    · rw [hx, hy, w_suc, w_suc]
      rw [p_ab, if_pos q] at ihk
      exact ihk
    · rw [hx, hy, w_suc, Int32.add_zero]
      rw [p_ab, if_neg q] at ihk
      exact ihk
theorem q3_ab_L {s : LSt} {i : Nat} {A : Led} (hi : i < 12) (h : RLd s i A) {w : Int32} {X : Int32 → Int32 → Prop} (hX : ∀ v, X (Int32.ofNat (p_ab s i (lK A) w (lLn A))) v) : ∀ (m k : Nat), k + m = lLn A → wX3_about_L76 s.many s.isWide s.amountOf (Int32.ofNat i) w X (m + 1) (Int32.ofNat (p_ab s i (lK A) w k)) (Int32.ofNat k) := by
  have hn := h.1
  have hm := h.2.1
  intro m
  induction m with
  | zero =>
    intro k hk
    have e : k = lLn A := by omega
    subst e
    unfold wX3_about_L76
    rw [w_cl (by omega), hm]
    exact ⟨w_in hi (by omega), fun _ => hX _, fun c => absurd (Int32.le_refl _) c⟩
  | succ m ih =>
    intro k hk
    have hk2 : k < lLn A := by omega
    have am := p_amt h hk2
    have ihk := ih (k + 1) (by omega)
    obtain ⟨i1, i2⟩ := p_60 hi (show k < 60 by omega)
    unfold wX3_about_L76
    rw [i2, w_cl (by omega), hm]
    refine ⟨w_in hi (by omega), fun c => absurd c (w_nleO (by omega) (by omega) hk2), fun _ => ⟨i1, q3_isSuch (k := lK A) (zk_f am.1) (w_in hi (by omega)) (by rw [w_cl (by omega)]; exact p_wide h) (fun q => ⟨fun c => absurd c (by decide), fun _ x hx y hy => ?_⟩) (fun q => ⟨fun _ x hx y hy => ?_, fun c => absurd rfl c⟩)⟩⟩
    · rw [hx, hy, w_suc, w_suc]
      rw [p_ab, if_pos q] at ihk
      exact ihk
    · rw [hx, hy, w_suc, Int32.add_zero]
      rw [p_ab, if_neg q] at ihk
      exact ihk
theorem q3_ab {s : LSt} {p0 : Int32} {A : Led} (hin : vp_in p0 12) (h : RLd s p0.toNatClampNeg A) {w : Int32} {X : Int32 → Int32 → Prop} (hX : ∀ v, X (Int32.ofNat (p_ab s p0.toNatClampNeg (lK A) w (lLn A))) v) : wX3_about_L76 s.many s.isWide s.amountOf p0 w X (lLn A + 1) 0 0 := by
  obtain ⟨h12, e0⟩ := p_12 hin
  have key := q3_ab_L h12 h hX (lLn A) 0 (by omega)
  rw [← e0] at key
  exact key
theorem p_c5 {ta : Nat → ClassId} {L : Nat} {xf : Nat → Int32} (hL : L ≤ 320) (v4 : Int32) (s : LSt) (hs : RR s) (h1 : 0 ≤ v4.toInt) (h2 : v4.toInt + 5 ≤ (L : Int)) : wL_5 (LSt.thrown s) (LSt.many s) (LSt.isWide s) (LSt.amountOf s) (LSt.accountOf s) (LSt.dayOf s) (LSt.given s) (LSt.givenOf s) (LSt.runs s) (LSt.runWide s) (LSt.runWay s) (LSt.runTotal s) (LSt.runSteps s) (LSt.lefts s) (LSt.rights s) (LSt.results s) (LSt.wide s) (LSt.dn s) (LSt.stepsAt s) (LSt.keeps s) (LSt.order s) (LSt.att s) (LSt.spareAmount s) (LSt.spareAccount s) (LSt.spareDay s) (LSt.cured s) (LSt.cureOf s) (LSt.shareOf s) (LSt.big s) (LSt.unitsOf s) (LSt.spare s) (LSt.halfFrom s) (LSt.halfMany s) (LSt.halfDone s) (LSt.halfTotal s) (LSt.isFar s) (LSt.of s) (LSt.cur s) (LSt.cs s) ta v4 xf L (LSt.cs s) (lst RR) := by
  have v1 := p_v (j := 1) hL h1 h2 (by decide)
  have v2 := p_v (j := 2) hL h1 h2 (by decide)
  unfold wL_5
  refine ⟨v1, v2, ?_⟩
  generalize xf (v4 + 1).toNatClampNeg = p0
  generalize xf (v4 + 2).toNatClampNeg = p1
  have bad : ∀ (K : Int32 → Int32 → Prop), (p1.toInt < 0 ∨ 6 < p1.toInt) → K (-102) 0 → wX3_about p0 p1 s.thrown s.many s.isWide s.amountOf K := by
    intro K hb hK
    refine p_in3 (fun a b => ?_) (fun _ => ⟨fun q => absurd rfl q, fun _ => hK⟩)
    have a : 0 ≤ p1.toInt := a
    have b : p1.toInt ≤ 6 := b
    omega
  have z2 : (2 : Int32).toInt = 2 := rfl
  have good : ∀ (K : Int32 → Int32 → Prop), (0 ≤ p1.toInt ∧ p1.toInt ≤ 6) → wX3_faultOf p0 s.many (fun r_2 => (((r_2 = (0 : Int32) → (((2 : Int32) ≤ p1 → (∃ m76 : Nat, wX3_about_L76 s.many s.isWide s.amountOf p0 p1 (fun v3_12 v4_13 => K v3_12 r_2) m76 0 0)) ∧ (¬ (2 : Int32) ≤ p1 → ((¬ p1 = (0 : Int32) → (vp_in p0 12 ∧ (((s.isWide p0.toNatClampNeg) = (0 : Int32) → K 0 r_2) ∧ (¬ (s.isWide p0.toNatClampNeg) = (0 : Int32) → K 1 r_2)))) ∧ (p1 = (0 : Int32) → (vp_in p0 12 ∧ K (s.many p0.toNatClampNeg) r_2)))))) ∧ (¬ r_2 = (0 : Int32) → K 0 r_2)))) → wX3_about p0 p1 s.thrown s.many s.isWide s.amountOf K := by
    intro K hb hK
    refine p_in3 (fun a b => ⟨fun _ => hK, fun q => absurd q (by decide)⟩) (fun q => ?_)
    have q : p1.toInt < 0 ∨ 6 < p1.toInt := q
    omega
  unfold wX0_about bX1_about
  refine ⟨fun hin => ⟨fun A hc => ?_, fun hn => ?_⟩, fun hin => ?_⟩
  · obtain ⟨h12, e0⟩ := p_12 hin
    have hA := p_row hs h12 hc
    have hn := hA.1
    refine p_isIn (fun a b => ⟨fun _ => ⟨hin, p_cgs hs h12 hc, ?_⟩, fun q => absurd q (by decide)⟩) (fun a => ⟨fun q => absurd rfl q, fun _ f hf => ⟨p_z1, fun f' hf' => ⟨v1, v2, bad _ a (p_okk rfl rfl p_z1 ((p_upd0 hf').trans hf) (Or.inl hs))⟩⟩⟩)
    have gd : ∀ (K : Int32 → Int32 → Prop), (((2 : Int32) ≤ p1 → (∃ m76 : Nat, wX3_about_L76 s.many s.isWide s.amountOf p0 p1 (fun v3_12 v4_13 => K v3_12 0) m76 0 0)) ∧ (¬ (2 : Int32) ≤ p1 → ((¬ p1 = (0 : Int32) → (vp_in p0 12 ∧ (((s.isWide p0.toNatClampNeg) = (0 : Int32) → K 0 0) ∧ (¬ (s.isWide p0.toNatClampNeg) = (0 : Int32) → K 1 0)))) ∧ (p1 = (0 : Int32) → (vp_in p0 12 ∧ K (s.many p0.toNatClampNeg) 0))))) → wX3_about p0 p1 s.thrown s.many s.isWide s.amountOf K := fun K hK => good K ⟨a, b⟩ (p_faultOf hs (fun _ _ _ => ⟨fun _ => hK, fun h => absurd rfl h⟩) (fun _ q => by rw [hc] at q; cases q) (fun q => absurd hin q))
    refine ⟨fun c => ⟨lLn A + 1, ?_⟩, fun c => ⟨fun d => p_wide1 ⟨fun w f hf => ⟨p_z1, fun f' hf' => ⟨v1, v2, ?_⟩⟩, fun w f hf => ⟨p_z1, fun f' hf' => ⟨v1, v2, ?_⟩⟩⟩, fun d f hf => ⟨p_z1, fun f' hf' => ⟨v1, v2, ?_⟩⟩⟩⟩
    · refine q_ab_L hA (fun v f hf => ⟨p_z1, fun f' hf' => ⟨v1, v2, ?_⟩⟩) (lLn A) 0 (by omega)
      refine gd _ ⟨fun _ => ⟨lLn A + 1, ?_⟩, fun q => absurd c q⟩
      exact q3_ab hin hA (fun v => p_okk rfl rfl p_z1 ((p_upd0 hf').trans hf) (Or.inl hs))
    · refine gd _ ⟨fun q => absurd q c, fun _ => ⟨fun _ => ⟨hin, fun _ => p_okk rfl rfl p_z1 ((p_upd0 hf').trans hf) (Or.inl hs), fun q => ?_⟩, fun q => absurd q d⟩⟩
      refine absurd ((p_wide hA).mpr ?_) q
      cases hk : lK A
      · rfl
      · rw [hk] at w; cases w
    · refine gd _ ⟨fun q => absurd q c, fun _ => ⟨fun _ => ⟨hin, fun q => ?_, fun _ => p_okk rfl rfl p_z1 ((p_upd0 hf').trans hf) (Or.inl hs)⟩, fun q => absurd q d⟩⟩
      rw [(p_wide hA).mp q] at w
      exact absurd rfl w
    · refine gd _ ⟨fun q => absurd q c, fun _ => ⟨fun q => absurd d q, fun _ => ⟨hin, p_okk rfl rfl p_z1 ((p_upd0 hf').trans ?_) (Or.inl hs)⟩⟩⟩
      rw [hf, hA.2.1]
  · obtain ⟨h12, e0⟩ := p_12 hin
    refine p_isIn (fun a b => ⟨fun _ => ⟨fun q => absurd hin q, fun _ => ⟨p_cgn hs h12 hn, ?_⟩⟩, fun q => absurd q (by decide)⟩) (fun a => ⟨fun q => absurd rfl q, fun _ f hf => ⟨p_z1, fun f' hf' => ⟨v1, v2, bad _ a (p_okk rfl rfl p_z1 ((p_upd0 hf').trans hf) (Or.inl hs))⟩⟩⟩)
    refine Or.inl ⟨rfl, v1, v2, good _ ⟨a, b⟩ (p_faultOf hs (fun _ q _ => by rw [hn] at q; cases q) (fun _ _ => ⟨fun h => absurd h (by decide), fun _ => p_ern rfl (by decide) (Or.inl hs)⟩) (fun q => absurd hin q))⟩
  · refine p_isIn (fun a b => ⟨fun _ => ⟨fun _ => ?_, fun q => absurd q hin⟩, fun q => absurd q (by decide)⟩) (fun a => ⟨fun q => absurd rfl q, fun _ f hf => ⟨p_z1, fun f' hf' => ⟨v1, v2, bad _ a (p_okk rfl rfl p_z1 ((p_upd0 hf').trans hf) (Or.inl hs))⟩⟩⟩)
    exact Or.inr ⟨rfl, v1, v2, good _ ⟨a, b⟩ (p_faultOf hs (fun _ _ q => absurd q hin) (fun q _ => absurd q hin) (fun _ => ⟨fun h => absurd h (by decide), fun _ => p_ern rfl (by decide) (Or.inl hs)⟩))⟩
