/-! the plain law: whole numbers of amounts; whole. By hand (gen/236.plainr.src.txt) -/
theorem z_trunc {s : Bool} {c : Nat} {q : Int} (hq : -1074 ≤ q) : FP.Core.truncate s c q = FP.Core.signed s (c * 2 ^ (q + 1074).toNat / 2 ^ 1074) := by
  unfold FP.Core.truncate
  refine congrArg (FP.Core.signed s) ?_
  by_cases h : 0 ≤ q
  · rw [show (-q).toNat = 0 by omega, Nat.pow_zero, Nat.div_one, show (q + 1074).toNat = q.toNat + 1074 by omega, Nat.pow_add, ← Nat.mul_assoc, Nat.mul_div_cancel _ (Nat.two_pow_pos 1074)]
  · rw [show q.toNat = 0 by omega, Nat.pow_zero, Nat.mul_one]
    have e : (2 : Nat) ^ 1074 = 2 ^ (-q).toNat * 2 ^ (q + 1074).toNat := by
      rw [← Nat.pow_add, show (-q).toNat + (q + 1074).toNat = 1074 by omega]
    rw [e, Nat.mul_div_mul_right _ _ (Nat.two_pow_pos _)]
/-- a number's whole part -/
def z_tr (v : UInt64) : Int := FP.Core.signed (zS v) ((zV v).natAbs / 2 ^ 1074)
theorem z_toI {v : UInt64} (h : zf v) (lo hi : Int) : FP.Core.toInt lo hi (FP.Core.decode FP.Core.b64 v.toNat) = max lo (min hi (z_tr v)) := by
  obtain ⟨c, q, a1, a2, a3, a4, -⟩ := z_get h
  rw [a1]
  show max lo (min hi (FP.Core.truncate (zS v) c q)) = _
  unfold z_tr
  rw [z_trunc a4, a3, z_sg_nat]
theorem f_toI {u : UInt32} {v : UInt64} (h : ff u) (hv : fV u = zV v) (hs : fS u = zS v) (lo hi : Int) : FP.Core.toInt lo hi (FP.Core.decode FP.Core.b32 u.toNat) = max lo (min hi (z_tr v)) := by
  obtain ⟨c, q, a1, a2, a3, a4, -⟩ := f_get h
  rw [a1]
  show max lo (min hi (FP.Core.truncate (fS u) c q)) = _
  unfold z_tr
  rw [z_trunc (by omega), ← hv, ← hs, a3, z_sg_nat]
theorem z_d2l {v : UInt64} (h : zf v) : FP.d2l v = Int64.ofInt (max (-2 ^ 63) (min (2 ^ 63 - 1) (z_tr v))) := congrArg Int64.ofInt (z_toI h _ _)
theorem z_d2i {v : UInt64} (h : zf v) : FP.d2i v = Int32.ofInt (max (-2 ^ 31) (min (2 ^ 31 - 1) (z_tr v))) := congrArg Int32.ofInt (z_toI h _ _)
theorem f_l {v : UInt64} (h : zk false v) (hb : (zV v).natAbs ≤ 2 ^ 1201) : FP.f2l (FP.d2f v) = FP.d2l v := by
  obtain ⟨a1, a2, a3, a4⟩ := zk_n h hb
  rw [z_d2l (zk_f h)]
  exact congrArg Int64.ofInt (f_toI a2 a3 a4 _ _)
theorem f_i {v : UInt64} (h : zk false v) (hb : (zV v).natAbs ≤ 2 ^ 1201) : FP.f2i (FP.d2f v) = FP.d2i v := by
  obtain ⟨a1, a2, a3, a4⟩ := zk_n h hb
  rw [z_d2i (zk_f h)]
  exact congrArg Int32.ofInt (f_toI a2 a3 a4 _ _)
/-- whole: what both answer -/
def p_wh (v : UInt64) (p2 : Int32) : Int64 := if p2 = 0 then FP.d2l v else if p2 = 1 then (FP.d2i v).toInt64 else if p2 = 2 then (FP.d2i v).toInt16.toInt32.toInt64 else FP.f2l (FP.d2f v)
theorem q_whole {k : Bool} {v : UInt64} {p2 : Int32} {K : Int64 → Prop} (h : zk k v) (hb : (zV v).natAbs ≤ 2 ^ 1201) (hK : K (p_wh v p2)) : wL_whole k v p2 K := by
  unfold p_wh at hK
  obtain ⟨a1, a2⟩ := zk_32 (zk_f h) hb
  cases k
  · refine ⟨a2, fun u hu => ?_⟩
    subst hu
    rw [f_l h hb, f_i h hb]
    rw [f_l h hb] at hK
    refine ⟨fun c => ⟨fun d => ?_, fun d => ?_⟩, fun c => ?_⟩
    · by_cases e : p2 = 0
      · rw [if_pos e] at hK; exact hK
      · rw [if_neg e, if_neg c, if_neg d] at hK; exact hK
    · rw [if_neg (by rw [d]; decide), if_neg c, if_pos d] at hK; exact hK
    · rw [if_neg (by rw [c]; decide), if_pos c] at hK; exact hK
  · refine ⟨fun c => ⟨fun d => ⟨fun e => ⟨a2, ?_⟩, fun e => ?_⟩, fun d => ?_⟩, fun c => ?_⟩
    · rw [if_neg c, if_neg d, if_neg e] at hK; exact hK
    · rw [if_neg c, if_neg d, if_pos e] at hK; exact hK
    · rw [if_neg c, if_pos d] at hK; exact hK
    · rw [if_pos c] at hK; exact hK
theorem q3_whole {v : UInt64} {p2 : Int32} {t : Int32} {K : Int64 → Int32 → Prop} (h : zf v) (hb : (zV v).natAbs ≤ 2 ^ 1201) (hK : K (p_wh v p2) t) : (¬ p2 = (0 : Int32) → ((¬ p2 = (1 : Int32) → ((¬ p2 = (2 : Int32) → (vf_n32 (FP.d2f v) ∧ K (FP.f2l (FP.d2f v)) t)) ∧ (p2 = (2 : Int32) → K ((FP.d2i v).toInt16.toInt32.toInt64) t))) ∧ (p2 = (1 : Int32) → K ((FP.d2i v).toInt64) t))) ∧ (p2 = (0 : Int32) → K (FP.d2l v) t) := by
  unfold p_wh at hK
  obtain ⟨a1, a2⟩ := zk_32 h hb
  refine ⟨fun c => ⟨fun d => ⟨fun e => ⟨a2, ?_⟩, fun e => ?_⟩, fun d => ?_⟩, fun c => ?_⟩
  · rw [if_neg c, if_neg d, if_neg e] at hK; exact hK
  · rw [if_neg c, if_neg d, if_pos e] at hK; exact hK
  · rw [if_neg c, if_pos d] at hK; exact hK
  · rw [if_pos c] at hK; exact hK
theorem p_c10 {ta : Nat → ClassId} {L : Nat} {xf : Nat → Int32} (hL : L ≤ 320) (v4 : Int32) (s : LSt) (hs : RR s) (h1 : 0 ≤ v4.toInt) (h2 : v4.toInt + 5 ≤ (L : Int)) : wL_10 (LSt.thrown s) (LSt.many s) (LSt.isWide s) (LSt.amountOf s) (LSt.accountOf s) (LSt.dayOf s) (LSt.given s) (LSt.givenOf s) (LSt.runs s) (LSt.runWide s) (LSt.runWay s) (LSt.runTotal s) (LSt.runSteps s) (LSt.lefts s) (LSt.rights s) (LSt.results s) (LSt.wide s) (LSt.dn s) (LSt.stepsAt s) (LSt.keeps s) (LSt.order s) (LSt.att s) (LSt.spareAmount s) (LSt.spareAccount s) (LSt.spareDay s) (LSt.cured s) (LSt.cureOf s) (LSt.shareOf s) (LSt.big s) (LSt.unitsOf s) (LSt.spare s) (LSt.halfFrom s) (LSt.halfMany s) (LSt.halfDone s) (LSt.halfTotal s) (LSt.isFar s) (LSt.of s) (LSt.cur s) (LSt.cs s) ta v4 xf L (LSt.cs s) (lst RR) := by
  have v1 := p_v (j := 1) hL h1 h2 (by decide)
  have v2 := p_v (j := 2) hL h1 h2 (by decide)
  have v3 := p_v (j := 3) hL h1 h2 (by decide)
  unfold wL_10
  refine ⟨v1, v2, v3, ?_⟩
  generalize xf (v4 + 1).toNatClampNeg = p0
  generalize xf (v4 + 2).toNatClampNeg = p1
  generalize xf (v4 + 3).toNatClampNeg = p2
  unfold wX0_whole bX1_whole
  have bad : ∀ (f : Nat → Int64) (y : Int64), (p2.toInt < (0 : Int64).toInt ∨ (3 : Int64).toInt < p2.toInt) → ∀ K : Int64 → Int32 → Prop, K (-102) 0 → wX3_whole p0 p1 p2 s.thrown s.many s.amountOf K := by
    intro f y hp K hK
    exact p_in3 (fun _ _ => by omega) (fun _ => ⟨fun h => absurd rfl h, fun _ => hK⟩)
  refine ⟨fun hin => ⟨fun A hc => ?_, fun hn => ?_⟩, fun hin => ?_⟩
  · obtain ⟨h12, e0⟩ := p_12 hin
    have hA := p_row hs h12 hc
    have hn := hA.1
    refine p_isIn (fun a b => ⟨fun _ => ⟨hin, p_cgs hs h12 hc, p_atX hA (fun hv => ?_) (fun hv => Or.inr ⟨rfl, v1, v2, v3, ?_⟩)⟩, fun h => absurd h (by decide)⟩) (fun a => ⟨fun h => absurd rfl h, fun _ => ⟨p_z1, fun f hf => ⟨v1, v2, v3, bad f 0 a _ (p_okk rfl rfl p_z1 (p_upd0 hf) (Or.inl hs))⟩⟩⟩)
    · obtain ⟨c1, c2⟩ := p_ofn hv (by omega)
      have am := p_amt hA c1
      have ab : (zV (s.amountOf (60 * p0.toNatClampNeg + p1.toNatClampNeg))).natAbs ≤ 2 ^ 1201 := Nat.le_trans am.2 (Nat.pow_le_pow_right (by decide) (by decide))
      obtain ⟨i1, i2⟩ := p_idx hin hv hn
      refine q_whole am.1 ab ⟨p_z1, fun f hf => ⟨v1, v2, v3, ?_⟩⟩
      refine p_in3 (fun _ _ => ⟨fun _ => ?_, fun h => absurd h (by decide)⟩) (fun h => by omega)
      refine p_fault hs (fun _ _ _ _ => ⟨fun _ => ⟨i1, fun r3 hr3 => ?_⟩, fun h => absurd rfl h⟩) (fun _ q => by rw [hc] at q; cases q) (fun q => absurd hin q) (fun A' hc' _ q => by rw [hc] at hc'; cases hc'; exact absurd hv q)
      rw [i2] at hr3
      subst hr3
      have a32 := (zk_32 (zk_f am.1) ab).2
      unfold p_wh at hf
      refine ⟨fun c => ⟨fun d => ⟨fun e => ⟨a32, ?_⟩, fun e => ?_⟩, fun d => ?_⟩, fun c => ?_⟩
      · exact p_okk rfl rfl p_z1 (by rw [p_upd0 hf, if_neg c, if_neg d, if_neg e]) (Or.inl hs)
      · exact p_okk rfl rfl p_z1 (by rw [p_upd0 hf, if_neg c, if_neg d, if_pos e]) (Or.inl hs)
      · exact p_okk rfl rfl p_z1 (by rw [p_upd0 hf, if_neg c, if_pos d]) (Or.inl hs)
      · exact p_okk rfl rfl p_z1 (by rw [p_upd0 hf, if_pos c]) (Or.inl hs)
    · refine p_in3 (fun _ _ => ⟨fun _ => ?_, fun h => absurd h (by decide)⟩) (fun h => by omega)
      exact p_fault hs (fun A' hc' _ q => by rw [hc] at hc'; cases hc'; exact absurd q hv) (fun _ q => by rw [hc] at q; cases q) (fun q => absurd hin q) (fun _ _ _ _ => ⟨fun h => absurd h (by decide), fun _ => p_ern rfl (by decide) (Or.inl hs)⟩)
  · obtain ⟨h12, e0⟩ := p_12 hin
    refine p_isIn (fun a b => ⟨fun _ => ⟨fun h => absurd hin h, fun _ => ⟨p_cgn hs h12 hn, Or.inl ⟨rfl, v1, v2, v3, ?_⟩⟩⟩, fun h => absurd h (by decide)⟩) (fun a => ⟨fun h => absurd rfl h, fun _ => ⟨p_z1, fun f hf => ⟨v1, v2, v3, bad f 0 a _ (p_okk rfl rfl p_z1 (p_upd0 hf) (Or.inl hs))⟩⟩⟩)
    refine p_in3 (fun _ _ => ⟨fun _ => ?_, fun h => absurd h (by decide)⟩) (fun h => by omega)
    exact p_fault hs (fun _ q _ _ => by rw [hn] at q; cases q) (fun _ _ => ⟨fun h => absurd h (by decide), fun _ => p_ern rfl (by decide) (Or.inl hs)⟩) (fun q => absurd hin q) (fun _ q _ _ => by rw [hn] at q; cases q)
  · refine p_isIn (fun a b => ⟨fun _ => ⟨fun _ => Or.inr ⟨rfl, v1, v2, v3, ?_⟩, fun h => absurd h hin⟩, fun h => absurd h (by decide)⟩) (fun a => ⟨fun h => absurd rfl h, fun _ => ⟨p_z1, fun f hf => ⟨v1, v2, v3, bad f 0 a _ (p_okk rfl rfl p_z1 (p_upd0 hf) (Or.inl hs))⟩⟩⟩)
    refine p_in3 (fun _ _ => ⟨fun _ => ?_, fun h => absurd h (by decide)⟩) (fun h => by omega)
    exact p_fault hs (fun _ _ q _ => absurd q hin) (fun q _ => absurd q hin) (fun _ => ⟨fun h => absurd h (by decide), fun _ => p_ern rfl (by decide) (Or.inl hs)⟩) (fun _ _ q _ => absurd q hin)
