/-! the model's own rounding to whole numbers. By hand (gen/256.near3.src.txt) -/
theorem q3_cut {v : UInt64} (hv : zf v) (hs : zS v = false) {K : UInt64 → Prop} (hK : ∀ w, zf w → zS w = false → zV w = (((zV v).natAbs / z_one * z_one : Nat) : Int) → K w) : wX3_cut v K := by
  obtain ⟨c1, c2, -⟩ := z_c53
  have hp := z_pos hv hs
  unfold wX3_cut
  rw [z_dge hv c1, c2]
  refine ⟨fun c => ?_, fun c => hK v hv hs ?_⟩
  · have hM : (zV v).natAbs < 2 ^ 53 * z_one := by omega
    obtain ⟨b1, b2, b3⟩ := z_back hv hM
    rw [hs] at b2
    exact hK _ b1 (b3 hs) b2
  · have hw := z_bigw hv (by omega)
    have := Nat.div_add_mod' (zV v).natAbs z_one
    omega
theorem z_rest {v : UInt64} (h : zf v) : z_rn 53 0 ((zV v).natAbs % z_one) = (zV v).natAbs % z_one := by
  obtain ⟨c, q, a1, a2, a3, a4, a5, a6⟩ := z_get h
  rw [a3, z_sg_nat]
  by_cases k : 1074 ≤ (q + 1074).toNat
  · have e : c * 2 ^ (q + 1074).toNat % z_one = 0 := by
      rw [show (q + 1074).toNat = ((q + 1074).toNat - 1074) + 1074 by omega, Nat.pow_add, ← Nat.mul_assoc]
      exact Nat.mul_mod_left _ _
    rw [e, z_rn_zero]
  · have e : c * 2 ^ (q + 1074).toNat % z_one = c % 2 ^ (1074 - (q + 1074).toNat) * 2 ^ (q + 1074).toNat := by
      have e1 : z_one = 2 ^ (1074 - (q + 1074).toNat) * 2 ^ (q + 1074).toNat := by
        unfold z_one
        rw [← Nat.pow_add, show 1074 - (q + 1074).toNat + (q + 1074).toNat = 1074 by omega]
      rw [e1, Nat.mul_mod_mul_right]
    rw [e]
    exact z_rn_id (p := 53) (m := 0) (by decide) (Nat.le_trans (Nat.mod_le _ _) (Nat.le_of_lt a6)) (Nat.zero_le _)
theorem z_half1 : zf 4602678819172646912 ∧ zV 4602678819172646912 = ((2 ^ 1073 : Nat) : Int) := by
  refine ⟨by unfold zf; decide +kernel, by decide +kernel⟩
theorem z_two_half : z_one = 2 ^ 1073 + 2 ^ 1073 := by
  have gen : ∀ n : Nat, 2 ^ (n + 1) = 2 ^ n + 2 ^ n := fun n => by rw [Nat.pow_succ, Nat.mul_two]
  exact gen 1073
theorem q3_sgd {w v : UInt64} {t : Int32} {N : Nat} {K : UInt64 → Prop} (hw : zf w) (hs : zS w = false) (hN : (zV w).natAbs = N * z_one) (ht : t = 0 ↔ zS v = false) (hK : ∀ r, zf r → zS r = zS v → (zV r).natAbs = N * z_one → K r) : wX3_signed w t K := by
  obtain ⟨n1, n2, n3⟩ := z_dneg hw
  refine ⟨fun c => hK w hw (hs.trans (ht.mp c).symm) hN, fun c => hK _ n1 ?_ (by rw [n2, Int.natAbs_neg]; exact hN)⟩
  rw [n3, hs]
  cases e : zS v
  · exact absurd (ht.mpr e) c
  · rfl
/-- what a number is rounded to: the size, in ones -/
def p_by (how : Int32) (s : Bool) (M : Nat) : Nat := if how = 2 then z_ri M else p_rd (how == 1) s M
theorem q3_roundedBy {v : UInt64} {how : Int32} (h : zf v) (hb : (zV v).natAbs ≤ 2 ^ 2097) (hh : how = 0 ∨ how = 1 ∨ how = 2) {K : UInt64 → Prop} (hK : ∀ r, zf r → zS r = zS v → (zV r).natAbs = p_by how (zS v) (zV v).natAbs * z_one → K r) : wX3_roundedBy v how K := by
  obtain ⟨z1, z2, z3⟩ := z_0
  obtain ⟨a1, a2, a3⟩ := z_mAbs h
  obtain ⟨o1, o2, o3⟩ := z_k1
  obtain ⟨f1, f2⟩ := z_half1
  have th := z_two_half
  have po := z_one_pos
  have main : ∀ t : Int32, (t = 0 ↔ zS v = false) → (wX3_sizeOf v (fun (r_2 : UInt64) => (wX3_cut r_2 (fun (r_3 : UInt64) => (vf_n64 (FP.dsub r_2 r_3) ∧ (∀ r_4 : UInt64, r_4 = (FP.dsub r_2 r_3) → (((¬ how = (2 : Int32) → ((¬ dgt r_4 FP.dconst0 → (wX3_roundedBy_J90 K t r_3)) ∧ (dgt r_4 FP.dconst0 → ((t = (0 : Int32) → (wX3_roundedBy_J83 K t r_3 how (1 : Int32))) ∧ (¬ t = (0 : Int32) → (wX3_roundedBy_J83 K t r_3 how (0 : Int32))))))) ∧ (how = (2 : Int32) → ((dgt r_4 4602678819172646912 → (wX3_roundedBy_J58 K t r_3)) ∧ (¬ dgt r_4 4602678819172646912 → ((¬ deq r_4 4602678819172646912 → (wX3_roundedBy_J62 K t r_3)) ∧ (deq r_4 4602678819172646912 → ((¬ ((FP.d2l r_3) &&& (1 : Int64)) = (1 : Int64) → (wX3_roundedBy_J62 K t r_3)) ∧ (((FP.d2l r_3) &&& (1 : Int64)) = (1 : Int64) → (wX3_roundedBy_J58 K t r_3)))))))))))))))) := by
    intro t ht
    refine q3_sizeOf h (q3_cut a1 a3 (fun w w1 w2 w3 => ?_))
    rw [a2, Int.natAbs_natCast] at w3
    have hd := Nat.div_add_mod' (zV v).natAbs z_one
    have hr := z_rest h
    have hm : (zV v).natAbs % z_one < z_one := Nat.mod_lt _ po
    have ev : zV (mAbs v) - zV w = (((zV v).natAbs % z_one : Nat) : Int) := by
      rw [a2, w3]
      omega
    obtain ⟨s1, s2, -⟩ := z_dsub a1 w1 (by rw [ev, Int.natAbs_natCast]; omega)
    have s2 : zV (FP.dsub (mAbs v) w) = (((zV v).natAbs % z_one : Nat) : Int) := by
      rw [s2, ev]
      unfold z_rs
      rw [if_neg (by omega), Int.natAbs_natCast, hr]
    refine ⟨z_n64 s1, fun r4 h4 => ?_⟩
    subst h4
    rw [z_dgt s1 z1, z_dgt s1 f1, z_deq s1 f1, s2, z2, f2]
    have small : ¬ (zV v).natAbs % z_one = 0 → (zV v).natAbs / z_one < 2 ^ 53 := fun q => by
      refine z_tr_of ?_
      refine Classical.byContradiction fun t => q (z_bigw h ?_)
      omega
    have J0 : p_by how (zS v) (zV v).natAbs = (zV v).natAbs / z_one → wX3_signed w t K := fun e => q3_sgd (N := (zV v).natAbs / z_one) w1 w2 (by rw [w3, Int.natAbs_natCast]) ht (fun r r1 r2 r3 => hK r r1 r2 (by rw [e]; exact r3))
    have J1 : ¬ (zV v).natAbs % z_one = 0 → p_by how (zS v) (zV v).natAbs = (zV v).natAbs / z_one + 1 → vf_n64 (FP.dadd w FP.dconst1) ∧ wX3_signed (FP.dadd w FP.dconst1) t K := fun q e => by
      obtain ⟨x1, x2, x3⟩ := z_step (F := (zV v).natAbs / z_one) w1 o1 w2 (by rw [w3, Int.natAbs_natCast]) o3 (small q)
      exact ⟨z_n64 x1, q3_sgd x1 x2 x3 ht (fun r r1 r2 r3 => hK r r1 r2 (by rw [e]; exact r3))⟩
    have odd : ¬ (zV v).natAbs % z_one = 0 → ((FP.d2l w &&& 1) = 1 ↔ (zV v).natAbs / z_one % 2 = 1) := fun q => by
      have hlt : (zV v).natAbs < 2 ^ 53 * z_one := Classical.byContradiction fun t => q (z_bigw h (by omega))
      refine w_odd ?_
      rw [z_d2l_toInt w1 (by rw [w3, Int.natAbs_natCast]; omega), w2, w3, Int.natAbs_natCast, Nat.mul_div_cancel _ po]
      rfl
    refine ⟨fun c => ⟨fun d => J0 ?_, fun d => ⟨fun e => ⟨fun g => J0 ?_, fun g => J1 ?_ ?_⟩, fun e => ⟨fun g => J0 ?_, fun g => J1 ?_ ?_⟩⟩⟩, fun c => ⟨fun d => J1 ?_ ?_, fun d => ⟨fun e => J0 ?_, fun e => ⟨fun g => J0 ?_, fun g => J1 ?_ ?_⟩⟩⟩⟩
    · unfold p_by p_rd
      rw [if_neg c, if_neg (fun k => k.1 (by omega)), Nat.add_zero]
    · unfold p_by p_rd
      rw [if_neg c, if_neg, Nat.add_zero]
      rintro ⟨-, k⟩
      rw [ht.mp e] at k
      rcases hh with hh | hh | hh
      · rw [hh] at k; exact absurd k (by decide)
      · exact g hh
      · exact c hh
    · omega
    · unfold p_by p_rd
      rw [if_neg c, if_pos ⟨by omega, by rw [ht.mp e, g]; rfl⟩]
    · unfold p_by p_rd
      rw [if_neg c, if_neg, Nat.add_zero]
      rintro ⟨-, k⟩
      rcases hh with hh | hh | hh
      · exact g hh
      · rw [hh] at k
        exact e (ht.mpr k)
      · exact c hh
    · omega
    · unfold p_by p_rd
      have e2 : zS v = true := by
        cases q : zS v
        · exact absurd (ht.mpr q) e
        · rfl
      rw [if_neg c, if_pos ⟨by omega, by rw [e2, g]; rfl⟩]
    · omega
    · unfold p_by
      rw [if_pos c, z_ri_split, if_pos (Or.inl (by omega))]
    · unfold p_by
      rw [if_pos c, z_ri_split, if_neg (by omega), Nat.add_zero]
    · unfold p_by
      rw [odd (by omega)] at g
      rw [if_pos c, z_ri_split, if_neg (by omega), Nat.add_zero]
    · omega
    · unfold p_by
      rw [odd (by omega)] at g
      rw [if_pos c, z_ri_split, if_pos (Or.inr ⟨by omega, g⟩)]
  unfold wX3_roundedBy
  exact q3_isMinus h (fun e => main 0 ⟨fun _ => e, fun _ => rfl⟩) (fun e => main 1 ⟨fun q => absurd q (by decide), fun q => by rw [e] at q; cases q⟩)
