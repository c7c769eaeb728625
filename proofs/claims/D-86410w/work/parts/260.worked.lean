/-! the plain law: worked. By hand (gen/260.worked.src.txt) -/
def p_pk (g : Bool) (v w : UInt64) : UInt64 := if zV v < zV w then (if g then w else v) else if zV w < zV v then (if g then v else w) else if zS v == g then w else v
/-- a worked number: its sign and size -/
def p_wr (v w : UInt64) (how : Int32) : Bool × Nat := if how = 0 then (zS v, p_by 0 (zS v) (zV v).natAbs * z_one) else if how = 1 then (zS v, p_by 1 (zS v) (zV v).natAbs * z_one) else if how = 2 then (zS v, p_by 2 (zS v) (zV v).natAbs * z_one) else if how = 3 then (false, (zV v).natAbs) else if how = 4 then (zS v, if zV v = 0 then 0 else z_one) else if how = 5 then (zS w, (zV v).natAbs) else if how = 6 then (zS (p_pk false v w), (zV (p_pk false v w)).natAbs) else if how = 7 then (zS (p_pk true v w), (zV (p_pk true v w)).natAbs) else (zS v, z_rn 53 0 ((zV v).natAbs % (zV w).natAbs))
theorem p_by2 {s : Bool} {M : Nat} : p_by 2 s M = z_ri M := by unfold p_by; rw [if_pos rfl]
theorem p_by_le {how : Int32} {s : Bool} {M : Nat} : p_by how s M * z_one ≤ M + z_one := by
  have e : p_by how s M ≤ M / z_one + 1 := by
    unfold p_by p_rd
    rw [z_ri_split]
    split <;> split <;> omega
  have h := Nat.mul_le_mul_right z_one e
  rw [Nat.add_mul, Nat.one_mul] at h
  have := Nat.div_add_mod' M z_one
  omega
theorem p_pk_of (g : Bool) (v w : UInt64) : p_pk g v w = v ∨ p_pk g v w = w := by
  unfold p_pk
  cases g
  · by_cases a : zV v < zV w
    · rw [if_pos a, if_neg (by decide)]; exact Or.inl rfl
    · rw [if_neg a]
      by_cases b : zV w < zV v
      · rw [if_pos b, if_neg (by decide)]; exact Or.inr rfl
      · rw [if_neg b]
        cases zS v
        · exact Or.inr rfl
        · exact Or.inl rfl
  · by_cases a : zV v < zV w
    · rw [if_pos a, if_pos rfl]; exact Or.inr rfl
    · rw [if_neg a]
      by_cases b : zV w < zV v
      · rw [if_pos b, if_pos rfl]; exact Or.inl rfl
      · rw [if_neg b]
        cases zS v
        · exact Or.inl rfl
        · exact Or.inr rfl
theorem z_one_le : z_one ≤ 2 ^ 1174 := Nat.pow_le_pow_right (by decide) (by decide)
theorem z_1175 : (2 : Nat) ^ 1174 + 2 ^ 1174 = 2 ^ 1175 := by
  have gen : ∀ n : Nat, 2 ^ n + 2 ^ n = 2 ^ (n + 1) := fun n => by rw [Nat.pow_succ, Nat.mul_two]
  exact gen 1174
theorem p_wr_le {v w : UInt64} {how : Int32} (hv : (zV v).natAbs ≤ 2 ^ 1174) (hw : (zV w).natAbs ≤ 2 ^ 1174) : (p_wr v w how).2 ≤ 2 ^ 1175 := by
  have h1 := z_one_le
  have h2 := z_1175
  have pk : ∀ g, (zV (p_pk g v w)).natAbs ≤ 2 ^ 1174 := fun g => by
    rcases p_pk_of g v w with e | e
    · rw [e]; exact hv
    · rw [e]; exact hw
  have rm : z_rn 53 0 ((zV v).natAbs % (zV w).natAbs) ≤ 2 ^ 1174 := by
    have := z_rn_le (p := 53) (m := 0) (b := 1) (j := 1174) (z := (zV v).natAbs % (zV w).natAbs) (by decide) (by decide) (Nat.zero_le _) (by rw [Nat.one_mul]; exact Nat.le_trans (Nat.mod_le _ _) hv)
    rw [Nat.one_mul] at this
    exact this
  have by_ : ∀ h, p_by h (zS v) (zV v).natAbs * z_one ≤ 2 ^ 1175 := fun h => by
    have := p_by_le (how := h) (s := zS v) (M := (zV v).natAbs)
    omega
  have k6 := pk false
  have k7 := pk true
  unfold p_wr
  by_cases c0 : how = 0
  · rw [if_pos c0]; exact by_ 0
  · rw [if_neg c0]
    by_cases c1 : how = 1
    · rw [if_pos c1]; exact by_ 1
    · rw [if_neg c1]
      by_cases c2 : how = 2
      · rw [if_pos c2]; exact by_ 2
      · rw [if_neg c2]
        by_cases c3 : how = 3
        · rw [if_pos c3]
          show (zV v).natAbs ≤ _
          omega
        · rw [if_neg c3]
          by_cases c4 : how = 4
          · rw [if_pos c4]
            show (if zV v = 0 then 0 else z_one) ≤ _
            split <;> omega
          · rw [if_neg c4]
            by_cases c5 : how = 5
            · rw [if_pos c5]
              show (zV v).natAbs ≤ _
              omega
            · rw [if_neg c5]
              by_cases c6 : how = 6
              · rw [if_pos c6]
                show (zV (p_pk false v w)).natAbs ≤ _
                omega
              · rw [if_neg c6]
                by_cases c7 : how = 7
                · rw [if_pos c7]
                  show (zV (p_pk true v w)).natAbs ≤ _
                  omega
                · rw [if_neg c7]
                  show z_rn 53 0 _ ≤ _
                  omega
theorem q5_worked {v w : UInt64} {how : Int32} {K : UInt64 → Prop} (hv : zf v) (bv : (zV v).natAbs ≤ 2 ^ 2097) (hw : zf w) (h8 : ¬ how = 0 → ¬ how = 1 → ¬ how = 2 → ¬ how = 3 → ¬ how = 4 → ¬ how = 5 → ¬ how = 6 → ¬ how = 7 → zV w ≠ 0) (hK : ∀ r, zf r → zS r = (p_wr v w how).1 → (zV r).natAbs = (p_wr v w how).2 → K r) : wX5_worked v w how K := by
  unfold p_wr at hK
  obtain ⟨a1, a2, a3⟩ := z_mAbs hv
  refine ⟨fun c0 => ?_, fun c0 => ⟨fun c1 => ?_, fun c1 => ⟨fun c2 => ?_, fun c2 => ⟨fun c3 => ⟨z_n64 hv, ?_⟩, fun c3 => ⟨fun c4 => ⟨z_nan hv, ?_⟩, fun c4 => ⟨fun c5 => ⟨z_nan hw, ?_⟩, fun c5 => ⟨fun c6 => ⟨z_nan hv, z_nan hw, ?_⟩, fun c6 => ⟨fun c7 => ⟨z_nan hv, z_nan hw, ?_⟩, fun c7 => ?_⟩⟩⟩⟩⟩⟩⟩⟩
  · rw [if_pos c0] at hK
    exact q_floor hv bv (fun r r1 r2 r3 => ⟨z_n64 r1, hK r r1 r2 r3⟩)
  · rw [if_neg c0, if_pos c1] at hK
    exact q_ceil hv bv (fun r r1 r2 r3 => ⟨z_n64 r1, hK r r1 r2 r3⟩)
  · rw [if_neg c0, if_neg c1, if_pos c2] at hK
    exact q_rint hv bv (fun r r1 r2 r3 => ⟨z_n64 r1, hK r r1 r2 (by show _ = p_by 2 (zS v) (zV v).natAbs * z_one; rw [p_by2]; exact r3)⟩)
  · rw [if_neg c0, if_neg c1, if_neg c2, if_pos c3] at hK
    exact hK _ a1 a3 (by rw [a2, Int.natAbs_natCast])
  · rw [if_neg c0, if_neg c1, if_neg c2, if_neg c3, if_pos c4] at hK
    rw [z_sig hv]
    obtain ⟨o1, o2, o3⟩ := z_k1
    obtain ⟨m1, m2, m3⟩ := z_km1
    by_cases z : zV v = 0
    · rw [if_pos z]
      exact hK v hv rfl (by show _ = if zV v = 0 then 0 else z_one; rw [if_pos z, z, Int.natAbs_zero])
    · rw [if_neg z]
      cases s : zS v
      · rw [if_neg (by decide)]
        exact hK _ o1 (o2.trans s.symm) (by show _ = if zV v = 0 then 0 else z_one; rw [if_neg z, o3, Int.natAbs_natCast])
      · rw [if_pos rfl]
        exact hK _ m1 (m2.trans s.symm) (by show _ = if zV v = 0 then 0 else z_one; rw [if_neg z, m3, Int.natAbs_neg, Int.natAbs_natCast])
  · rw [if_neg c0, if_neg c1, if_neg c2, if_neg c3, if_neg c4, if_pos c5] at hK
    obtain ⟨g1, g2, g3⟩ := z_cpsg (b := w) hv
    exact hK _ g1 g2 g3
  · rw [if_neg c0, if_neg c1, if_neg c2, if_neg c3, if_neg c4, if_neg c5, if_pos c6] at hK
    have e : mMin v w = p_pk false v w := z_pick hv hw false
    rw [e]
    refine hK _ ?_ rfl rfl
    rcases p_pk_of false v w with e | e
    · rw [e]; exact hv
    · rw [e]; exact hw
  · rw [if_neg c0, if_neg c1, if_neg c2, if_neg c3, if_neg c4, if_neg c5, if_neg c6, if_pos c7] at hK
    have e : mMax v w = p_pk true v w := z_pick hv hw true
    rw [e]
    refine hK _ ?_ rfl rfl
    rcases p_pk_of true v w with e | e
    · rw [e]; exact hv
    · rw [e]; exact hw
  · rw [if_neg c0, if_neg c1, if_neg c2, if_neg c3, if_neg c4, if_neg c5, if_neg c6, if_neg c7] at hK
    obtain ⟨d1, d2, d3⟩ := z_drem hv hw (h8 c0 c1 c2 c3 c4 c5 c6 c7) bv
    exact ⟨z_n64 d1, hK _ d1 d2 d3⟩
theorem f_mk64 {u : UInt32} (h : ff u) : vf_n64 (FP.f2d u) ∧ zf (FP.f2d u) ∧ zS (FP.f2d u) = fS u ∧ zV (FP.f2d u) = fV u := by
  obtain ⟨a1, a2, a3⟩ := z_f2d h
  exact ⟨z_n64 a1, a1, a3, a2⟩
theorem q6_worked {v w : UInt64} {how : Int32} {K : UInt64 → Prop} (kv : zk false v) (bv : (zV v).natAbs ≤ 2 ^ 1201) (hw : zf w) (bw : (zV w).natAbs ≤ 2 ^ 1201) (kw : ¬ how = 0 → ¬ how = 1 → ¬ how = 2 → ¬ how = 3 → ¬ how = 4 → zk false w) (h8 : ¬ how = 0 → ¬ how = 1 → ¬ how = 2 → ¬ how = 3 → ¬ how = 4 → ¬ how = 5 → ¬ how = 6 → ¬ how = 7 → zV w ≠ 0) (hK : ∀ r, zf r → zS r = (p_wr v w how).1 → (zV r).natAbs = (p_wr v w how).2 → K r) : wX6_worked v w how K := by
  unfold p_wr at hK
  have hv := zk_f kv
  have bv2 : (zV v).natAbs ≤ 2 ^ 2097 := Nat.le_trans bv (Nat.pow_le_pow_right (by decide) (by decide))
  obtain ⟨b0, b1, b2, b3⟩ := zk_n kv bv
  obtain ⟨-, n1⟩ := zk_32 hv bv
  obtain ⟨-, n2⟩ := zk_32 hw bw
  have pick : zk false w → ∀ g, K (p_pk g v w) → ∃ u, u = Jvm.Native.java_lang_Math.nans.pick32 g (FP.d2f v) (FP.d2f w) ∧ vf_n64 (FP.f2d u) ∧ K (FP.f2d u) := by
    intro kk g hg
    obtain ⟨d0, d1, d2, d3⟩ := zk_n kk bw
    refine ⟨_, rfl, ?_⟩
    have e : FP.f2d (Jvm.Native.java_lang_Math.nans.pick32 g (FP.d2f v) (FP.d2f w)) = p_pk g v w := by
      rw [f_pick b1 d1 g, b2, d2, b3]
      unfold p_pk
      cases g
      · by_cases a : zV v < zV w
        · rw [if_pos a, if_pos a, if_neg (by decide), if_neg (by decide), b0]
        · rw [if_neg a, if_neg a]
          by_cases b : zV w < zV v
          · rw [if_pos b, if_pos b, if_neg (by decide), if_neg (by decide), d0]
          · rw [if_neg b, if_neg b]
            cases zS v
            · exact d0
            · exact b0
      · by_cases a : zV v < zV w
        · rw [if_pos a, if_pos a, if_pos rfl, if_pos rfl, d0]
        · rw [if_neg a, if_neg a]
          by_cases b : zV w < zV v
          · rw [if_pos b, if_pos b, if_pos rfl, if_pos rfl, b0]
          · rw [if_neg b, if_neg b]
            cases zS v
            · exact b0
            · exact d0
    rw [e]
    refine ⟨?_, hg⟩
    rcases p_pk_of g v w with q | q
    · rw [q]; exact z_n64 hv
    · rw [q]; exact z_n64 hw
  have pz : ∀ g, zf (p_pk g v w) := fun g => by
    rcases p_pk_of g v w with q | q
    · rw [q]; exact hv
    · rw [q]; exact hw
  refine ⟨n1, fun u1 hu1 => ⟨n2, fun u2 hu2 => ?_⟩⟩
  subst hu1 hu2
  refine ⟨fun c0 => ?_, fun c0 => ⟨fun c1 => ?_, fun c1 => ⟨fun c2 => ?_, fun c2 => ⟨fun c3 => ⟨n1, ?_⟩, fun c3 => ⟨fun c4 => ⟨f_nan b1, ?_⟩, fun c4 => ?_⟩⟩⟩⟩⟩
  · rw [if_pos c0] at hK
    exact q_floor hv bv2 (fun r r1 r2 r3 => ⟨z_n64 r1, hK r r1 r2 r3⟩)
  · rw [if_neg c0, if_pos c1] at hK
    exact q_ceil hv bv2 (fun r r1 r2 r3 => ⟨z_n64 r1, hK r r1 r2 r3⟩)
  · rw [if_neg c0, if_neg c1, if_pos c2] at hK
    exact q_rint hv bv2 (fun r r1 r2 r3 => ⟨z_n64 r1, hK r r1 r2 (by show _ = p_by 2 (zS v) (zV v).natAbs * z_one; rw [p_by2]; exact r3)⟩)
  · rw [if_neg c0, if_neg c1, if_neg c2, if_pos c3] at hK
    obtain ⟨a1, a2, a3⟩ := f_mAbsF b1
    obtain ⟨x1, x2, x3, x4⟩ := f_mk64 a1
    exact ⟨x1, hK _ x2 (x3.trans a3) (by rw [x4, a2, Int.natAbs_natCast, b2])⟩
  · rw [if_neg c0, if_neg c1, if_neg c2, if_neg c3, if_pos c4] at hK
    rw [f_sig b1, b2, b3]
    obtain ⟨o1, o2, o3⟩ := z_k1
    obtain ⟨m1, m2, m3⟩ := z_km1
    by_cases z : zV v = 0
    · rw [if_pos z, b0]
      exact ⟨z_n64 hv, hK v hv rfl (by show _ = if zV v = 0 then 0 else z_one; rw [if_pos z, z, Int.natAbs_zero])⟩
    · rw [if_neg z]
      cases s : zS v
      · rw [if_neg (by decide), f_sig1.1]
        exact ⟨z_n64 o1, hK _ o1 (o2.trans s.symm) (by show _ = if zV v = 0 then 0 else z_one; rw [if_neg z, o3, Int.natAbs_natCast])⟩
      · rw [if_pos rfl, f_sig1.2]
        exact ⟨z_n64 m1, hK _ m1 (m2.trans s.symm) (by show _ = if zV v = 0 then 0 else z_one; rw [if_neg z, m3, Int.natAbs_neg, Int.natAbs_natCast])⟩
  · rw [if_neg c0, if_neg c1, if_neg c2, if_neg c3, if_neg c4] at hK
    have kk := kw c0 c1 c2 c3 c4
    obtain ⟨d0, d1, d2, d3⟩ := zk_n kk bw
    refine ⟨fun c5 => ⟨f_nan d1, ?_⟩, fun c5 => ⟨fun c6 => ⟨f_nan b1, f_nan d1, ?_⟩, fun c6 => ⟨fun c7 => ⟨f_nan b1, f_nan d1, ?_⟩, fun c7 => ?_⟩⟩⟩
    · rw [if_pos c5] at hK
      obtain ⟨g1, g2, g3⟩ := f_cpsg (b := FP.d2f w) b1
      obtain ⟨x1, x2, x3, x4⟩ := f_mk64 g1
      exact ⟨x1, hK _ x2 (by rw [x3, g2, d3]) (by rw [x4, g3, b2])⟩
    · rw [if_neg c5, if_pos c6] at hK
      obtain ⟨u, rfl, hu⟩ := pick kk false (hK _ (pz _) rfl rfl)
      exact hu
    · rw [if_neg c5, if_neg c6, if_pos c7] at hK
      obtain ⟨u, rfl, hu⟩ := pick kk true (hK _ (pz _) rfl rfl)
      exact hu
    · rw [if_neg c5, if_neg c6, if_neg c7] at hK
      obtain ⟨r1, r2, r3, r4⟩ := f_frem b1 d1 (by rw [d2]; exact h8 c0 c1 c2 c3 c4 c5 c6 c7) (by rw [b2]; exact bv)
      obtain ⟨x1, x2, x3, x4⟩ := f_mk64 r1
      refine ⟨f_n32 r1, x1, hK _ x2 (by rw [x3, r2, b3]) ?_⟩
      rw [x4, r3]
      rw [b2, d2] at r4 ⊢
      exact r4.symm
theorem q_worked {k : Bool} {v w : UInt64} {how : Int32} {K : UInt64 → Prop} (kv : zk k v) (bv : (zV v).natAbs ≤ 2 ^ 1174) (hw : zf w) (bw : (zV w).natAbs ≤ 2 ^ 1174) (kw : ¬ how = 0 → ¬ how = 1 → ¬ how = 2 → ¬ how = 3 → ¬ how = 4 → zk k w) (h8 : ¬ how = 0 → ¬ how = 1 → ¬ how = 2 → ¬ how = 3 → ¬ how = 4 → ¬ how = 5 → ¬ how = 6 → ¬ how = 7 → zV w ≠ 0) (hK : ∀ r, zf r → zS r = (p_wr v w how).1 → (zV r).natAbs = (p_wr v w how).2 → K r) : wL_worked k v w how K := by
  have e1 : (2 : Nat) ^ 1174 ≤ 2 ^ 1201 := Nat.pow_le_pow_right (by decide) (by decide)
  have e2 : (2 : Nat) ^ 1174 ≤ 2 ^ 2097 := Nat.pow_le_pow_right (by decide) (by decide)
  cases k
  · exact q6_worked kv (Nat.le_trans bv e1) hw (Nat.le_trans bw e1) kw h8 hK
  · exact q5_worked (zk_f kv) (Nat.le_trans bv e2) hw h8 hK
theorem q3_workedOf {v w : UInt64} {how : Int32} {K : UInt64 → Prop} (hv : zf v) (bv : (zV v).natAbs ≤ 2 ^ 1174) (hw : zf w) (h8 : ¬ how = 0 → ¬ how = 1 → ¬ how = 2 → ¬ how = 3 → ¬ how = 4 → ¬ how = 5 → ¬ how = 6 → ¬ how = 7 → zV w ≠ 0) (hK : ∀ r, zf r → zS r = (p_wr v w how).1 → (zV r).natAbs = (p_wr v w how).2 → K r) : wX3_workedOf v w how K := by
  have bv : (zV v).natAbs ≤ 2 ^ 2097 := Nat.le_trans bv (Nat.pow_le_pow_right (by decide) (by decide))
  unfold p_wr at hK
  obtain ⟨a1, a2, a3⟩ := z_mAbs hv
  obtain ⟨z1, z2, z3⟩ := z_0
  refine ⟨fun c0 => ?_, fun c0 => ⟨fun c1 => ?_, fun c1 => ⟨fun c2 => ?_, fun c2 => ⟨fun c3 => ?_, fun c3 => ⟨fun c4 => ?_, fun c4 => ⟨fun c5 => ?_, fun c5 => ⟨fun c6 => ?_, fun c6 => ⟨fun c7 => ?_, fun c7 => ?_⟩⟩⟩⟩⟩⟩⟩⟩
  · rw [if_pos c0] at hK
    exact q3_roundedBy hv bv (Or.inl c0) (fun r r1 r2 r3 => hK r r1 r2 (by rw [c0] at r3; exact r3))
  · rw [if_neg c0, if_pos c1] at hK
    exact q3_roundedBy hv bv (Or.inr (Or.inl c1)) (fun r r1 r2 r3 => hK r r1 r2 (by rw [c1] at r3; exact r3))
  · rw [if_neg c0, if_neg c1, if_pos c2] at hK
    exact q3_roundedBy hv bv (Or.inr (Or.inr c2)) (fun r r1 r2 r3 => hK r r1 r2 (by rw [c2] at r3; exact r3))
  · rw [if_neg c0, if_neg c1, if_neg c2, if_pos c3] at hK
    exact q3_sizeOf hv (hK _ a1 a3 (by rw [a2, Int.natAbs_natCast]))
  · rw [if_neg c0, if_neg c1, if_neg c2, if_neg c3, if_pos c4] at hK
    obtain ⟨o1, o2, o3⟩ := z_k1
    obtain ⟨m1, m2, m3⟩ := z_km1
    rw [z_dgt hv z1, z_dlt hv z1, z2]
    refine ⟨fun d => ⟨fun e => ?_, fun e => ?_⟩, fun d => ?_⟩
    · have z : zV v = 0 := by omega
      exact hK v hv rfl (by show _ = if zV v = 0 then 0 else z_one; rw [if_pos z, z, Int.natAbs_zero])
    · have z : zV v ≠ 0 := by omega
      exact hK _ m1 (by rw [m2, z_sgn hv z]; exact (decide_eq_true e).symm) (by show _ = if zV v = 0 then 0 else z_one; rw [if_neg z, m3, Int.natAbs_neg, Int.natAbs_natCast])
    · have z : zV v ≠ 0 := by omega
      exact hK _ o1 (by rw [o2, z_sgn hv z]; exact (decide_eq_false (by omega)).symm) (by show _ = if zV v = 0 then 0 else z_one; rw [if_neg z, o3, Int.natAbs_natCast])
  · rw [if_neg c0, if_neg c1, if_neg c2, if_neg c3, if_neg c4, if_pos c5] at hK
    have an : (zV (mAbs v)).natAbs = (zV v).natAbs := by rw [a2, Int.natAbs_natCast]
    obtain ⟨n1, n2, n3⟩ := z_dneg a1
    refine q3_sizeOf hv (q3_isMinus hw (fun e => ⟨fun _ => ?_, fun q => absurd rfl q⟩) (fun e => ⟨fun q => absurd q (by decide), fun _ => ?_⟩))
    · exact hK _ a1 (a3.trans e.symm) an
    · exact hK _ n1 (by rw [n3, a3]; exact e.symm) (by rw [n2, Int.natAbs_neg]; exact an)
  · rw [if_neg c0, if_neg c1, if_neg c2, if_neg c3, if_neg c4, if_neg c5, if_pos c6] at hK
    unfold wX3_lesser
    rw [z_dlt hv hw, z_deq hv hw]
    refine ⟨fun d => ?_, fun d => ⟨fun e => ?_, fun e => q3_isMinus hv (fun s => ⟨fun _ => ?_, fun q => absurd rfl q⟩) (fun s => ⟨fun q => absurd q (by decide), fun _ => ?_⟩)⟩⟩
    · have q : v = p_pk false v w := by unfold p_pk; rw [if_pos d, if_neg (by decide)]
      exact hK v hv (congrArg zS q) (congrArg (fun x => (zV x).natAbs) q)
    · have q : w = p_pk false v w := by unfold p_pk; rw [if_neg d, if_pos (by omega), if_neg (by decide)]
      exact hK w hw (congrArg zS q) (congrArg (fun x => (zV x).natAbs) q)
    · have q : w = p_pk false v w := by unfold p_pk; rw [if_neg d, if_neg (by omega), s]; rfl
      exact hK w hw (congrArg zS q) (congrArg (fun x => (zV x).natAbs) q)
    · have q : v = p_pk false v w := by unfold p_pk; rw [if_neg d, if_neg (by omega), s]; rfl
      exact hK v hv (congrArg zS q) (congrArg (fun x => (zV x).natAbs) q)
  · rw [if_neg c0, if_neg c1, if_neg c2, if_neg c3, if_neg c4, if_neg c5, if_neg c6, if_pos c7] at hK
    unfold wX3_greater
    rw [z_dgt hv hw, z_deq hv hw]
    refine ⟨fun d => ?_, fun d => ⟨fun e => ?_, fun e => q3_isMinus hv (fun s => ⟨fun q => absurd rfl q, fun _ => ?_⟩) (fun s => ⟨fun _ => ?_, fun q => absurd q (by decide)⟩)⟩⟩
    · have q : v = p_pk true v w := by unfold p_pk; rw [if_neg (by omega), if_pos d, if_pos rfl]
      exact hK v hv (congrArg zS q) (congrArg (fun x => (zV x).natAbs) q)
    · have q : w = p_pk true v w := by unfold p_pk; rw [if_pos (by omega), if_pos rfl]
      exact hK w hw (congrArg zS q) (congrArg (fun x => (zV x).natAbs) q)
    · have q : v = p_pk true v w := by unfold p_pk; rw [if_neg (by omega), if_neg (by omega), s]; rfl
      exact hK v hv (congrArg zS q) (congrArg (fun x => (zV x).natAbs) q)
    · have q : w = p_pk true v w := by unfold p_pk; rw [if_neg (by omega), if_neg (by omega), s]; rfl
      exact hK w hw (congrArg zS q) (congrArg (fun x => (zV x).natAbs) q)
  · rw [if_neg c0, if_neg c1, if_neg c2, if_neg c3, if_neg c4, if_neg c5, if_neg c6, if_neg c7] at hK
    obtain ⟨d1, d2, d3⟩ := z_drem hv hw (h8 c0 c1 c2 c3 c4 c5 c6 c7) bv
    exact ⟨z_n64 d1, hK _ d1 d2 d3⟩
