/-! the plain law: mix. By hand (gen/246.plainw.src.txt) -/
def p_m1 (j na k : Nat) (P : List Nat) : List Nat := if k < na then P ++ [60 * j + k] else P
def p_mx (j1 j2 na nb : Nat) : Nat → List Nat
  | 0 => []
  | k + 1 => p_m1 j2 nb k (p_m1 j1 na k (p_mx j1 j2 na nb k))
theorem p_m1_len (j na k : Nat) (P : List Nat) : (p_m1 j na k P).length = P.length + (if k < na then 1 else 0) := by
  unfold p_m1
  by_cases c : k < na
  · rw [if_pos c, if_pos c, p_lenapp]
  · rw [if_neg c, if_neg c]; rfl
theorem p_mx_len (j1 j2 na nb k : Nat) : (p_mx j1 j2 na nb k).length = min k na + min k nb := by
  induction k with
  | zero => show 0 = min 0 na + min 0 nb; omega
  | succ k ih =>
    show (p_m1 j2 nb k (p_m1 j1 na k (p_mx j1 j2 na nb k))).length = _
    rw [p_m1_len, p_m1_len, ih]
    by_cases c : k < na <;> by_cases d : k < nb <;> simp only [c, d, if_true, if_false] <;> omega
theorem p_mx_stop (j1 j2 na nb : Nat) {k : Nat} (h : max na nb ≤ k) : p_mx j1 j2 na nb k = p_mx j1 j2 na nb (max na nb) := by
  induction k with
  | zero => rw [show max na nb = 0 by omega]
  | succ k ih =>
    by_cases e : max na nb = k + 1
    · rw [e]
    · rw [← ih (by omega)]
      show p_m1 j2 nb k (p_m1 j1 na k _) = _
      unfold p_m1
      rw [if_neg (by omega), if_neg (by omega)]
theorem p_mx_mem {j1 j2 na nb k v : Nat} (h : v ∈ p_mx j1 j2 na nb k) : (∃ l, l < na ∧ v = 60 * j1 + l) ∨ ∃ l, l < nb ∧ v = 60 * j2 + l := by
  induction k with
  | zero => cases h
  | succ k ih =>
    have h : v ∈ p_m1 j2 nb k (p_m1 j1 na k (p_mx j1 j2 na nb k)) := h
    have step : ∀ (j n : Nat) (P : List Nat), v ∈ p_m1 j n k P → v ∈ P ∨ (k < n ∧ v = 60 * j + k) := by
      intro j n P hv
      unfold p_m1 at hv
      split at hv
      · rename_i hc
        rcases List.mem_append.mp hv with q | q
        · exact Or.inl q
        · exact Or.inr ⟨hc, by simpa using q⟩
      · exact Or.inl hv
    rcases step _ _ _ h with q | ⟨q1, q2⟩
    · rcases step _ _ _ q with q | ⟨q1, q2⟩
      · exact ih q
      · exact Or.inl ⟨k, q1, q2⟩
    · exact Or.inr ⟨k, q1, q2⟩
theorem q_mx_L {s : LSt} {j1 j2 : Nat} {A B : Led} (hA : RLd s j1 A) (hB : RLd s j2 B) (hk : lK A = lK B) (hab : lLn A + lLn B ≤ 60) {X : Int32 → Int32 → (Nat → Int32) → (Nat → Int32) → (Nat → UInt64) → Prop} (hX : ∀ v ac da am, p_hold s (lK A) (p_mx j1 j2 (lLn A) (lLn B) (max (lLn A) (lLn B))) ac da am → X (Int32.ofNat (lLn A + lLn B)) v ac da am) : ∀ m k, k + m = max (lLn A) (lLn B) → ∀ ac da am, p_hold s (lK A) (p_mx j1 j2 (lLn A) (lLn B) k) ac da am → wX1_mix_L85 (lK A) (lLn A) (lAc A) (lDa A) (lAm A) (lK B) (lLn B) (lAc B) (lDa B) (lAm B) (Int32.ofNat (lLn A)) (Int32.ofNat (lLn B)) X (m + 1) (Int32.ofNat (p_mx j1 j2 (lLn A) (lLn B) k).length) (Int32.ofNat k) ac da am := by
  have ecl : (Int32.ofNat (lLn A) + Int32.ofNat (lLn B)).toNatClampNeg = lLn A + lLn B := by
    rw [← Int32.ofNat_add, w_cl (by omega)]
  intro m
  induction m with
  | zero =>
    intro k hk2 ac da am h
    have e : k = max (lLn A) (lLn B) := by omega
    refine w_max (by omega) (by omega) ⟨fun _ => ?_, fun c => absurd (w_leO (by omega) (by omega) (by omega)) c⟩
    rw [p_mx_len, e, show min (max (lLn A) (lLn B)) (lLn A) + min (max (lLn A) (lLn B)) (lLn B) = lLn A + lLn B by omega]
    rw [e] at h
    exact hX _ _ _ _ h
  | succ m ih =>
    intro k hk2 ac da am h
    have hlen := p_mx_len j1 j2 (lLn A) (lLn B) k
    have J : ∀ ac da am, p_hold s (lK A) (p_m1 j1 (lLn A) k (p_mx j1 j2 (lLn A) (lLn B) k)) ac da am → wX1_mix_J118 (lK A) (lK B) (lLn B) (lAc B) (lDa B) (lAm B) (Int32.ofNat (lLn A)) (Int32.ofNat (lLn B)) (Int32.ofNat k) (wX1_mix_L85 (lK A) (lLn A) (lAc A) (lDa A) (lAm A) (lK B) (lLn B) (lAc B) (lDa B) (lAm B) (Int32.ofNat (lLn A)) (Int32.ofNat (lLn B)) X (m + 1)) (Int32.ofNat (p_m1 j1 (lLn A) k (p_mx j1 j2 (lLn A) (lLn B) k)).length) ac da am := by
      intro ac da am h
      have hl1 := p_m1_len j1 (lLn A) k (p_mx j1 j2 (lLn A) (lLn B) k)
      unfold wX1_mix_J118
      rw [ecl]
      by_cases c : k < lLn B
      · refine ⟨fun q => absurd q (w_nleO (by omega) (by omega) c), fun _ => ?_⟩
        rw [hk] at h
        have hl2 : (p_m1 j1 (lLn A) k (p_mx j1 j2 (lLn A) (lLn B) k)).length < lLn A + lLn B := by
          rw [hl1, hlen]
          by_cases d : k < lLn A
          · rw [if_pos d]; omega
          · rw [if_neg d]; omega
        refine q_copy hB c hl2 hab h hk (fun ac' da' am' h' x hx y hy => ?_)
        have e : p_mx j1 j2 (lLn A) (lLn B) (k + 1) = p_m1 j1 (lLn A) k (p_mx j1 j2 (lLn A) (lLn B) k) ++ [60 * j2 + k] := by
          show p_m1 j2 (lLn B) k _ = _
          unfold p_m1
          rw [if_pos c]
        have i := ih (k + 1) (by omega) ac' da' am' (by rw [e, hk]; exact h')
        rw [e, p_lenapp] at i
        rw [hx, hy, w_suc, w_suc]
        exact i
      · refine ⟨fun _ y hy => ?_, fun q => absurd (w_leO (by omega) (by omega) (by omega)) q⟩
        have e : p_mx j1 j2 (lLn A) (lLn B) (k + 1) = p_m1 j1 (lLn A) k (p_mx j1 j2 (lLn A) (lLn B) k) := by
          show p_m1 j2 (lLn B) k _ = _
          rw [p_m1, if_neg c]
        have i := ih (k + 1) (by omega) ac da am (by rw [e]; exact h)
        rw [e] at i
        rw [hy, w_suc]
        exact i
    refine w_max (by omega) (by omega) ⟨fun c => absurd c (w_nleO (by omega) (by omega) (by omega)), fun _ => ?_⟩
    by_cases c : k < lLn A
    · refine ⟨fun q => absurd q (w_nleO (by omega) (by omega) c), fun _ => ?_⟩
      rw [ecl]
      refine q_copy hA c (by omega) hab h rfl (fun ac' da' am' h' x hx => ?_)
      have e : p_m1 j1 (lLn A) k (p_mx j1 j2 (lLn A) (lLn B) k) = p_mx j1 j2 (lLn A) (lLn B) k ++ [60 * j1 + k] := by
        unfold p_m1
        rw [if_pos c]
      have j := J ac' da' am' (by rw [e]; exact h')
      rw [e, p_lenapp] at j
      rw [hx, w_suc]
      exact j
    · refine ⟨fun _ => ?_, fun q => absurd (w_leO (by omega) (by omega) (by omega)) q⟩
      have e : p_m1 j1 (lLn A) k (p_mx j1 j2 (lLn A) (lLn B) k) = p_mx j1 j2 (lLn A) (lLn B) k := by
        rw [p_m1, if_neg c]
      have j := J ac da am (by rw [e]; exact h)
      rw [e] at j
      exact j
theorem q_mxA_L {s : LSt} {j1 : Nat} {A : Led} (hA : RLd s j1 A) (hab : lLn A + lLn A ≤ 60) {X : Int32 → Int32 → (Nat → Int32) → (Nat → Int32) → (Nat → UInt64) → Prop} (hX : ∀ v ac da am, p_hold s (lK A) (p_mx j1 j1 (lLn A) (lLn A) (max (lLn A) (lLn A))) ac da am → X (Int32.ofNat (lLn A + lLn A)) v ac da am) : ∀ m k, k + m = lLn A → ∀ ac da am, p_hold s (lK A) (p_mx j1 j1 (lLn A) (lLn A) k) ac da am → wX1_mix_A_L85 (lK A) (lLn A) (lAc A) (lDa A) (lAm A) (Int32.ofNat (lLn A)) (Int32.ofNat (lLn A)) X (m + 1) (Int32.ofNat (p_mx j1 j1 (lLn A) (lLn A) k).length) (Int32.ofNat k) ac da am := by
  have ecl : (Int32.ofNat (lLn A) + Int32.ofNat (lLn A)).toNatClampNeg = lLn A + lLn A := by
    rw [← Int32.ofNat_add, w_cl (by omega)]
  have hmm : max (lLn A) (lLn A) = lLn A := by omega
  intro m
  induction m with
  | zero =>
    intro k hk2 ac da am h
    have e : k = lLn A := by omega
    refine w_max (by omega) (by omega) ?_
    rw [hmm]
    refine ⟨fun _ => ?_, fun c => absurd (w_leO (by omega) (by omega) (by omega)) c⟩
    rw [p_mx_len, e, show min (lLn A) (lLn A) + min (lLn A) (lLn A) = lLn A + lLn A by omega]
    rw [e] at h
    rw [hmm] at hX
    exact hX _ _ _ _ h
  | succ m ih =>
    intro k hk2 ac da am h
    have c : k < lLn A := by omega
    have hlen := p_mx_len j1 j1 (lLn A) (lLn A) k
    refine w_max (by omega) (by omega) ?_
    rw [hmm]
    refine ⟨fun c => absurd c (w_nleO (by omega) (by omega) (by omega)), fun _ => ⟨fun q => absurd q (w_nleO (by omega) (by omega) c), fun _ => ?_⟩⟩
    rw [ecl]
    refine q_copy hA c (by omega) hab h rfl (fun ac' da' am' h' x hx => ?_)
    unfold wX1_mix_A_J118
    rw [ecl, hx, w_suc (p_mx j1 j1 (lLn A) (lLn A) k).length, ← p_lenapp (p_mx j1 j1 (lLn A) (lLn A) k) (60 * j1 + k)]
    refine ⟨fun q => absurd q (w_nleO (by omega) (by omega) c), fun _ => ?_⟩
    refine q_copy hA c (by rw [p_lenapp]; omega) hab h' rfl (fun ac'' da'' am'' h'' x hx y hy => ?_)
    have e : p_mx j1 j1 (lLn A) (lLn A) (k + 1) = p_mx j1 j1 (lLn A) (lLn A) k ++ [60 * j1 + k] ++ [60 * j1 + k] := by
      show p_m1 j1 (lLn A) k (p_m1 j1 (lLn A) k _) = _
      unfold p_m1
      rw [if_pos c, if_pos c]
    have i := ih (k + 1) (by omega) ac'' da'' am'' (by rw [e]; exact h'')
    rw [e, p_lenapp] at i
    rw [hx, hy, w_suc, w_suc]
    exact i
theorem q3_mx_L {s : LSt} {j1 j2 : Nat} (h1 : j1 < 12) (h2 : j2 < 12) {A B : Led} (hA : RLd s j1 A) (hB : RLd s j2 B) (hab : lLn A + lLn B ≤ 60) {X : Int32 → (Nat → UInt64) → (Nat → Int32) → (Nat → Int32) → Int32 → Prop} (hX : ∀ v sa sc sd, p_spr s (p_mx j1 j2 (lLn A) (lLn B) (max (lLn A) (lLn B))) sa sc sd → X v sa sc sd (Int32.ofNat (lLn A + lLn B))) : ∀ m k, k + m = 60 → ∀ sa sc sd, p_spr s (p_mx j1 j2 (lLn A) (lLn B) k) sa sc sd → wX3_mix_L97 s.many s.amountOf s.accountOf s.dayOf (Int32.ofNat j1) (Int32.ofNat j2) X (m + 1) (Int32.ofNat k) sa sc sd (Int32.ofNat (p_mx j1 j2 (lLn A) (lLn B) k).length) := by
  have hmA := hA.2.1
  have hmB := hB.2.1
  intro m
  induction m with
  | zero =>
    intro k hk sa sc sd h
    have e : k = 60 := by omega
    refine ⟨fun _ => ?_, fun c => absurd (w_leO (a := 60) (by omega) (by omega) (by omega)) c⟩
    rw [p_mx_len, e, show min 60 (lLn A) + min 60 (lLn B) = lLn A + lLn B by omega]
    rw [p_mx_stop _ _ _ _ (by omega)] at h
    exact hX _ _ _ _ h
  | succ m ih =>
    intro k hk sa sc sd h
    have hlen := p_mx_len j1 j2 (lLn A) (lLn B) k
    have J : ∀ sa sc sd, p_spr s (p_m1 j1 (lLn A) k (p_mx j1 j2 (lLn A) (lLn B) k)) sa sc sd → wX3_mix_J122 s.many s.amountOf s.accountOf s.dayOf (Int32.ofNat j2) (Int32.ofNat k) (wX3_mix_L97 s.many s.amountOf s.accountOf s.dayOf (Int32.ofNat j1) (Int32.ofNat j2) X (m + 1)) sa sc sd (Int32.ofNat (p_m1 j1 (lLn A) k (p_mx j1 j2 (lLn A) (lLn B) k)).length) := by
      intro sa sc sd h
      have hl1 := p_m1_len j1 (lLn A) k (p_mx j1 j2 (lLn A) (lLn B) k)
      unfold wX3_mix_J122
      rw [w_cl (by omega), hmB]
      refine ⟨w_in h2 (by omega), ?_⟩
      by_cases c : k < lLn B
      · refine ⟨fun q => absurd q (w_nleO (by omega) (by omega) c), fun _ => ?_⟩
        have hl2 : (p_m1 j1 (lLn A) k (p_mx j1 j2 (lLn A) (lLn B) k)).length < 60 := by
          rw [hl1, hlen]
          by_cases d : k < lLn A
          · rw [if_pos d]; omega
          · rw [if_neg d]; omega
        refine q3_toSpare h2 (by omega) hl2 h (fun sa' sc' sd' h' x hx => ?_)
        have e : p_mx j1 j2 (lLn A) (lLn B) (k + 1) = p_m1 j1 (lLn A) k (p_mx j1 j2 (lLn A) (lLn B) k) ++ [60 * j2 + k] := by
          show p_m1 j2 (lLn B) k _ = _
          unfold p_m1
          rw [if_pos c]
        have i := ih (k + 1) (by omega) sa' sc' sd' (by rw [e]; exact h')
        rw [e, p_lenapp] at i
        rw [hx, w_suc]
        exact i
      · refine ⟨fun _ y hy => ?_, fun q => absurd (w_leO (by omega) (by omega) (by omega)) q⟩
        have e : p_mx j1 j2 (lLn A) (lLn B) (k + 1) = p_m1 j1 (lLn A) k (p_mx j1 j2 (lLn A) (lLn B) k) := by
          show p_m1 j2 (lLn B) k _ = _
          rw [p_m1, if_neg c]
        have i := ih (k + 1) (by omega) sa sc sd (by rw [e]; exact h)
        rw [e] at i
        rw [hy, w_suc]
        exact i
    unfold wX3_mix_L97
    rw [w_cl (by omega), hmA]
    refine ⟨fun c => absurd c (w_nleO (a := 60) (by omega) (by omega) (by omega)), fun _ => ⟨w_in h1 (by omega), ?_⟩⟩
    by_cases c : k < lLn A
    · refine ⟨fun q => absurd q (w_nleO (by omega) (by omega) c), fun _ => ?_⟩
      refine q3_toSpare h1 (by omega) (by omega) h (fun sa' sc' sd' h' => ?_)
      have e : p_m1 j1 (lLn A) k (p_mx j1 j2 (lLn A) (lLn B) k) = p_mx j1 j2 (lLn A) (lLn B) k ++ [60 * j1 + k] := by
        unfold p_m1
        rw [if_pos c]
      have j := J sa' sc' sd' (by rw [e]; exact h')
      rw [e, p_lenapp] at j
      exact j
    · refine ⟨fun _ => ?_, fun q => absurd (w_leO (by omega) (by omega) (by omega)) q⟩
      have e : p_m1 j1 (lLn A) k (p_mx j1 j2 (lLn A) (lLn B) k) = p_mx j1 j2 (lLn A) (lLn B) k := by
        rw [p_m1, if_neg c]
      have j := J sa sc sd (by rw [e]; exact h)
      rw [e] at j
      exact j
theorem p_mx3 {s : LSt} (hs : RR s) {p0 p1 p2 : Int32} {K : Int32 → Int32 → (Nat → Int32) → (Nat → Int32) → (Nat → UInt64) → (Nat → Int32) → (Nat → Int32) → (Nat → Int32) → (Nat → UInt64) → (Nat → Int32) → (Nat → Int32) → Int32 → Prop} (ko : ¬ vp_in p0 12 → K 0 2 s.many s.isWide s.amountOf s.accountOf s.dayOf s.given s.spareAmount s.spareAccount s.spareDay s.spare) (ko1 : vp_in p0 12 → ¬ vp_in p1 12 → K 0 2 s.many s.isWide s.amountOf s.accountOf s.dayOf s.given s.spareAmount s.spareAccount s.spareDay s.spare) (kn : vp_in p0 12 → vp_in p1 12 → cS s.cs p1.toNatClampNeg = none → K 0 1 s.many s.isWide s.amountOf s.accountOf s.dayOf s.given s.spareAmount s.spareAccount s.spareDay s.spare) (ko2 : ∀ A, vp_in p0 12 → vp_in p1 12 → cS s.cs p1.toNatClampNeg = some A → ¬ vp_in p2 12 → K 0 2 s.many s.isWide s.amountOf s.accountOf s.dayOf s.given s.spareAmount s.spareAccount s.spareDay s.spare) (kn2 : ∀ A, vp_in p0 12 → vp_in p1 12 → cS s.cs p1.toNatClampNeg = some A → vp_in p2 12 → cS s.cs p2.toNatClampNeg = none → K 0 1 s.many s.isWide s.amountOf s.accountOf s.dayOf s.given s.spareAmount s.spareAccount s.spareDay s.spare) (kk : ∀ A B, vp_in p0 12 → vp_in p1 12 → vp_in p2 12 → cS s.cs p1.toNatClampNeg = some A → cS s.cs p2.toNatClampNeg = some B → ¬ lK A = lK B → K (-104) 0 s.many s.isWide s.amountOf s.accountOf s.dayOf s.given s.spareAmount s.spareAccount s.spareDay s.spare) (kf : ∀ A B, vp_in p0 12 → vp_in p1 12 → vp_in p2 12 → cS s.cs p1.toNatClampNeg = some A → cS s.cs p2.toNatClampNeg = some B → lK A = lK B → ¬ lLn A + lLn B ≤ 60 → K (-103) 0 s.many s.isWide s.amountOf s.accountOf s.dayOf s.given s.spareAmount s.spareAccount s.spareDay s.spare) (kg : ∀ A B, vp_in p0 12 → vp_in p1 12 → vp_in p2 12 → cS s.cs p1.toNatClampNeg = some A → cS s.cs p2.toNatClampNeg = some B → lK A = lK B → lLn A + lLn B ≤ 60 → ∀ sa sc sd am ac da, p_spr s (p_mx p1.toNatClampNeg p2.toNatClampNeg (lLn A) (lLn B) (max (lLn A) (lLn B))) sa sc sd → (∀ l, l < lLn A + lLn B → am (60 * p0.toNatClampNeg + l) = sa l ∧ ac (60 * p0.toNatClampNeg + l) = sc l ∧ da (60 * p0.toNatClampNeg + l) = sd l) → (∀ j, (j < 60 * p0.toNatClampNeg ∨ 60 * p0.toNatClampNeg + 60 ≤ j) → am j = s.amountOf j ∧ ac j = s.accountOf j ∧ da j = s.dayOf j) → K (Int32.ofNat (lLn A + lLn B)) 0 (upd s.many p0.toNatClampNeg (Int32.ofNat (lLn A + lLn B))) (upd s.isWide p0.toNatClampNeg (vp_nar .boolean (s.isWide p1.toNatClampNeg))) am ac da (upd s.given p0.toNatClampNeg 0) sa sc sd (Int32.ofNat (lLn A + lLn B))) : wX3_mix p0 p1 p2 s.thrown s.many s.isWide s.amountOf s.accountOf s.dayOf s.given s.spareAmount s.spareAccount s.spareDay s.spare K := by
  refine p_in3 (fun a0 b0 => ⟨fun _ => ?_, fun h => absurd h (by decide)⟩) (fun q => ⟨fun h => absurd rfl h, fun _ => ⟨fun h => absurd h (by decide), fun _ => ko (fun v => ?_)⟩⟩)
  · have a0 : 0 ≤ p0.toInt := a0
    have b0 : p0.toInt ≤ 11 := b0
    have hin : vp_in p0 12 := vp_in_iff.mpr ⟨a0, by omega⟩
    obtain ⟨h12, e0⟩ := p_12 hin
    refine p_faultOf hs (fun A hc hin1 => ⟨fun _ => ?_, fun h => absurd rfl h⟩) (fun hin1 q => ⟨fun h => absurd h (by decide), fun _ => p_faultOf hs (fun A hc _ => by rw [q] at hc; cases hc) (fun _ _ => ⟨fun h => absurd h (by decide), fun _ => kn hin hin1 q⟩) (fun h => absurd hin1 h)⟩) (fun q => ⟨fun h => absurd h (by decide), fun _ => p_faultOf hs (fun A hc h => absurd h q) (fun h _ => absurd h q) (fun _ => ⟨fun h => absurd h (by decide), fun _ => ko1 hin q⟩)⟩)
    refine p_faultOf hs (fun B hd hin2 => ⟨fun _ => ⟨hin1, hin2, fun c => ⟨hin1, hin2, fun d => ⟨61, ?_⟩, fun d => ?_⟩, fun c => ?_⟩, fun h => absurd rfl h⟩) (fun hin2 q => ⟨fun h => absurd h (by decide), fun _ => kn2 A hin hin1 hc hin2 q⟩) (fun q => ⟨fun h => absurd h (by decide), fun _ => ko2 A hin hin1 hc q⟩)
    · obtain ⟨j12, f0⟩ := p_12 hin1
      obtain ⟨k12, g0⟩ := p_12 hin2
      have hA := p_row hs j12 hc
      have hB := p_row hs k12 hd
      have ek := (p_kw hA hB).mp c
      have ed : lLn A + lLn B ≤ 60 := by
        rw [hA.2.1, hB.2.1, ← Int32.ofNat_add] at d
        exact (w_leI (b := 60) (by have := hA.1; have := hB.1; omega) (by omega)).mp d
      have key := q3_mx_L j12 k12 hA hB ed (X := fun v4_34 spareAmount_35 spareAccount_36 spareDay_37 spare_38 => vp_in p1 12 ∧ (wX3_fromSpare p0 (s.isWide p1.toNatClampNeg) s.many s.isWide s.amountOf s.accountOf s.dayOf s.given spareAmount_35 spareAccount_36 spareDay_37 spare_38 (fun r_39 many_40 isWide_41 amountOf_42 accountOf_43 dayOf_44 given_45 => K r_39 0 many_40 isWide_41 amountOf_42 accountOf_43 dayOf_44 given_45 spareAmount_35 spareAccount_36 spareDay_37 spare_38))) (fun v sa sc sd hsp => ⟨hin1, ?_⟩) 60 0 (by omega) s.spareAmount s.spareAccount s.spareDay (fun x v hx => by cases hx)
      · rw [← f0, ← g0] at key
        exact key
      · have k2 := q3_fromSpare (s := s) (w := s.isWide p1.toNatClampNeg) h12 ed (sa := sa) (sc := sc) (sd := sd) (K := fun r_39 many_40 isWide_41 amountOf_42 accountOf_43 dayOf_44 given_45 => K r_39 0 many_40 isWide_41 amountOf_42 accountOf_43 dayOf_44 given_45 sa sc sd (Int32.ofNat (lLn A + lLn B))) (fun am ac da g1 g2 => kg A B hin hin1 hin2 hc hd ek ed sa sc sd am ac da hsp g1 g2)
        rw [← e0] at k2
        exact k2
    · obtain ⟨j12, f0⟩ := p_12 hin1
      obtain ⟨k12, g0⟩ := p_12 hin2
      have hA := p_row hs j12 hc
      have hB := p_row hs k12 hd
      refine kf A B hin hin1 hin2 hc hd ((p_kw hA hB).mp c) (fun q => d ?_)
      rw [hA.2.1, hB.2.1, ← Int32.ofNat_add]
      exact w_leO (b := 60) (by omega) (by omega) q
    · obtain ⟨j12, f0⟩ := p_12 hin1
      obtain ⟨k12, g0⟩ := p_12 hin2
      have hA := p_row hs j12 hc
      have hB := p_row hs k12 hd
      exact kk A B hin hin1 hin2 hc hd (fun q => c ((p_kw hA hB).mpr q))
  · have q : p0.toInt < 0 ∨ 11 < p0.toInt := q
    have := vp_in_iff.mp v
    omega
theorem p_c7 {ta : Nat → ClassId} {L : Nat} {xf : Nat → Int32} (hL : L ≤ 320) (v4 : Int32) (s : LSt) (hs : RR s) (h1 : 0 ≤ v4.toInt) (h2 : v4.toInt + 5 ≤ (L : Int)) : wL_7 (LSt.thrown s) (LSt.many s) (LSt.isWide s) (LSt.amountOf s) (LSt.accountOf s) (LSt.dayOf s) (LSt.given s) (LSt.givenOf s) (LSt.runs s) (LSt.runWide s) (LSt.runWay s) (LSt.runTotal s) (LSt.runSteps s) (LSt.lefts s) (LSt.rights s) (LSt.results s) (LSt.wide s) (LSt.dn s) (LSt.stepsAt s) (LSt.keeps s) (LSt.order s) (LSt.att s) (LSt.spareAmount s) (LSt.spareAccount s) (LSt.spareDay s) (LSt.cured s) (LSt.cureOf s) (LSt.shareOf s) (LSt.big s) (LSt.unitsOf s) (LSt.spare s) (LSt.halfFrom s) (LSt.halfMany s) (LSt.halfDone s) (LSt.halfTotal s) (LSt.isFar s) (LSt.of s) (LSt.cur s) (LSt.cs s) ta v4 xf L (LSt.cs s) (lst RR) := by
  have v1 := p_v (j := 1) hL h1 h2 (by decide)
  have v2 := p_v (j := 2) hL h1 h2 (by decide)
  have v3 := p_v (j := 3) hL h1 h2 (by decide)
  unfold wL_7
  refine ⟨v1, v2, v3, ?_⟩
  generalize xf (v4 + 1).toNatClampNeg = p0
  generalize xf (v4 + 2).toNatClampNeg = p1
  generalize xf (v4 + 3).toNatClampNeg = p2
  unfold wX0_mix bX1_mix
  have cnd : ∀ a b : Bool, cond a (1 : Int32) 0 = cond b 1 0 ↔ a = b := by decide
  refine ⟨fun hin => ⟨fun hin1 => ⟨fun A hc => ⟨fun hin2 => ⟨fun B hd => ⟨fun e => ⟨fun hab => ?_, fun hab => ?_⟩, fun e => ⟨fun hab => ?_, fun hab => ?_⟩⟩, fun hn => ?_⟩, fun hin2 => ?_⟩, fun hn => ?_⟩, fun hin1 => ?_⟩, fun hin => ?_⟩
  · obtain ⟨h12, e0⟩ := p_12 hin
    obtain ⟨j12, f0⟩ := p_12 hin1
    obtain ⟨k12, g0⟩ := p_12 hin2
    have e2 : p2 = p1 := by rw [g0, f0, e]
    subst e2
    have hA := p_row hs j12 hc
    have lab : Int32.ofNat (lLn A) + Int32.ofNat (lLn A) = Int32.ofNat (lLn A + lLn A) := (Int32.ofNat_add _ _).symm
    refine ⟨hin, hin1, p_cgs hs j12 hc, hin1, p_cgs hs j12 hc, p_wide1 (p_wide1 ⟨fun _ => ?_, fun q => absurd rfl q⟩)⟩
    rw [lab]
    refine ⟨fun _ => p_another rfl hab (fun a b1 b2 b3 b4 => ⟨rfl, lLn A + 1, ?_⟩), fun q => absurd (w_leO (b := 60) (by omega) (by omega) hab) q⟩
    rw [w_cl (by omega)]
    refine q_mxA_L hA hab (fun v ac9 da9 am9 hh => ⟨hin, fun f7 h7 y hy => ⟨p_z1, fun f hf => ⟨v1, v2, v3, ?_⟩⟩⟩) (lLn A) 0 (by omega) _ _ _ (fun x v hx => by cases hx)
    refine p_mx3 hs (fun q => absurd hin q) (fun _ q => absurd hin1 q) (fun _ _ q => by rw [hc] at q; cases q) (fun _ _ _ _ q => absurd hin1 q) (fun _ _ _ _ _ q => by rw [hc] at q; cases q) (fun A' B' _ _ _ q1 q2 q3 => by rw [hc] at q1 q2; cases q1; cases q2; exact absurd rfl q3) (fun A' B' _ _ _ q1 q2 _ q3 => by rw [hc] at q1 q2; cases q1; cases q2; exact absurd hab q3) (fun A' B' _ _ _ q1 q2 _ _ sa sc sd am ac da hsp g1 g2 => ?_)
    rw [hc] at q1 q2
    cases q1
    cases q2
    have hlen : (p_mx p2.toNatClampNeg p2.toNatClampNeg (lLn A) (lLn A) (max (lLn A) (lLn A))).length = lLn A + lLn A := by rw [p_mx_len]; omega
    refine p_okk rfl rfl p_z1 ((p_upd0 hf).trans hy) ?_
    have := p_cpS hs h12 (P := p_mx p2.toNatClampNeg p2.toNatClampNeg (lLn A) (lLn A) (max (lLn A) (lLn A))) (by omega) (fun v hv => by
      rcases p_mx_mem hv with ⟨l, a1, a2⟩ | ⟨l, a1, a2⟩ <;> (
        rw [a2]
        have x1 := hA.2.2.2.2.1 l a1
        have x2 := hA.2.2.2.2.2.1 l a1
        rw [← x1.1, ← x2.1]
        exact ⟨x1.2, x2.2⟩)) hh hsp (by rw [hlen]; exact g1) g2 (ad := (a, b1, b2, b3, b4)) (f := f) (th := 0) (spr := Int32.ofNat (lLn A + lLn A)) (qa := sa) (qc := sc) (qd := sd) hA.2.2.1
    rw [hlen] at this
    rw [h7]
    exact this
  · obtain ⟨h12, e0⟩ := p_12 hin
    obtain ⟨j12, f0⟩ := p_12 hin1
    obtain ⟨k12, g0⟩ := p_12 hin2
    have e2 : p2 = p1 := by rw [g0, f0, e]
    subst e2
    have hA := p_row hs j12 hc
    have hn := hA.1
    have lab : Int32.ofNat (lLn A) + Int32.ofNat (lLn A) = Int32.ofNat (lLn A + lLn A) := (Int32.ofNat_add _ _).symm
    refine ⟨hin, hin1, p_cgs hs j12 hc, hin1, p_cgs hs j12 hc, p_wide1 (p_wide1 ⟨fun _ => ?_, fun q => absurd rfl q⟩)⟩
    rw [lab]
    refine ⟨fun q => absurd ((w_leI (b := 60) (by omega) (by omega)).mp q) hab, fun _ y hy => ⟨p_z1, fun f hf => ⟨v1, v2, v3, ?_⟩⟩⟩
    exact p_mx3 hs (fun q => absurd hin q) (fun _ q => absurd hin1 q) (fun _ _ q => by rw [hc] at q; cases q) (fun _ _ _ _ q => absurd hin1 q) (fun _ _ _ _ _ q => by rw [hc] at q; cases q) (fun A' B' _ _ _ q1 q2 q3 => by rw [hc] at q1 q2; cases q1; cases q2; exact absurd rfl q3) (fun A' B' _ _ _ q1 q2 _ q3 => p_okk rfl rfl p_z1 ((p_upd0 hf).trans hy) (Or.inl hs)) (fun A' B' _ _ _ q1 q2 _ q3 => by rw [hc] at q1 q2; cases q1; cases q2; exact absurd q3 hab)
  · obtain ⟨hk, hab⟩ := hab
    obtain ⟨h12, e0⟩ := p_12 hin
    obtain ⟨j12, f0⟩ := p_12 hin1
    obtain ⟨k12, g0⟩ := p_12 hin2
    have hA := p_row hs j12 hc
    have hB := p_row hs k12 hd
    have lab : Int32.ofNat (lLn A) + Int32.ofNat (lLn B) = Int32.ofNat (lLn A + lLn B) := (Int32.ofNat_add _ _).symm
    refine ⟨hin, hin1, p_cgs hs j12 hc, hin2, p_cgs hs k12 hd, p_wide1 (p_wide1 ⟨fun _ => ?_, fun q => absurd ((cnd _ _).mpr hk) q⟩)⟩
    rw [lab]
    refine ⟨fun _ => p_another rfl hab (fun a b1 b2 b3 b4 => ⟨rfl, max (lLn A) (lLn B) + 1, ?_⟩), fun q => absurd (w_leO (b := 60) (by omega) (by omega) hab) q⟩
    rw [w_cl (by omega)]
    refine q_mx_L hA hB hk hab (fun v ac9 da9 am9 hh => ⟨hin, fun f7 h7 y hy => ⟨p_z1, fun f hf => ⟨v1, v2, v3, ?_⟩⟩⟩) (max (lLn A) (lLn B)) 0 (by omega) _ _ _ (fun x v hx => by cases hx)
    refine p_mx3 hs (fun q => absurd hin q) (fun _ q => absurd hin1 q) (fun _ _ q => by rw [hc] at q; cases q) (fun _ _ _ _ q => absurd hin2 q) (fun _ _ _ _ _ q => by rw [hd] at q; cases q) (fun A' B' _ _ _ q1 q2 q3 => by rw [hc] at q1; rw [hd] at q2; cases q1; cases q2; exact absurd hk q3) (fun A' B' _ _ _ q1 q2 _ q3 => by rw [hc] at q1; rw [hd] at q2; cases q1; cases q2; exact absurd hab q3) (fun A' B' _ _ _ q1 q2 _ _ sa sc sd am ac da hsp g1 g2 => ?_)
    rw [hc] at q1
    rw [hd] at q2
    cases q1
    cases q2
    have hlen : (p_mx p1.toNatClampNeg p2.toNatClampNeg (lLn A) (lLn B) (max (lLn A) (lLn B))).length = lLn A + lLn B := by rw [p_mx_len]; omega
    refine p_okk rfl rfl p_z1 ((p_upd0 hf).trans hy) ?_
    have := p_cpS hs h12 (P := p_mx p1.toNatClampNeg p2.toNatClampNeg (lLn A) (lLn B) (max (lLn A) (lLn B))) (by omega) (fun v hv => by
      rcases p_mx_mem hv with ⟨l, a1, a2⟩ | ⟨l, a1, a2⟩
      · rw [a2]
        have x1 := hA.2.2.2.2.1 l a1
        have x2 := hA.2.2.2.2.2.1 l a1
        rw [← x1.1, ← x2.1]
        exact ⟨x1.2, x2.2⟩
      · rw [a2]
        have x1 := hB.2.2.2.2.1 l a1
        have x2 := hB.2.2.2.2.2.1 l a1
        rw [← x1.1, ← x2.1]
        exact ⟨x1.2, x2.2⟩) hh hsp (by rw [hlen]; exact g1) g2 (ad := (a, b1, b2, b3, b4)) (f := f) (th := 0) (spr := Int32.ofNat (lLn A + lLn B)) (qa := sa) (qc := sc) (qd := sd) hA.2.2.1
    rw [hlen] at this
    rw [h7]
    exact this
  · obtain ⟨j12, f0⟩ := p_12 hin1
    obtain ⟨k12, g0⟩ := p_12 hin2
    have hA := p_row hs j12 hc
    have hB := p_row hs k12 hd
    have hn := hA.1
    have hn2 := hB.1
    have lab : Int32.ofNat (lLn A) + Int32.ofNat (lLn B) = Int32.ofNat (lLn A + lLn B) := (Int32.ofNat_add _ _).symm
    refine ⟨hin, hin1, p_cgs hs j12 hc, hin2, p_cgs hs k12 hd, p_wide1 (p_wide1 ⟨fun c => ?_, fun c y hy => ⟨p_z1, fun f hf => ⟨v1, v2, v3, ?_⟩⟩⟩)⟩
    · have hk := (cnd _ _).mp c
      rw [lab]
      refine ⟨fun q => absurd ⟨hk, (w_leI (b := 60) (by omega) (by omega)).mp q⟩ hab, fun _ y hy => ⟨p_z1, fun f hf => ⟨v1, v2, v3, ?_⟩⟩⟩
      exact p_mx3 hs (fun q => absurd hin q) (fun _ q => absurd hin1 q) (fun _ _ q => by rw [hc] at q; cases q) (fun _ _ _ _ q => absurd hin2 q) (fun _ _ _ _ _ q => by rw [hd] at q; cases q) (fun A' B' _ _ _ q1 q2 q3 => by rw [hc] at q1; rw [hd] at q2; cases q1; cases q2; exact absurd hk q3) (fun A' B' _ _ _ q1 q2 _ q3 => p_okk rfl rfl p_z1 ((p_upd0 hf).trans hy) (Or.inl hs)) (fun A' B' _ _ _ q1 q2 _ q3 => by rw [hc] at q1; rw [hd] at q2; cases q1; cases q2; exact absurd ⟨hk, q3⟩ hab)
    · have hk : ¬ lK A = lK B := fun q => c ((cnd _ _).mpr q)
      exact p_mx3 hs (fun q => absurd hin q) (fun _ q => absurd hin1 q) (fun _ _ q => by rw [hc] at q; cases q) (fun _ _ _ _ q => absurd hin2 q) (fun _ _ _ _ _ q => by rw [hd] at q; cases q) (fun A' B' _ _ _ q1 q2 q3 => p_okk rfl rfl p_z1 ((p_upd0 hf).trans hy) (Or.inl hs)) (fun A' B' _ _ _ q1 q2 q4 q3 => by rw [hc] at q1; rw [hd] at q2; cases q1; cases q2; exact absurd q4 hk) (fun A' B' _ _ _ q1 q2 q4 q3 => by rw [hc] at q1; rw [hd] at q2; cases q1; cases q2; exact absurd q4 hk)
  · obtain ⟨j12, f0⟩ := p_12 hin1
    obtain ⟨k12, g0⟩ := p_12 hin2
    refine ⟨hin, hin1, p_cgs hs j12 hc, fun q => absurd hin2 q, fun _ => ⟨p_cgn hs k12 hn, Or.inl ⟨rfl, v1, v2, v3, ?_⟩⟩⟩
    exact p_mx3 hs (fun q => absurd hin q) (fun _ q => absurd hin1 q) (fun _ _ q => by rw [hc] at q; cases q) (fun _ _ _ _ q => absurd hin2 q) (fun _ _ _ _ _ _ => p_ern rfl (by decide) (Or.inl hs)) (fun A' B' _ _ _ q1 q2 => by rw [hn] at q2; cases q2) (fun A' B' _ _ _ q1 q2 => by rw [hn] at q2; cases q2) (fun A' B' _ _ _ q1 q2 => by rw [hn] at q2; cases q2)
  · obtain ⟨j12, f0⟩ := p_12 hin1
    refine ⟨hin, hin1, p_cgs hs j12 hc, fun _ => Or.inr ⟨rfl, v1, v2, v3, ?_⟩, fun q => absurd q hin2⟩
    exact p_mx3 hs (fun q => absurd hin q) (fun _ q => absurd hin1 q) (fun _ _ q => by rw [hc] at q; cases q) (fun _ _ _ _ _ => p_ern rfl (by decide) (Or.inl hs)) (fun _ _ _ _ q => absurd q hin2) (fun A' B' _ _ q => absurd q hin2) (fun A' B' _ _ q => absurd q hin2) (fun A' B' _ _ q => absurd q hin2)
  · obtain ⟨j12, f0⟩ := p_12 hin1
    refine ⟨fun q => absurd hin q, fun _ => ⟨fun q => absurd hin1 q, fun _ => ⟨p_cgn hs j12 hn, Or.inl ⟨rfl, v1, v2, v3, ?_⟩⟩⟩⟩
    exact p_mx3 hs (fun q => absurd hin q) (fun _ q => absurd hin1 q) (fun _ _ _ => p_ern rfl (by decide) (Or.inl hs)) (fun _ _ _ q => by rw [hn] at q; cases q) (fun _ _ _ q => by rw [hn] at q; cases q) (fun A' B' _ _ _ q => by rw [hn] at q; cases q) (fun A' B' _ _ _ q => by rw [hn] at q; cases q) (fun A' B' _ _ _ q => by rw [hn] at q; cases q)
  · refine ⟨fun q => absurd hin q, fun _ => ⟨fun _ => Or.inr ⟨rfl, v1, v2, v3, ?_⟩, fun q => absurd q hin1⟩⟩
    exact p_mx3 hs (fun q => absurd hin q) (fun _ q => p_ern rfl (by decide) (Or.inl hs)) (fun _ q => absurd q hin1) (fun _ _ q => absurd q hin1) (fun _ _ q => absurd q hin1) (fun A' B' _ q => absurd q hin1) (fun A' B' _ q => absurd q hin1) (fun A' B' _ q => absurd q hin1)
  · refine ⟨fun _ => Or.inr ⟨rfl, v1, v2, v3, ?_⟩, fun q => absurd q hin⟩
    exact p_mx3 hs (fun _ => p_ern rfl (by decide) (Or.inl hs)) (fun q => absurd q hin) (fun q => absurd q hin) (fun _ q => absurd q hin) (fun _ q => absurd q hin) (fun A' B' q => absurd q hin) (fun A' B' q => absurd q hin) (fun A' B' q => absurd q hin)
