/-! the plain law: entries copied; filter. By hand (gen/242.plainu.src.txt) -/
theorem p_nb_bt {k : Bool} {v : UInt64} (h : zk k v) (hb : (zV v).natAbs ≤ 2 ^ 1174) : p_gd k (z_bt k v) ∧ p_nb k (z_bt k v) = v := by
  have hb2 : (zV v).natAbs ≤ 2 ^ 1201 := Nat.le_trans hb (Nat.pow_le_pow_right (by decide) (by decide))
  cases k
  · obtain ⟨a1, a2, a3, a4⟩ := zk_n h hb2
    have e : ((FP.d2f v).toInt32.toInt64).toInt32.toUInt32 = FP.d2f v := by
      have : ((FP.d2f v).toInt32.toInt64).toInt32 = (FP.d2f v).toInt32 := by
        rw [← Int32.toInt_inj, Int64.toInt_toInt32, Int32.toInt_toInt64]
        exact Int.bmod_eq_of_le (by have := (FP.d2f v).toInt32.le_toInt; omega) (by have := (FP.d2f v).toInt32.toInt_lt; omega)
      rw [this]
      rfl
    refine ⟨?_, ?_⟩
    · show ff ((FP.d2f v).toInt32.toInt64).toInt32.toUInt32 ∧ (fV ((FP.d2f v).toInt32.toInt64).toInt32.toUInt32).natAbs ≤ 2 ^ 1174
      rw [e, a3]
      exact ⟨a2, hb⟩
    · show FP.f2d ((FP.d2f v).toInt32.toInt64).toInt32.toUInt32 = v
      rw [e]
      exact a1
  · exact ⟨⟨h, hb⟩, rfl⟩
/-- an amount put where there's a place -/
theorem p_put {kd : Bool} {p1 : Int32} {p : Int64} {ln : Nat} {am : Nat → UInt64} {K : Int32 → (Nat → UInt64) → Prop} (hv : vp_in p1 ln) (hg : p_gd kd p) (hK : ∀ am', (∀ k, (k ≠ p1.toNatClampNeg → pVal kd (am' k) = pVal kd (am k) ∧ (pOk kd (am k) → pOk kd (am' k))) ∧ (k = p1.toNatClampNeg → pVal kd (am' k) = p_nb kd p ∧ pOk kd (am' k))) → K 1 am') : wL_put kd p1 p ln am K := by
  cases kd
  · have sameN : ∀ k, pVal false (amW (amN am) k) = pVal false (am k) ∧ (pOk false (am k) → pOk false (amW (amN am) k)) := by
      intro k
      refine ⟨?_, fun h => ?_⟩
      · show FP.f2d (amW (amN am) k).toUInt32 = FP.f2d (am k).toUInt32
        rw [p_amW]
      · show (amW (amN am) k).toUInt32 &&& 2147483647 ≤ 1904214016
        rw [p_amW]
        exact h
    refine ⟨hv, fun u1 hu1 => q11_bits f_c100.1 ⟨fun _ => ?_, fun c => absurd ((w_le31 (by decide)).mpr (f_ok.mpr hg)) c⟩⟩
    refine ⟨f_sni hg.1, fun r3 hr3 => ⟨hv, fun f4 hf4 => hK _ (fun k => ⟨fun hk => ?_, fun hk => ?_⟩)⟩⟩
    · have e : f4 k = amN am k := by rw [hf4]; exact if_neg hk
      have e2 : amW f4 k = amW (amN am) k := by show (f4 k).toUInt64 = _; rw [e]; rfl
      rw [e2]
      exact sameN k
    · have e : f4 k = p.toInt32.toUInt32 := by rw [hf4, hr3]; exact if_pos hk
      have e2 : (amW f4 k).toUInt32 = p.toInt32.toUInt32 := by
        show (f4 k).toUInt64.toUInt32 = _
        rw [e, ← UInt32.toNat_inj]
        simp
      refine ⟨?_, ?_⟩
      · show FP.f2d (amW f4 k).toUInt32 = FP.f2d p.toInt32.toUInt32
        rw [e2]
      · show (amW f4 k).toUInt32 &&& 2147483647 ≤ 1904214016
        rw [e2]
        exact f_ok.mpr hg
  · refine ⟨hv, fun u1 hu1 => q12_bits z_c100.1 ⟨fun _ => ?_, fun c => absurd ((w_le63 (by decide)).mpr (z_ok.mpr hg)) c⟩⟩
    refine ⟨z_snl hg.1, fun r3 hr3 => ⟨hv, fun f4 hf4 => hK _ (fun k => ⟨fun hk => ?_, fun hk => ?_⟩)⟩⟩
    · have e : f4 k = am k := by rw [hf4]; exact if_neg hk
      rw [e]
      exact ⟨rfl, fun h => h⟩
    · have e : f4 k = p.toUInt64 := by rw [hf4, hr3]; exact if_pos hk
      rw [e]
      exact ⟨rfl, z_ok.mpr hg⟩
/-- the component's new rows, the model's spare ones, hold the entries at the places P -/
def p_hold (s : LSt) (kd : Bool) (P : List Nat) (ac da : Nat → Int32) (am : Nat → UInt64) : Prop := ∀ x v : Nat, P[x]? = some v → (pVal kd (am x) = s.amountOf v ∧ pOk kd (am x)) ∧ ac x = s.accountOf v ∧ da x = s.dayOf v
def p_spr (s : LSt) (P : List Nat) (sa : Nat → UInt64) (sc sd : Nat → Int32) : Prop := ∀ x v : Nat, P[x]? = some v → sa x = s.amountOf v ∧ sc x = s.accountOf v ∧ sd x = s.dayOf v
theorem p_app {P : List Nat} {w x v : Nat} (h : (P ++ [w])[x]? = some v) : (x = P.length ∧ v = w) ∨ (x ≠ P.length ∧ P[x]? = some v) := by
  by_cases e : x < P.length
  · rw [List.getElem?_append_left e] at h
    exact Or.inr ⟨by omega, h⟩
  · rw [List.getElem?_append_right (by omega)] at h
    have hx : x - P.length = 0 := by
      by_cases q : x - P.length = 0
      · exact q
      · rw [List.getElem?_eq_none_iff.mpr (by show [w].length ≤ _; simp; omega)] at h
        cases h
    rw [hx] at h
    simp at h
    exact Or.inl ⟨by omega, h.symm⟩
theorem p_lenapp (P : List Nat) (w : Nat) : (P ++ [w]).length = P.length + 1 := by simp
theorem q_copy {s : LSt} {j k n : Nat} {B : Led} (hB : RLd s j B) (hk : k < lLn B) {P : List Nat} (hP : P.length < n) (hn : n ≤ 60) {ac da : Nat → Int32} {am : Nat → UInt64} (h : p_hold s (lK B) P ac da am) {kd : Bool} (hkd : kd = lK B) {K : (Nat → Int32) → (Nat → Int32) → (Nat → UInt64) → Prop} (hK : ∀ ac' da' am', p_hold s (lK B) (P ++ [60 * j + k]) ac' da' am' → K ac' da' am') : wX4_copy (Int32.ofNat P.length) (Int32.ofNat k) kd n ac da am (lK B) (lLn B) (lAc B) (lDa B) (lAm B) K := by
  have hb := p_amt hB hk
  have hn2 := hB.1
  have hvP : vp_in (Int32.ofNat P.length) n := w_in hP (by omega)
  have hvk : vp_in (Int32.ofNat k) (lLn B) := w_in hk (by omega)
  obtain ⟨a1, a2, a3⟩ := hB.2.2.2.2.1 k hk
  obtain ⟨d1, d2, d3⟩ := hB.2.2.2.2.2.1 k hk
  obtain ⟨g1, g2⟩ := p_nb_bt hb.1 hb.2
  subst hkd
  refine p_at hB hk (q_bits (zk_f hb.1) (Nat.le_trans hb.2 (Nat.pow_le_pow_right (by decide) (by decide))) (p_put hvP g1 (fun am' ham => ⟨hvk, hvk, fun x1 h1 => ⟨hvP, fun f2 h2 x3 h3 => ⟨hvP, fun f4 h4 => hK _ _ _ (fun x v hx => ?_)⟩⟩⟩)))
  rw [w_cl (by omega)] at h1 h2 h3 h4 ham
  rw [h1, p_narI a2 (by omega)] at h2
  rw [h3, p_narI d2 (by omega)] at h4
  rcases p_app hx with ⟨e1, e2⟩ | ⟨e1, e2⟩
  · subst e2
    obtain ⟨c1, c2⟩ := (ham x).2 e1
    refine ⟨⟨by rw [c1, g2], c2⟩, ?_, ?_⟩
    · rw [h2, e1, p_upd_eq, a1]
    · rw [h4, e1, p_upd_eq, d1]
  · obtain ⟨⟨c1, c2⟩, c3, c4⟩ := h x v e2
    obtain ⟨m1, m2⟩ := (ham x).1 e1
    exact ⟨⟨m1.trans c1, m2 c2⟩, by rw [h2, p_upd_ne e1]; exact c3, by rw [h4, p_upd_ne e1]; exact c4⟩
theorem q3_toSpare {s : LSt} {j k : Nat} (hj : j < 12) (hk : k < 60) {P : List Nat} (hP : P.length < 60) {sa : Nat → UInt64} {sc sd : Nat → Int32} (h : p_spr s P sa sc sd) {K : (Nat → UInt64) → (Nat → Int32) → (Nat → Int32) → Int32 → Prop} (hK : ∀ sa' sc' sd', p_spr s (P ++ [60 * j + k]) sa' sc' sd' → K sa' sc' sd' (Int32.ofNat (P.length + 1))) : wX3_toSpare (Int32.ofNat j) (Int32.ofNat k) s.amountOf s.accountOf s.dayOf sa sc sd (Int32.ofNat P.length) K := by
  obtain ⟨i1, i2⟩ := p_60 hj hk
  have hv : vp_in (Int32.ofNat P.length) 60 := w_in hP (by omega)
  unfold wX3_toSpare
  rw [i2, w_cl (by omega)]
  refine ⟨i1, fun r1 h1 => ⟨hv, fun s2 h2 => ⟨i1, fun x3 h3 => ⟨hv, fun s4 h4 => ⟨i1, fun x5 h5 => ⟨hv, fun s6 h6 x7 h7 => ?_⟩⟩⟩⟩⟩⟩
  rw [h7, w_suc]
  refine hK _ _ _ (fun x v hx => ?_)
  rw [h1] at h2
  rw [h3] at h4
  rw [h5] at h6
  rcases p_app hx with ⟨e1, e2⟩ | ⟨e1, e2⟩
  · subst e2
    rw [h2, h4, h6, e1]
    exact ⟨if_pos rfl, p_upd_eq, p_upd_eq⟩
  · obtain ⟨c1, c2, c3⟩ := h x v e2
    rw [h2, h4, h6]
    exact ⟨(if_neg e1).trans c1, (p_upd_ne e1).trans c2, (p_upd_ne e1).trans c3⟩
theorem q3_fromSpare_L {i c : Nat} (hi : i < 12) (hc : c ≤ 60) {sa : Nat → UInt64} {sc sd : Nat → Int32} {am0 : Nat → UInt64} {ac0 da0 : Nat → Int32} {X : Int32 → (Nat → UInt64) → (Nat → Int32) → (Nat → Int32) → Prop} (hX : ∀ v am ac da, (∀ l, l < c → am (60 * i + l) = sa l ∧ ac (60 * i + l) = sc l ∧ da (60 * i + l) = sd l) → (∀ j, (j < 60 * i ∨ 60 * i + 60 ≤ j) → am j = am0 j ∧ ac j = ac0 j ∧ da j = da0 j) → X v am ac da) : ∀ m k, k + m = c → ∀ am ac da, (∀ l, l < k → am (60 * i + l) = sa l ∧ ac (60 * i + l) = sc l ∧ da (60 * i + l) = sd l) → (∀ j, (j < 60 * i ∨ 60 * i + 60 ≤ j) → am j = am0 j ∧ ac j = ac0 j ∧ da j = da0 j) → wX3_fromSpare_L12 sa sc sd (Int32.ofNat c) (Int32.ofNat i) X (m + 1) (Int32.ofNat k) am ac da := by
  intro m
  induction m with
  | zero =>
    intro k hk am ac da h1 h2
    have e : k = c := by omega
    subst e
    exact ⟨fun _ => hX _ _ _ _ h1 h2, fun c => absurd (Int32.le_refl _) c⟩
  | succ m ih =>
    intro k hk am ac da h1 h2
    obtain ⟨i1, i2⟩ := p_60 hi (show k < 60 by omega)
    have hv : vp_in (Int32.ofNat k) 60 := w_in (by omega) (by omega)
    unfold wX3_fromSpare_L12
    rw [i2, w_cl (by omega)]
    refine ⟨fun c => absurd c (w_nleO (by omega) (by omega) (by omega)), fun _ => ⟨hv, fun r11 e11 => ⟨i1, fun a12 e12 => ⟨hv, fun x13 e13 => ⟨i1, fun a14 e14 => ⟨hv, fun x15 e15 => ⟨i1, fun a16 e16 x17 e17 => ?_⟩⟩⟩⟩⟩⟩⟩
    rw [e17, w_suc]
    refine ih (k + 1) (by omega) a12 a14 a16 (fun l hl => ?_) (fun j hj => ?_)
    · rw [e12, e14, e16, e11, e13, e15]
      simp only [vf_upd, upd]
      by_cases e : l = k
      · subst e
        rw [if_pos rfl, if_pos rfl, if_pos rfl]
        exact ⟨rfl, rfl, rfl⟩
      · rw [if_neg (by omega), if_neg (by omega), if_neg (by omega)]
        exact h1 l (by omega)
    · rw [e12, e14, e16]
      simp only [vf_upd, upd]
      rw [if_neg (by omega), if_neg (by omega), if_neg (by omega)]
      exact h2 j hj
theorem q3_fromSpare {s : LSt} {i c : Nat} (hi : i < 12) (hc : c ≤ 60) {w : Int32} {sa : Nat → UInt64} {sc sd : Nat → Int32} {K : Int32 → (Nat → Int32) → (Nat → Int32) → (Nat → UInt64) → (Nat → Int32) → (Nat → Int32) → (Nat → Int32) → Prop} (hK : ∀ am ac da, (∀ l, l < c → am (60 * i + l) = sa l ∧ ac (60 * i + l) = sc l ∧ da (60 * i + l) = sd l) → (∀ j, (j < 60 * i ∨ 60 * i + 60 ≤ j) → am j = s.amountOf j ∧ ac j = s.accountOf j ∧ da j = s.dayOf j) → K (Int32.ofNat c) (upd s.many i (Int32.ofNat c)) (upd s.isWide i (vp_nar .boolean w)) am ac da (upd s.given i 0)) : wX3_fromSpare (Int32.ofNat i) w s.many s.isWide s.amountOf s.accountOf s.dayOf s.given sa sc sd (Int32.ofNat c) K := p_fresh hi (fun am1 ac1 da1 hf => ⟨c + 1, q3_fromSpare_L hi hc (am0 := s.amountOf) (ac0 := s.accountOf) (da0 := s.dayOf) (fun _ am ac da h1 h2 => hK am ac da h1 h2) c 0 (by omega) am1 ac1 da1 (fun l hl => by omega) (fun j hj => hf.2 j hj)⟩)
/-- the leaf: rows copied -/
theorem p_cpS {s : LSt} (hs : RR s) {i : Nat} (hi : i < 12) {P : List Nat} (hP : P.length ≤ 60) (hPr : ∀ v, v ∈ P → (0 ≤ (s.accountOf v).toInt ∧ (s.accountOf v).toInt < 10) ∧ 0 ≤ (s.dayOf v).toInt ∧ (s.dayOf v).toInt < 31) {kd : Bool} {ac9 da9 : Nat → Int32} {am9 : Nat → UInt64} (hh : p_hold s kd P ac9 da9 am9) {sa : Nat → UInt64} {sc sd : Nat → Int32} (hsp : p_spr s P sa sc sd) {am : Nat → UInt64} {ac da : Nat → Int32} (h1 : ∀ l, l < P.length → am (60 * i + l) = sa l ∧ ac (60 * i + l) = sc l ∧ da (60 * i + l) = sd l) (h2 : ∀ j, (j < 60 * i ∨ 60 * i + 60 ≤ j) → am j = s.amountOf j ∧ ac j = s.accountOf j ∧ da j = s.dayOf j) {ad : Nat × Nat × Nat × Nat × Nat} {f : Nat → Int64} {th spr : Int32} {qa : Nat → UInt64} {qc qd : Nat → Int32} {w : Int32} (hw : w = cond kd 1 0) : lst RR th (upd s.many i (Int32.ofNat P.length)) (upd s.isWide i (vp_nar .boolean w)) am ac da (upd s.given i 0) s.givenOf s.runs s.runWide s.runWay s.runTotal s.runSteps s.lefts s.rights s.results s.wide s.dn s.stepsAt s.keeps s.order s.att qa qc qd s.cured s.cureOf s.shareOf s.big s.unitsOf spr s.halfFrom s.halfMany s.halfDone s.halfTotal s.isFar f s.cur ((upO (cS s.cs) i (some (ad, kd, 0, P.length, ac9, da9, (fun _ => 0), am9))), (cT s.cs), va_up (cG s.cs) i (some ad.1), ((cLm s.cs), (cLz s.cs), (cLa s.cs)), (cW1 s.cs), (cW2 s.cs), (cW3 s.cs), (cSh s.cs)) := by
  subst hw
  refine Or.inl (p_new (B := (ad, kd, 0, P.length, ac9, da9, (fun _ => 0), am9)) hs hi rfl rfl ⟨hP, p_upd_eq, ?_, fun k hk => ?_, fun k hk => ?_, fun k hk => ?_, ?_⟩ (p_oth (fun j hj => ⟨p_upd_ne hj, p_upd_ne hj, p_upd_ne hj⟩) h2 rfl) rfl rfl rfl rfl (fun _ _ h => h) rfl rfl rfl rfl rfl)
  · show upd s.isWide i _ i = cond kd 1 0
    rw [p_upd_eq, p_bool]
  · have hk : k < P.length := hk
    have hx := List.getElem?_eq_getElem hk
    obtain ⟨c1, c2, c3⟩ := hh k _ hx
    obtain ⟨d1, d2, d3⟩ := hsp k _ hx
    refine ⟨?_, c1.2⟩
    show pVal kd (am9 k) = am (60 * i + k)
    rw [c1.1, (h1 k hk).1, d1]
  · have hk : k < P.length := hk
    have hx := List.getElem?_eq_getElem hk
    obtain ⟨c1, c2, c3⟩ := hh k _ hx
    obtain ⟨d1, d2, d3⟩ := hsp k _ hx
    have hr := hPr _ (List.getElem_mem hk)
    show ac9 k = ac (60 * i + k) ∧ 0 ≤ (ac9 k).toInt ∧ (ac9 k).toInt < 10
    rw [c2]
    exact ⟨by rw [(h1 k hk).2.1, d2], hr.1.1, hr.1.2⟩
  · have hk : k < P.length := hk
    have hx := List.getElem?_eq_getElem hk
    obtain ⟨c1, c2, c3⟩ := hh k _ hx
    obtain ⟨d1, d2, d3⟩ := hsp k _ hx
    have hr := hPr _ (List.getElem_mem hk)
    show da9 k = da (60 * i + k) ∧ 0 ≤ (da9 k).toInt ∧ (da9 k).toInt < 31
    rw [c3]
    exact ⟨by rw [(h1 k hk).2.2, d3], hr.2.1, hr.2.2⟩
  · refine ⟨p_upd_eq.symm, Int.le_refl _, Int.natCast_nonneg _, fun k hk => ?_⟩
    have hk : (k : Int) < (0 : Int32).toInt := hk
    rw [Int32.toInt_zero] at hk
    omega
/-! filter -/
def p_fs (s : LSt) (j : Nat) (p2 : Int32) (k : Nat) : Bool := decide (p2 = -1 ∨ s.accountOf (60 * j + k) = p2)
def p_fl (s : LSt) (j : Nat) (p2 : Int32) : Nat → List Nat
  | 0 => []
  | k + 1 => if p_fs s j p2 k then p_fl s j p2 k ++ [60 * j + k] else p_fl s j p2 k
theorem p_fl_len (s : LSt) (j : Nat) (p2 : Int32) (k : Nat) : (p_fl s j p2 k).length ≤ k := by
  induction k with
  | zero => exact Nat.le_refl _
  | succ k ih =>
    show (if p_fs s j p2 k then _ else _ : List Nat).length ≤ _
    split
    · rw [p_lenapp]; omega
    · omega
theorem p_fl_mono (s : LSt) (j : Nat) (p2 : Int32) {k n : Nat} (h : k ≤ n) : (p_fl s j p2 k).length ≤ (p_fl s j p2 n).length := by
  induction n with
  | zero => rw [show k = 0 by omega]; exact Nat.le_refl _
  | succ n ih =>
    by_cases e : k = n + 1
    · rw [e]; exact Nat.le_refl _
    · have i := ih (by omega)
      show _ ≤ (if p_fs s j p2 n then _ else _ : List Nat).length
      split
      · rw [p_lenapp]; omega
      · exact i
theorem p_fl_mem {s : LSt} {j : Nat} {p2 : Int32} {k v : Nat} (h : v ∈ p_fl s j p2 k) : ∃ l, l < k ∧ v = 60 * j + l := by
  induction k with
  | zero => cases h
  | succ k ih =>
    have h : v ∈ (if p_fs s j p2 k then p_fl s j p2 k ++ [60 * j + k] else p_fl s j p2 k) := h
    split at h
    · rcases List.mem_append.mp h with q | q
      · obtain ⟨l, a, b⟩ := ih q
        exact ⟨l, by omega, b⟩
      · exact ⟨k, by omega, by simpa using q⟩
    · obtain ⟨l, a, b⟩ := ih h
      exact ⟨l, by omega, b⟩
theorem p_fl_yes {s : LSt} {j : Nat} {p2 : Int32} {k : Nat} (h : p2 = -1 ∨ s.accountOf (60 * j + k) = p2) : p_fl s j p2 (k + 1) = p_fl s j p2 k ++ [60 * j + k] := by
  show (if p_fs s j p2 k then _ else _) = _
  rw [if_pos (show p_fs s j p2 k = true from decide_eq_true h)]
theorem p_fl_no {s : LSt} {j : Nat} {p2 : Int32} {k : Nat} (h : ¬ (p2 = -1 ∨ s.accountOf (60 * j + k) = p2)) : p_fl s j p2 (k + 1) = p_fl s j p2 k := by
  show (if p_fs s j p2 k then _ else _) = _
  rw [if_neg (by rw [p_fs, decide_eq_true_iff]; exact h)]
theorem q_fl_L39 {s : LSt} {j : Nat} {A : Led} (hA : RLd s j A) {p2 : Int32} {X : Int32 → Int32 → Prop} (hX : ∀ v, X (Int32.ofNat (p_fl s j p2 (lLn A)).length) v) : ∀ m k, k + m = lLn A → wX1_filter_L39 (lLn A) (lAc A) p2 X (m + 1) (Int32.ofNat (p_fl s j p2 k).length) (Int32.ofNat k) := by
  have hn := hA.1
  intro m
  induction m with
  | zero =>
    intro k hk
    have e : k = lLn A := by omega
    subst e
    exact ⟨fun _ => hX _, fun c => absurd (Int32.le_refl _) c⟩
  | succ m ih =>
    intro k hk
    have i := ih (k + 1) (by omega)
    have ea := (hA.2.2.2.2.1 k (by omega)).1
    have hv : vp_in (Int32.ofNat k) (lLn A) := w_in (by omega) (by omega)
    refine ⟨fun c => absurd c (w_nleO (by omega) (by omega) (by omega)), fun _ => ⟨fun c x hx y hy => ?_, fun c => ⟨hv, fun d x hx y hy => ?_, fun d x hx y hy => ?_⟩⟩⟩
    · rw [p_fl_yes (Or.inl c), p_lenapp] at i
      rw [hx, hy, w_suc, w_suc]
      exact i
    · rw [w_cl (by omega), ea] at d
      rw [p_fl_no (fun q => by rcases q with q | q; exact c q; exact d q)] at i
      rw [hx, hy, Int32.add_zero, w_suc]
      exact i
    · rw [w_cl (by omega), ea] at d
      rw [p_fl_yes (Or.inr d), p_lenapp] at i
      rw [hx, hy, w_suc, w_suc]
      exact i
theorem q_fl_L96 {s : LSt} {j : Nat} {A : Led} (hA : RLd s j A) {p2 : Int32} {X : Int32 → Int32 → (Nat → Int32) → (Nat → Int32) → (Nat → UInt64) → Prop} (hX : ∀ u v ac da am, p_hold s (lK A) (p_fl s j p2 (lLn A)) ac da am → X u v ac da am) : ∀ m k, k + m = lLn A → ∀ ac da am, p_hold s (lK A) (p_fl s j p2 k) ac da am → wX1_filter_L96 (lK A) (lLn A) (lAc A) (lDa A) (lAm A) p2 (Int32.ofNat (p_fl s j p2 (lLn A)).length) X (m + 1) (Int32.ofNat (p_fl s j p2 k).length) (Int32.ofNat k) ac da am := by
  have hn := hA.1
  have hl := p_fl_len s j p2 (lLn A)
  intro m
  induction m with
  | zero =>
    intro k hk ac da am h
    have e : k = lLn A := by omega
    subst e
    exact ⟨fun _ => hX _ _ _ _ _ h, fun c => absurd (Int32.le_refl _) c⟩
  | succ m ih =>
    intro k hk ac da am h
    have ea := (hA.2.2.2.2.1 k (by omega)).1
    have hv : vp_in (Int32.ofNat k) (lLn A) := w_in (by omega) (by omega)
    have step : (p2 = -1 ∨ s.accountOf (60 * j + k) = p2) → wX4_copy (Int32.ofNat (p_fl s j p2 k).length) (Int32.ofNat k) (lK A) (Int32.ofNat (p_fl s j p2 (lLn A)).length).toNatClampNeg ac da am (lK A) (lLn A) (lAc A) (lDa A) (lAm A) (fun ac' da' am' => ∀ x : Int32, x = Int32.ofNat (p_fl s j p2 k).length + 1 → ∀ y : Int32, y = Int32.ofNat k + 1 → wX1_filter_L96 (lK A) (lLn A) (lAc A) (lDa A) (lAm A) p2 (Int32.ofNat (p_fl s j p2 (lLn A)).length) X (m + 1) x y ac' da' am') := by
      intro hsel
      have hlt : (p_fl s j p2 k).length < (p_fl s j p2 (lLn A)).length := by
        have := p_fl_mono s j p2 (show k + 1 ≤ lLn A by omega)
        rw [p_fl_yes hsel, p_lenapp] at this
        omega
      rw [w_cl (by omega)]
      refine q_copy hA (by omega) hlt (by omega) h rfl (fun ac' da' am' h' x hx y hy => ?_)
      rw [← p_fl_yes hsel] at h'
      have i := ih (k + 1) (by omega) ac' da' am' h'
      rw [p_fl_yes hsel, p_lenapp] at i
      rw [hx, hy, w_suc, w_suc]
      exact i
    refine ⟨fun c => absurd c (w_nleO (by omega) (by omega) (by omega)), fun _ => ⟨fun c => step (Or.inl c), fun c => ⟨hv, fun d y hy => ?_, fun d => ?_⟩⟩⟩
    · rw [w_cl (by omega), ea] at d
      have e := p_fl_no (s := s) (j := j) (p2 := p2) (k := k) (fun q => by rcases q with q | q; exact c q; exact d q)
      have i := ih (k + 1) (by omega) ac da am (by rw [e]; exact h)
      rw [e] at i
      rw [hy, w_suc]
      exact i
    · rw [w_cl (by omega), ea] at d
      exact step (Or.inr d)
theorem q3_fl_L {s : LSt} {j : Nat} (hj : j < 12) {A : Led} (hA : RLd s j A) {p2 : Int32} (hp2 : p2 < 0 ↔ p2 = -1) {X : Int32 → (Nat → UInt64) → (Nat → Int32) → (Nat → Int32) → Int32 → Prop} (hX : ∀ v sa sc sd, p_spr s (p_fl s j p2 (lLn A)) sa sc sd → X v sa sc sd (Int32.ofNat (p_fl s j p2 (lLn A)).length)) : ∀ m k, k + m = lLn A → ∀ sa sc sd, p_spr s (p_fl s j p2 k) sa sc sd → wX3_filter_L64 s.many s.amountOf s.accountOf s.dayOf (Int32.ofNat j) p2 X (m + 1) (Int32.ofNat k) sa sc sd (Int32.ofNat (p_fl s j p2 k).length) := by
  have hn := hA.1
  have hm := hA.2.1
  intro m
  induction m with
  | zero =>
    intro k hk sa sc sd h
    have e : k = lLn A := by omega
    subst e
    unfold wX3_filter_L64
    rw [w_cl (by omega), hm]
    exact ⟨w_in hj (by omega), fun _ => hX _ _ _ _ h, fun c => absurd (Int32.le_refl _) c⟩
  | succ m ih =>
    intro k hk sa sc sd h
    have hl := p_fl_len s j p2 k
    obtain ⟨i1, i2⟩ := p_60 hj (show k < 60 by omega)
    unfold wX3_filter_L64
    rw [w_cl (by omega), hm, i2]
    have step : (p2 = -1 ∨ s.accountOf (60 * j + k) = p2) → wX3_toSpare (Int32.ofNat j) (Int32.ofNat k) s.amountOf s.accountOf s.dayOf sa sc sd (Int32.ofNat (p_fl s j p2 k).length) (fun sa' sc' sd' c' => ∀ x : Int32, x = Int32.ofNat k + 1 → wX3_filter_L64 s.many s.amountOf s.accountOf s.dayOf (Int32.ofNat j) p2 X (m + 1) x sa' sc' sd' c') := by
      intro hsel
      refine q3_toSpare hj (by omega) (by omega) h (fun sa' sc' sd' h' x hx => ?_)
      rw [← p_fl_yes hsel] at h'
      have i := ih (k + 1) (by omega) sa' sc' sd' h'
      rw [p_fl_yes hsel, p_lenapp] at i
      rw [hx, w_suc]
      exact i
    refine ⟨w_in hj (by omega), fun c => absurd c (w_nleO (by omega) (by omega) (by omega)), fun _ => ⟨fun c => step (Or.inl (hp2.mp c)), fun c => ⟨i1, fun d x hx => ?_, fun d => step (Or.inr d)⟩⟩⟩
    have e := p_fl_no (s := s) (j := j) (p2 := p2) (k := k) (fun q => by rcases q with q | q; exact c (hp2.mpr q); exact d q)
    have i := ih (k + 1) (by omega) sa sc sd (by rw [e]; exact h)
    rw [e] at i
    rw [hx, w_suc]
    exact i
