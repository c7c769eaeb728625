/-! the plain law: extreme, reach. By hand (gen/272.orders5.src.txt) -/
theorem o_re_all {s : LSt} {i : Nat} {k : Bool} {w : UInt64} {a : List Nat} {L : List (List Nat)} : (o_re s i k w (FP.dconst0, FP.dconst0, 0, 0) [] (a :: L)).1 = o_bs s i k false (p_ot s i k a) L ∧ (o_re s i k w (FP.dconst0, FP.dconst0, 0, 0) [] (a :: L)).2.1 = o_bs s i k true (p_ot s i k a) L ∧ (o_re s i k w (FP.dconst0, FP.dconst0, 0, 0) [] (a :: L)).2.2.2 = if (a :: L).any (fun t => decide (zV (p_ot s i k t) = zV w)) then 1 else 0 := by
  obtain ⟨a1, a2, a3⟩ := o_re_bs (s := s) (i := i) (k := k) (w := w) L (o_up w (FP.dconst0, FP.dconst0, 0, 0) (p_ot s i k a)) rfl
  have e1 : (o_up w (FP.dconst0, FP.dconst0, 0, 0) (p_ot s i k a)).1 = p_ot s i k a := by
    show (if (0 : Int32) = 0 then p_ot s i k a else p_pk false FP.dconst0 (p_ot s i k a)) = _
    rw [if_pos rfl]
  have e2 : (o_up w (FP.dconst0, FP.dconst0, 0, 0) (p_ot s i k a)).2.1 = p_ot s i k a := by
    show (if (0 : Int32) = 0 then p_ot s i k a else p_pk true FP.dconst0 (p_ot s i k a)) = _
    rw [if_pos rfl]
  have e3 : (o_up w (FP.dconst0, FP.dconst0, 0, 0) (p_ot s i k a)).2.2.2 = if zV (p_ot s i k a) = zV w then 1 else 0 := rfl
  rw [e1] at a1
  rw [e2] at a2
  rw [e3] at a3
  refine ⟨a1, a2, a3.trans ?_⟩
  rw [List.any_cons]
  by_cases c : zV (p_ot s i k a) = zV w
  · rw [if_pos c, decide_eq_true c, Bool.true_or, if_pos rfl]
    split <;> rfl
  · rw [if_neg c, decide_eq_false c, Bool.false_or]
/-- the least (greatest) total of all orders -/
def o_ext (s : LSt) (i : Nat) (A : Led) (g : Bool) : UInt64 := match o_all (lLn A) (List.range (lLn A)) with
  | [] => FP.dconst0
  | a :: L => o_bs s i (lK A) g (p_ot s i (lK A) a) L
/-- whether an order comes to w -/
def o_rch (s : LSt) (i : Nat) (A : Led) (w : UInt64) : Bool := (o_all (lLn A) (List.range (lLn A))).any (fun t => decide (zV (p_ot s i (lK A) t) = zV w))
theorem o_range_ok {A : Led} {s : LSt} {i : Nat} (h : RLd s i A) : (List.range (lLn A)).length ≤ 60 ∧ ∀ y, y ∈ List.range (lLn A) → y < lLn A := ⟨by rw [List.length_range]; exact h.1, fun y hy => List.mem_range.mp hy⟩
theorem o_all_ok {A : Led} {s : LSt} {i : Nat} (h : RLd s i A) : ∀ t, t ∈ o_all (lLn A) (List.range (lLn A)) → t.length ≤ 60 ∧ ∀ y, y ∈ t → y < lLn A := fun t ht => by
  obtain ⟨m1, m2⟩ := o_all_mem _ _ t ht
  exact ⟨by rw [m1]; exact h.1, fun y hy => List.mem_range.mp (m2 y hy)⟩
theorem o_ext_ok {A : Led} {s : LSt} {i : Nat} (h : RLd s i A) {g : Bool} : zf (o_ext s i A g) ∧ (zV (o_ext s i A g)).natAbs ≤ 2 ^ 1201 := by
  have pw := p_60_1200
  have pw2 : (2 : Nat) ^ 1200 ≤ 2 ^ 1201 := Nat.pow_le_pow_right (by decide) (by decide)
  have hm := o_all_ok h
  unfold o_ext
  cases e : o_all (lLn A) (List.range (lLn A)) with
  | nil =>
    refine ⟨z_0.1, ?_⟩
    show (zV FP.dconst0).natAbs ≤ _
    rw [z_0.2.1]
    exact Nat.zero_le _
  | cons a L =>
    rw [e] at hm
    obtain ⟨m1, m2⟩ := hm a List.mem_cons_self
    have := o_bs_ok h (g := g) L (p_ot s i (lK A) a) (p_ot_zf h m1 m2) (fun t ht => hm t (List.mem_cons_of_mem _ ht))
    exact ⟨this.1, Nat.le_trans this.2 (Nat.le_trans pw pw2)⟩
/-- the component's walk of all orders -/
theorem q25_all {s : LSt} {i : Nat} {A : Led} (h : RLd s i A) (h7 : lLn A ≤ 7) {w : UInt64} (hw : zf w) {K : UInt64 → UInt64 → Int32 → Int32 → (Nat → Int32) → Prop} (hK : ∀ c o, K (o_ext s i A false) (o_ext s i A true) c (if o_rch s i A w then 1 else 0) o) : wX25_go 9 0 FP.dconst0 (Int32.ofNat (lLn A)) FP.dconst0 FP.dconst0 0 w 0 (fun _ => 0) (lK A) (lLn A) (lAm A) K := by
  refine q25_go h h7 hw (lLn A) 9 (by omega) [] (fun _ => 0) (FP.dconst0, FP.dconst0, 0, 0) (by show 0 + lLn A = lLn A; omega) (fun y q => by cases q) ⟨⟨z_0.1, z_0.1⟩, Or.inl rfl⟩ K (fun ois' _ _ => ?_)
  obtain ⟨L, eL⟩ := o_hd h7
  obtain ⟨a1, a2, a3⟩ := o_re_all (s := s) (i := i) (k := lK A) (w := w) (a := List.range (lLn A)) (L := L)
  have x1 : o_ext s i A false = o_bs s i (lK A) false (p_ot s i (lK A) (List.range (lLn A))) L := by unfold o_ext; rw [eL]
  have x2 : o_ext s i A true = o_bs s i (lK A) true (p_ot s i (lK A) (List.range (lLn A))) L := by unfold o_ext; rw [eL]
  have x3 : (if o_rch s i A w then (1 : Int32) else 0) = if (List.range (lLn A) :: L).any (fun t => decide (zV (p_ot s i (lK A) t) = zV w)) then 1 else 0 := by unfold o_rch; rw [eL]
  rw [o_fr0, eL, a1, a2, a3, ← x1, ← x2, ← x3]
  exact hK _ _
theorem q3_ext_L {s : LSt} {i : Nat} {A : Led} (hi : i < 12) (h : RLd s i A) {g : Bool} {p1 wide : Int32} (hg : p1 = 0 ↔ g = false) (hw : wide = 0 ↔ lK A = false) {X : UInt64 → (Nat → Int32) → Prop} : ∀ (L : List (List Nat)) (a : List Nat) (o : Nat → Int32) (b : UInt64), o_chk (lLn A) (a :: L) = true → o_rel (lLn A) a o → zf b → (∀ o', X (o_bs s i (lK A) g b L) o') → wX3_extreme_L50 s.many s.amountOf (Int32.ofNat i) p1 wide X (L.length + 1) b o := by
  have hn := h.1
  have hm := h.2.1
  intro L
  induction L with
  | nil =>
    intro a o b hc hr hb hX
    unfold wX3_extreme_L50
    rw [w_cl (by omega), hm]
    exact ⟨w_in hi (by omega), q3_next hr (by omega) (fun _ => ⟨fun _ => hX _, fun c => absurd rfl c⟩) (fun l' o' e _ => by rw [o_chk_1 hc] at e; cases e)⟩
  | cons t L ih =>
    intro a o b hc hr hb hX
    obtain ⟨c1, c2⟩ := o_chk_2 hc
    have e1 : (t :: L).length + 1 = (L.length + 1) + 1 := rfl
    rw [e1]
    unfold wX3_extreme_L50
    rw [w_cl (by omega), hm]
    refine ⟨w_in hi (by omega), q3_next hr (by omega) (fun e => by rw [c1] at e; cases e) (fun l' o' e hr' => ⟨fun c => absurd c (by decide), fun _ => ⟨w_in hi (by omega), ?_⟩⟩)⟩
    rw [c1] at e
    have e := Option.some.inj e
    subst e
    obtain ⟨m1, m2⟩ := o_rel_mem hr'
    have hz := (p_ot_zf h (show t.length ≤ 60 by omega) m2).1
    refine q3_ofOrder hi h hr' rfl hw ⟨fun c => ?_, fun c => ?_⟩
    · have hgf := hg.mp c
      subst hgf
      exact q3_lesser hb hz (ih t o' _ c2 hr' (p_pk_zf hb hz) hX)
    · have hgf : g = true := by
        cases g
        · exact absurd (hg.mpr rfl) c
        · rfl
      subst hgf
      exact q3_greater hb hz (ih t o' _ c2 hr' (p_pk_zf hb hz) hX)
theorem p_le60 {n m : Nat} (hn : n ≤ 60) (hm : m ≤ 60) : Int32.ofNat n ≤ Int32.ofNat m ↔ n ≤ m := w_leI (by omega) (by omega)
theorem p_extM {s : LSt} (hs : RR s) {p0 p1 thrown wide : Int32} {order : Nat → Int32} {g : Bool} (hg : p1 = 0 ↔ g = false) {K : Int64 → Int32 → Int32 → (Nat → Int32) → Prop} (k0 : ¬ vp_in p0 12 → K 0 2 wide order) (k1 : vp_in p0 12 → cS s.cs p0.toNatClampNeg = none → K 0 1 wide order) (k2 : ∀ A, vp_in p0 12 → cS s.cs p0.toNatClampNeg = some A → ¬ lLn A ≤ 7 → K (-104) 0 wide order) (k3 : ∀ A, vp_in p0 12 → cS s.cs p0.toNatClampNeg = some A → lLn A ≤ 7 → ∀ w o, K (z_bt (lK A) (o_ext s p0.toNatClampNeg A g)) 0 w o) : wX3_extreme p0 p1 thrown s.many s.isWide s.amountOf wide order K := by
  refine p_faultOf hs (fun A hc hin => ⟨fun _ => ?_, fun q => absurd rfl q⟩) (fun hin hn => ⟨fun q => absurd q (by decide), fun _ => k1 hin hn⟩) (fun hin => ⟨fun q => absurd q (by decide), fun _ => k0 hin⟩)
  obtain ⟨h12, e0⟩ := p_12 hin
  have hA := p_row hs h12 hc
  have hn := hA.1
  have hm := hA.2.1
  have hw := p_wide hA
  refine ⟨hin, fun c7 => ?_, fun c7 => ?_⟩
  · rw [hm] at c7
    have c7 : lLn A ≤ 7 := (p_le60 (m := 7) hn (by decide)).mp c7
    obtain ⟨L, eL⟩ := o_hd c7
    obtain ⟨r1, r2⟩ := o_range_ok hA
    have hz0 := (p_ot_zf hA r1 r2).1
    have f1 := fun (K : Int32 → (Nat → Int32) → Prop) => q3_first h12 hA (wide := wide) (o := order) (K := K)
    have f2 := fun (o : Nat → Int32) (hr : o_rel (lLn A) (List.range (lLn A)) o) (K : UInt64 → Prop) => q3_ofOrder h12 hA hr rfl hw (K := K)
    have f3 := fun (X : UInt64 → (Nat → Int32) → Prop) => q3_ext_L h12 hA hg hw (X := X)
    rw [← e0] at f1 f2 f3
    refine f1 _ (fun o' ho' => ⟨hin, ?_⟩)
    rw [hm]
    refine f2 o' ho' _ ⟨L.length + 1, f3 _ L (List.range (lLn A)) o' _ (by rw [← eL]; exact o_run c7) ho' hz0 (fun o'' => ⟨hin, ?_⟩)⟩
    have ok := o_ext_ok hA (g := g)
    have x1 : o_ext s p0.toNatClampNeg A g = o_bs s p0.toNatClampNeg (lK A) g (p_ot s p0.toNatClampNeg (lK A) (List.range (lLn A))) L := by unfold o_ext; rw [eL]
    have k3 := k3 A hin hc c7
    rw [← x1]
    exact q3_bitsOf hw ok.1 ok.2 (k3 _ _)
  · rw [hm] at c7
    exact k2 A hin hc (fun q => c7 ((p_le60 (m := 7) hn (by decide)).mpr q))
theorem p_extC {s : LSt} (hs : RR s) {ta : Nat → ClassId} {p0 p1 : Int32} {of : Nat → Int64} {g : Bool} (hg : p1 = 0 ↔ g = false) {K : Int32 → (Nat → Int64) → Int32 → CS → Prop} {E : String → (Nat → Int64) → Int32 → CS → Prop} (k0 : ¬ vp_in p0 12 → K 2 of s.cur s.cs) (k1 : vp_in p0 12 → cS s.cs p0.toNatClampNeg = none → K 1 of s.cur s.cs) (k2 : ∀ A, vp_in p0 12 → cS s.cs p0.toNatClampNeg = some A → ¬ lLn A ≤ 7 → ∀ f : Nat → Int64, f (0 : Int32).toNatClampNeg = -104 → K 0 f s.cur s.cs) (k3 : ∀ A, vp_in p0 12 → cS s.cs p0.toNatClampNeg = some A → lLn A ≤ 7 → ∀ f : Nat → Int64, f (0 : Int32).toNatClampNeg = z_bt (lK A) (o_ext s p0.toNatClampNeg A g) → K 0 f s.cur s.cs) : wX0_extreme p0 p1 of s.cur ta s.cs K E := by
  unfold wX0_extreme bX1_extreme
  refine ⟨fun hin => ⟨fun A hc => ?_, fun hn => ?_⟩, fun hin => ?_⟩
  · obtain ⟨h12, e0⟩ := p_12 hin
    have hA := p_row hs h12 hc
    have hn := hA.1
    refine ⟨hin, p_cgs hs h12 hc, fun c7 _ _ => ⟨9, Nat.le_refl 9, ?_⟩, fun c7 => ⟨p_z1, fun f hf => k2 A hin hc (fun q => c7 ((p_le60 (m := 7) hn (by decide)).mpr q)) f (p_upd0 hf)⟩⟩
    have c7 : lLn A ≤ 7 := (p_le60 (m := 7) hn (by decide)).mp c7
    refine q25_all hA c7 z_0.1 (fun _ _ => ⟨fun c => ?_, fun c => ?_⟩)
    · have hgf := hg.mp c
      subst hgf
      have ok := o_ext_ok hA (g := false)
      exact q_bits ok.1 ok.2 ⟨p_z1, fun f hf => k3 A hin hc c7 f (p_upd0 hf)⟩
    · have hgf : g = true := by
        cases g
        · exact absurd (hg.mpr rfl) c
        · rfl
      subst hgf
      have ok := o_ext_ok hA (g := true)
      exact q_bits ok.1 ok.2 ⟨p_z1, fun f hf => k3 A hin hc c7 f (p_upd0 hf)⟩
  · obtain ⟨h12, e0⟩ := p_12 hin
    exact ⟨fun h => absurd hin h, fun _ => ⟨p_cgn hs h12 hn, Or.inl ⟨rfl, k1 hin hn⟩⟩⟩
  · exact ⟨fun _ => Or.inr ⟨rfl, k0 hin⟩, fun h => absurd h hin⟩
theorem p_c25 {ta : Nat → ClassId} {L : Nat} {xf : Nat → Int32} (hL : L ≤ 320) (v4 : Int32) (s : LSt) (hs : RR s) (h1 : 0 ≤ v4.toInt) (h2 : v4.toInt + 5 ≤ (L : Int)) : wL_25 (LSt.thrown s) (LSt.many s) (LSt.isWide s) (LSt.amountOf s) (LSt.accountOf s) (LSt.dayOf s) (LSt.given s) (LSt.givenOf s) (LSt.runs s) (LSt.runWide s) (LSt.runWay s) (LSt.runTotal s) (LSt.runSteps s) (LSt.lefts s) (LSt.rights s) (LSt.results s) (LSt.wide s) (LSt.dn s) (LSt.stepsAt s) (LSt.keeps s) (LSt.order s) (LSt.att s) (LSt.spareAmount s) (LSt.spareAccount s) (LSt.spareDay s) (LSt.cured s) (LSt.cureOf s) (LSt.shareOf s) (LSt.big s) (LSt.unitsOf s) (LSt.spare s) (LSt.halfFrom s) (LSt.halfMany s) (LSt.halfDone s) (LSt.halfTotal s) (LSt.isFar s) (LSt.of s) (LSt.cur s) (LSt.cs s) ta v4 xf L (LSt.cs s) (lst RR) := by
  have v1 := p_v (j := 1) hL h1 h2 (by decide)
  have v2 := p_v (j := 2) hL h1 h2 (by decide)
  unfold wL_25
  have g0 : (0 : Int32) = 0 ↔ false = false := ⟨fun _ => rfl, fun _ => rfl⟩
  have g1 : (1 : Int32) = 0 ↔ true = false := ⟨fun q => absurd q (by decide), fun q => by cases q⟩
  refine ⟨v1, v2, fun c => ?_, fun c => ?_⟩
  · unfold wL_25_J1818
    refine p_extC hs g0 (fun hin => ⟨v1, v2, fun _ => ?_, fun q => absurd c q⟩) (fun hin hn => ⟨v1, v2, fun _ => ?_, fun q => absurd c q⟩) (fun A hin hc c7 f hf => ⟨v1, v2, fun _ => ?_, fun q => absurd c q⟩) (fun A hin hc c7 f hf => ⟨v1, v2, fun _ => ?_, fun q => absurd c q⟩)
    · unfold wL_25_J1845
      exact p_extM hs g0 (fun _ => p_ern rfl (by decide) (Or.inl hs)) (fun q => absurd q hin) (fun _ q => absurd q hin) (fun _ q => absurd q hin)
    · unfold wL_25_J1845
      exact p_extM hs g0 (fun q => absurd hin q) (fun _ _ => p_ern rfl (by decide) (Or.inl hs)) (fun _ _ q => by rw [hn] at q; cases q) (fun _ _ q => by rw [hn] at q; cases q)
    · unfold wL_25_J1845
      refine p_extM hs g0 (fun q => absurd hin q) (fun _ q => by rw [hc] at q; cases q) (fun A' _ q q7 => p_okk rfl rfl p_z1 hf (Or.inl hs)) (fun A' _ q q7 => ?_)
      rw [hc] at q
      cases q
      exact absurd q7 c7
    · unfold wL_25_J1845
      refine p_extM hs g0 (fun q => absurd hin q) (fun _ q => by rw [hc] at q; cases q) (fun A' _ q q7 => ?_) (fun A' _ q q7 w o => ?_)
      · rw [hc] at q
        cases q
        exact absurd c7 q7
      · rw [hc] at q
        cases q
        exact p_okk rfl rfl p_z1 hf (Or.inl hs)
  · unfold wL_25_J1818
    refine p_extC hs g1 (fun hin => ⟨v1, v2, fun q => absurd q c, fun _ => ?_⟩) (fun hin hn => ⟨v1, v2, fun q => absurd q c, fun _ => ?_⟩) (fun A hin hc c7 f hf => ⟨v1, v2, fun q => absurd q c, fun _ => ?_⟩) (fun A hin hc c7 f hf => ⟨v1, v2, fun q => absurd q c, fun _ => ?_⟩)
    · unfold wL_25_J1845
      exact p_extM hs g1 (fun _ => p_ern rfl (by decide) (Or.inl hs)) (fun q => absurd q hin) (fun _ q => absurd q hin) (fun _ q => absurd q hin)
    · unfold wL_25_J1845
      exact p_extM hs g1 (fun q => absurd hin q) (fun _ _ => p_ern rfl (by decide) (Or.inl hs)) (fun _ _ q => by rw [hn] at q; cases q) (fun _ _ q => by rw [hn] at q; cases q)
    · unfold wL_25_J1845
      refine p_extM hs g1 (fun q => absurd hin q) (fun _ q => by rw [hc] at q; cases q) (fun A' _ q q7 => p_okk rfl rfl p_z1 hf (Or.inl hs)) (fun A' _ q q7 => ?_)
      rw [hc] at q
      cases q
      exact absurd q7 c7
    · unfold wL_25_J1845
      refine p_extM hs g1 (fun q => absurd hin q) (fun _ q => by rw [hc] at q; cases q) (fun A' _ q q7 => ?_) (fun A' _ q q7 w o => ?_)
      · rw [hc] at q
        cases q
        exact absurd c7 q7
      · rw [hc] at q
        cases q
        exact p_okk rfl rfl p_z1 hf (Or.inl hs)
/-- the exact sum, rounded, on the model's side -/
theorem q3_exactOf {s : LSt} {i : Nat} {A : Led} (hi : i < 12) (h : RLd s i A) {big : Nat → Int32} {K : UInt64 → (Nat → Int32) → Prop} (hK : ∀ d b, zf d → zS d = decide (p_all s i (lLn A) < 0) → zV d = z_kr (lK A) (p_all s i (lLn A)) → K d b) : wX3_exactOf (Int32.ofNat i) s.many s.isWide s.amountOf big K := by
  have hw := p_wide h
  have ht : (p_all s i (lLn A)).natAbs ≤ 2 ^ 1180 := p_totb h (fun _ => true) (Nat.le_refl _)
  have pw := z_p1174
  refine p_sumLedger (t := 0) hi h (by decide) (fun b hb ho => ⟨w_in hi (by decide), ?_⟩)
  rw [w_cl (by omega)]
  refine q3_nearest (s := 0) (by decide) hb (by omega) (fun d' b' c1 c2 c3 c4 => hK d' _ c1 c2 ?_)
  rw [c3, z_kd_kr hw]
theorem q1_roundedOf {s : LSt} {i : Nat} {A : Led} (h : RLd s i A) {w : Nat → Int32} {K : UInt64 → (Nat → Int32) → Prop} (hK : ∀ d w', zk (lK A) d → zS d = decide (p_all s i (lLn A) < 0) → zV d = z_kr (lK A) (p_all s i (lLn A)) → K d w') : wX1_roundedOf w (lK A) (lLn A) (lAc A) (lDa A) (lAm A) K := by
  have ht : (p_all s i (lLn A)).natAbs ≤ 2 ^ 1180 := p_totb h (fun _ => true) (Nat.le_refl _)
  have pw := z_p1174
  refine p_sum h (fun w1 hw1 => ?_)
  rw [p_all_sel] at hw1
  exact q_nearest hw1 (by omega) (fun d w2 d1 d2 d3 _ => hK d w2 d1 d2 d3)
theorem q3_rch_L {s : LSt} {i : Nat} {A : Led} (hi : i < 12) (h : RLd s i A) {wide : Int32} (hw : wide = 0 ↔ lK A = false) {d : UInt64} (hd : zf d) {X Y : Int32 → (Nat → Int32) → Prop} : ∀ (L : List (List Nat)) (a : List Nat) (o : Nat → Int32), o_chk (lLn A) (a :: L) = true → o_rel (lLn A) a o → ((a :: L).any (fun t => decide (zV (p_ot s i (lK A) t) = zV d)) = true → ∀ v o', X v o') → ((a :: L).any (fun t => decide (zV (p_ot s i (lK A) t) = zV d)) = false → ∀ v o', Y v o') → wX3_reach_L46 s.many s.amountOf (Int32.ofNat i) d wide X Y ((L.length + 1) + 1) 1 o := by
  have hn := h.1
  have hm := h.2.1
  intro L
  induction L with
  | nil =>
    intro a o hc hr hX hY
    unfold wX3_reach_L46
    rw [w_cl (by omega), hm]
    refine ⟨fun q => absurd q (by decide), fun _ => ⟨w_in hi (by omega), ?_⟩⟩
    obtain ⟨m1, m2⟩ := o_rel_mem hr
    have hz := (p_ot_zf h (show a.length ≤ 60 by omega) m2).1
    refine q3_ofOrder hi h hr rfl hw ⟨fun c => ⟨w_in hi (by omega), ?_⟩, fun c => ?_⟩
    · rw [z_deq hz hd] at c
      refine q3_next hr (by omega) (fun _ => ⟨fun _ => hY ?_ _ _, fun q => absurd rfl q⟩) (fun l' o' e _ => by rw [o_chk_1 hc] at e; cases e)
      rw [List.any_cons, decide_eq_false c]
      rfl
    · rw [z_deq hz hd] at c
      refine hX ?_ _ _
      rw [List.any_cons, decide_eq_true c, Bool.true_or]
  | cons t L ih =>
    intro a o hc hr hX hY
    obtain ⟨c1, c2⟩ := o_chk_2 hc
    have e1 : ((t :: L).length + 1) + 1 = ((L.length + 1) + 1) + 1 := rfl
    rw [e1]
    unfold wX3_reach_L46
    rw [w_cl (by omega), hm]
    refine ⟨fun q => absurd q (by decide), fun _ => ⟨w_in hi (by omega), ?_⟩⟩
    obtain ⟨m1, m2⟩ := o_rel_mem hr
    have hz := (p_ot_zf h (show a.length ≤ 60 by omega) m2).1
    refine q3_ofOrder hi h hr rfl hw ⟨fun c => ⟨w_in hi (by omega), ?_⟩, fun c => ?_⟩
    · rw [z_deq hz hd] at c
      rw [List.any_cons, decide_eq_false c, Bool.false_or] at hX hY
      refine q3_next hr (by omega) (fun e => by rw [c1] at e; cases e) (fun l' o' e hr' => ?_)
      rw [c1] at e
      have e := Option.some.inj e
      subst e
      exact ih t o' c2 hr' hX hY
    · rw [z_deq hz hd] at c
      refine hX ?_ _ _
      rw [List.any_cons, decide_eq_true c, Bool.true_or]
theorem p_c26 {ta : Nat → ClassId} {L : Nat} {xf : Nat → Int32} (hL : L ≤ 320) (v4 : Int32) (s : LSt) (hs : RR s) (h1 : 0 ≤ v4.toInt) (h2 : v4.toInt + 5 ≤ (L : Int)) : wL_26 (LSt.thrown s) (LSt.many s) (LSt.isWide s) (LSt.amountOf s) (LSt.accountOf s) (LSt.dayOf s) (LSt.given s) (LSt.givenOf s) (LSt.runs s) (LSt.runWide s) (LSt.runWay s) (LSt.runTotal s) (LSt.runSteps s) (LSt.lefts s) (LSt.rights s) (LSt.results s) (LSt.wide s) (LSt.dn s) (LSt.stepsAt s) (LSt.keeps s) (LSt.order s) (LSt.att s) (LSt.spareAmount s) (LSt.spareAccount s) (LSt.spareDay s) (LSt.cured s) (LSt.cureOf s) (LSt.shareOf s) (LSt.big s) (LSt.unitsOf s) (LSt.spare s) (LSt.halfFrom s) (LSt.halfMany s) (LSt.halfDone s) (LSt.halfTotal s) (LSt.isFar s) (LSt.of s) (LSt.cur s) (LSt.cs s) ta v4 xf L (LSt.cs s) (lst RR) := by
  have v1 := p_v (j := 1) hL h1 h2 (by decide)
  unfold wL_26
  refine ⟨v1, ?_⟩
  generalize xf (v4 + 1).toNatClampNeg = p0
  unfold wX0_reach bX1_reach
  refine ⟨fun hin => ⟨fun A hc => ?_, fun hn => ?_⟩, fun hin => ?_⟩
  · obtain ⟨h12, e0⟩ := p_12 hin
    have hA := p_row hs h12 hc
    have hn := hA.1
    have hm := hA.2.1
    have hw := p_wide hA
    refine ⟨hin, p_cgs hs h12 hc, fun c7 _ => ?_, fun c7 y hy => ⟨p_z1, fun f hf => ⟨v1, ?_⟩⟩⟩
    · have c7 : lLn A ≤ 7 := (p_le60 (m := 7) hn (by decide)).mp c7
      refine q1_roundedOf hA (fun d w2 d1 d2 d3 _ => ⟨9, Nat.le_refl 9, ?_⟩)
      obtain ⟨L, eL⟩ := o_hd c7
      have f1 := fun (o : Nat → Int32) (w : Int32) (K : Int32 → (Nat → Int32) → Prop) => q3_first h12 hA (wide := w) (o := o) (K := K)
      have f2 := fun (b : Nat → Int32) (K : UInt64 → (Nat → Int32) → Prop) => q3_exactOf h12 hA (big := b) (K := K)
      have f3 := fun (d : UInt64) (hd : zf d) (X Y : Int32 → (Nat → Int32) → Prop) => q3_rch_L h12 hA hw hd (X := X) (Y := Y)
      rw [← e0] at f1 f2 f3
      have ey : o_rch s p0.toNatClampNeg A d = (List.range (lLn A) :: L).any (fun t => decide (zV (p_ot s p0.toNatClampNeg (lK A) t) = zV d)) := by unfold o_rch; rw [eL]
      have hok := o_run c7
      rw [eL] at hok
      refine q25_all hA c7 (zk_f d1) (fun _ _ => ⟨fun c y hy => ⟨p_z1, fun f hf => ⟨v1, ?_⟩⟩, fun c y hy => ⟨p_z1, fun f hf => ⟨v1, ?_⟩⟩⟩)
      · refine p_faultOf hs (fun A' hc' _ => ⟨fun _ => ⟨hin, fun _ => ?_, fun q => ?_⟩, fun h => absurd rfl h⟩) (fun _ q => by rw [hc] at q; cases q) (fun q => absurd hin q)
        · refine f2 _ _ (fun d' b' x1 x2 x3 => ?_)
          have e : d' = d := z_ext x1 (zk_f d1) (x2.trans d2.symm) (x3.trans d3.symm)
          subst e
          refine f1 _ _ _ (fun o' ho' => ⟨(L.length + 1) + 1, f3 _ x1 _ _ L (List.range (lLn A)) o' hok ho' (fun q => ?_) (fun q v o'' => p_okk rfl rfl p_z1 ?_ (Or.inl hs))⟩)
          · rw [ey, q] at c
            exact absurd c (by decide)
          · rw [p_upd0 hf, hy]
        · rw [hm] at q
          exact absurd ((p_le60 (m := 7) hn (by decide)).mpr c7) q
      · refine p_faultOf hs (fun A' hc' _ => ⟨fun _ => ⟨hin, fun _ => ?_, fun q => ?_⟩, fun h => absurd rfl h⟩) (fun _ q => by rw [hc] at q; cases q) (fun q => absurd hin q)
        · refine f2 _ _ (fun d' b' x1 x2 x3 => ?_)
          have e : d' = d := z_ext x1 (zk_f d1) (x2.trans d2.symm) (x3.trans d3.symm)
          subst e
          refine f1 _ _ _ (fun o' ho' => ⟨(L.length + 1) + 1, f3 _ x1 _ _ L (List.range (lLn A)) o' hok ho' (fun q v o'' => p_okk rfl rfl p_z1 ?_ (Or.inl hs)) (fun q => ?_)⟩)
          · rw [p_upd0 hf, hy]
          · rw [ey, q] at c
            exact absurd (if_neg (by decide)) c
        · rw [hm] at q
          exact absurd ((p_le60 (m := 7) hn (by decide)).mpr c7) q
    · refine p_faultOf hs (fun A' hc' _ => ⟨fun _ => ⟨hin, fun q => ?_, fun _ => p_okk rfl rfl p_z1 ?_ (Or.inl hs)⟩, fun h => absurd rfl h⟩) (fun _ q => by rw [hc] at q; cases q) (fun q => absurd hin q)
      · rw [hm] at q
        exact absurd q c7
      · rw [p_upd0 hf, hy]
  · obtain ⟨h12, e0⟩ := p_12 hin
    refine ⟨fun h => absurd hin h, fun _ => ⟨p_cgn hs h12 hn, Or.inl ⟨rfl, v1, ?_⟩⟩⟩
    exact p_faultOf hs (fun _ q _ => by rw [hn] at q; cases q) (fun _ _ => ⟨fun h => absurd h (by decide), fun _ => p_ern rfl (by decide) (Or.inl hs)⟩) (fun q => absurd hin q)
  · refine ⟨fun _ => Or.inr ⟨rfl, v1, ?_⟩, fun h => absurd h hin⟩
    exact p_faultOf hs (fun _ _ q => absurd q hin) (fun q _ => absurd q hin) (fun _ => ⟨fun h => absurd h (by decide), fun _ => p_ern rfl (by decide) (Or.inl hs)⟩)
