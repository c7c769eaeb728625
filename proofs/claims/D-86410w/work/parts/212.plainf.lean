/-! the plain law: book. By hand (gen/212.plainf.src.txt) -/
theorem p_rows {i j k l : Nat} (hk : k < 60) (hl : l < 60) (h : 60 * i + k = 60 * j + l) : i = j ∧ k = l := by omega
theorem p_nar : ∀ n : Fin 31, vp_nar .byte (Int32.ofNat n.val).toInt8.toInt32 = Int32.ofNat n.val := by decide +kernel
theorem p_narI {x : Int32} (h0 : 0 ≤ x.toInt) (h1 : x.toInt < 31) : vp_nar .byte x.toInt8.toInt32 = x := by
  have e : x = Int32.ofNat x.toInt.toNat := by
    rw [← Int32.toInt_inj, il_ofNat (by omega)]
    omega
  have h := p_nar ⟨x.toInt.toNat, by omega⟩
  rw [e]
  exact h
theorem p_same {s s' : LSt} (hs : RR s) {i : Nat} {A : Led} (hi : i < 12) (hc : cS s.cs i = some A) (e : s' = (0, s.2.1, s.2.2.1, s.2.2.2.1, s.2.2.2.2.1, s.2.2.2.2.2.1, s.2.2.2.2.2.2.1, s.2.2.2.2.2.2.2.1, s.2.2.2.2.2.2.2.2)) : RR s' := by
  subst e
  exact hs
theorem p_self {σ : Nat → Option Led} {i : Nat} {A : Led} (h : σ i = some A) : upO σ i (some A) = σ := by
  funext j
  show (if j = i then some A else σ j) = σ j
  by_cases e : j = i
  · subst e; rw [if_pos rfl, h]
  · rw [if_neg e]
theorem p_updR {f g f' g' : Nat → Int32} {n a p lo hi : Nat} {x : Int32} (ef : f' = upd f p x) (eg : g' = upd g (a + p) x) (hx : 0 ≤ x.toInt ∧ x.toInt < (hi : Int)) (h : ∀ k : Nat, k < n → f k = g (a + k) ∧ 0 ≤ (f k).toInt ∧ (f k).toInt < (hi : Int)) : ∀ k : Nat, k < n → f' k = g' (a + k) ∧ 0 ≤ (f' k).toInt ∧ (f' k).toInt < (hi : Int) := by
  subst ef eg
  intro k hk
  by_cases e : k = p
  · subst e
    simp only [upd, if_true]
    exact ⟨trivial, hx⟩
  · simp only [upd, if_neg e, if_neg (show ¬ a + k = a + p by omega)]
    exact h k hk
theorem p_c2 {ta : Nat → ClassId} {L : Nat} {xf : Nat → Int32} (hL : L ≤ 320) (v4 : Int32) (s : LSt) (hs : RR s) (h1 : 0 ≤ v4.toInt) (h2 : v4.toInt + 5 ≤ (L : Int)) : wL_2 (LSt.thrown s) (LSt.many s) (LSt.isWide s) (LSt.amountOf s) (LSt.accountOf s) (LSt.dayOf s) (LSt.given s) (LSt.givenOf s) (LSt.runs s) (LSt.runWide s) (LSt.runWay s) (LSt.runTotal s) (LSt.runSteps s) (LSt.lefts s) (LSt.rights s) (LSt.results s) (LSt.wide s) (LSt.dn s) (LSt.stepsAt s) (LSt.keeps s) (LSt.order s) (LSt.att s) (LSt.spareAmount s) (LSt.spareAccount s) (LSt.spareDay s) (LSt.cured s) (LSt.cureOf s) (LSt.shareOf s) (LSt.big s) (LSt.unitsOf s) (LSt.spare s) (LSt.halfFrom s) (LSt.halfMany s) (LSt.halfDone s) (LSt.halfTotal s) (LSt.isFar s) (LSt.of s) (LSt.cur s) (LSt.cs s) ta v4 xf L (LSt.cs s) (lst RR) := by
  obtain ⟨hA, hG, ⟨hr, hlen, hlz, hls⟩, hT, hC, hS⟩ := id hs
  have v1 := p_v (j := 1) hL h1 h2 (by decide)
  have v2 := p_v (j := 2) hL h1 h2 (by decide)
  have v3 := p_v (j := 3) hL h1 h2 (by decide)
  have v4' := p_v (j := 4) hL h1 h2 (by decide)
  unfold wL_2
  refine ⟨v1, v2, v3, v4', ?_⟩
  generalize xf (v4 + 1).toNatClampNeg = p0
  generalize xf (v4 + 2).toNatClampNeg = p1
  generalize xf (v4 + 3).toNatClampNeg = p2
  generalize xf (v4 + 4).toNatClampNeg = p3
  have hz : vp_in (0 : Int32) 1 := vp_in_iff.mpr (by decide)
  have key : ∀ (x : Int32) (y6 : Int64) (f : Nat → Int64), y6 = x.toInt64 → f = vp_updL s.of (0 : Int32).toNatClampNeg y6 → f (0 : Int32).toNatClampNeg = x.toInt64 := by
    intro x y6 f e6 e7
    rw [e7, e6]; rfl
  unfold wX0_book bX1_book
  refine ⟨fun hin => ⟨fun A hc => ?_, fun hn => ?_⟩, fun hin => ?_⟩
  · have h12 : p0.toNatClampNeg < 12 := by have := vp_in_iff.mp hin; show p0.toInt.toNat < 12; omega
    have hi := hA p0.toNatClampNeg h12
    rw [hc] at hi
    have hi : RLd s p0.toNatClampNeg A := hi
    obtain ⟨l1, l2, l3, l4, l5, l6, l7⟩ := id hi
    have hg := hG p0.toNatClampNeg h12
    rw [hc] at hg
    unfold wX1_book
    refine p_isIn (fun a b => ⟨fun h => absurd h (by decide), fun _ => ?_⟩) (fun a => ⟨fun _ y6 q6 => ⟨hz, fun f q7 => ⟨v1, v2, v3, v4', ?_⟩⟩, fun h => absurd rfl h⟩)
    · refine p_isIn (fun c d => ⟨fun _ => ⟨hin, hg, ?_⟩, fun h => absurd h (by decide)⟩) (fun c => ⟨fun h => absurd rfl h, fun _ y6 q6 => ⟨hz, fun f q7 => ⟨v1, v2, v3, v4', ?_⟩⟩⟩)
      · have a : 0 ≤ p2.toInt := a
        have b : p2.toInt ≤ 9 := b
        have c : 0 ≤ p3.toInt := c
        have d : p3.toInt ≤ 30 := d
        intro x1 e1
        refine ⟨by omega, fun ho => Or.inr ⟨rfl, v1, v2, v3, v4', ?_⟩, fun ho f2 e2 x3 e3 => ⟨by omega, fun h => absurd ho h, fun _ f4 e4 y6 q6 => ⟨hz, fun f q7 => ⟨v1, v2, v3, v4', ?_⟩⟩⟩⟩
        · unfold wX3_book
          refine p_in3 (fun _ _ => ⟨fun h => absurd h (by decide), fun _ => p_in3 (fun _ _ => ⟨fun _ => ?_, fun h => absurd h (by decide)⟩) (fun h => ?_)⟩) (fun h => ?_)
          · exact p_fault hs (fun A' hc' _ q => by rw [hc] at hc'; cases hc'; exact absurd q ho) (fun _ q => by rw [hc] at q; cases q) (fun q => absurd hin q) (fun _ _ _ _ => ⟨fun h => absurd h (by decide), fun _ => ⟨fun _ => ⟨fun _ => Or.inl (p_led (B := A) hs h12 hc rfl rfl hi (fun j _ _ => ⟨rfl, fun _ h => h⟩) rfl rfl rfl rfl rfl (fun _ _ h => h) rfl rfl rfl rfl rfl), fun h => absurd h (by decide)⟩, fun h => absurd rfl h⟩⟩)
          · have h : p3.toInt < 0 ∨ 30 < p3.toInt := h
            omega
          · have h : p2.toInt < 0 ∨ 9 < p2.toInt := h
            omega
        · obtain ⟨i1, i2⟩ := p_idx hin ho l1
          have n2 := p_narI (x := p2) a (by omega)
          have n3 := p_narI (x := p3) c (by omega)
          rw [e1, n2] at e2
          rw [e3, n3] at e4
          have o1 : p1.toNatClampNeg < lLn A := by have := vp_in_iff.mp ho; show p1.toInt.toNat < lLn A; omega
          unfold wX3_book
          refine p_in3 (fun _ _ => ⟨fun h => absurd h (by decide), fun _ => p_in3 (fun _ _ => ⟨fun _ => ?_, fun h => absurd h (by decide)⟩) (fun h => ?_)⟩) (fun h => ?_)
          · refine p_fault hs (fun A' hc' _ q => ⟨fun _ => ⟨i1, fun a4 q4 => ⟨i1, fun d5 q5 => ⟨fun _ => ⟨fun h => absurd rfl h, fun _ => ⟨hz, fun _ => Or.inl ?_, fun h => h (key 1 y6 f q6 q7)⟩⟩, fun h => absurd rfl h⟩⟩⟩, fun h => absurd rfl h⟩) (fun _ q => by rw [hc] at q; cases q) (fun q => absurd hin q) (fun A' hc' _ q => by rw [hc] at hc'; cases hc'; exact absurd ho q)
            rw [i2] at q4 q5
            refine p_led (B := (A.1, lK A, lGc A, lLn A, f2, f4, lGi A, lAm A)) hs h12 hc rfl rfl ⟨l1, l2, l3, l4, fun k hk => ?_, fun k hk => ?_, l7⟩ (fun j hj hne => ⟨rfl, fun C hC => ?_⟩) rfl rfl rfl rfl rfl (fun _ _ h => h) rfl rfl rfl rfl rfl
            · exact p_updR (lo := 0) (hi := 10) e2 q4 ⟨a, by omega⟩ l5 k hk
            · exact p_updR (lo := 0) (hi := 31) e4 q5 ⟨c, by omega⟩ l6 k hk
            · have hlt := p_idx hin ho l1
              have hp0 : p1.toNatClampNeg < 60 := by omega
              refine p_fr (s := s) rfl rfl (fun _ _ => rfl) (fun l hl => ?_) (fun l hl => ?_) rfl (fun _ _ => rfl) hC
              · show a4 (60 * j + l) = s.accountOf (60 * j + l)
                rw [q4]
                exact if_neg (fun e => hne (p_rows hl hp0 e).1)
              · show d5 (60 * j + l) = s.dayOf (60 * j + l)
                rw [q5]
                exact if_neg (fun e => hne (p_rows hl hp0 e).1)
          · have h : p3.toInt < 0 ∨ 30 < p3.toInt := h
            omega
          · have h : p2.toInt < 0 ∨ 9 < p2.toInt := h
            omega
      · unfold wX3_book
        refine p_in3 (fun _ _ => ⟨fun h => absurd h (by decide), fun _ => p_in3 (fun _ _ => ?_) (fun _ => ⟨fun h => absurd rfl h, fun _ => ⟨fun _ => ⟨fun h => absurd rfl h, fun _ => ⟨hz, fun _ => Or.inl (p_led (B := A) hs h12 hc rfl rfl hi (fun j _ _ => ⟨rfl, fun _ h => h⟩) rfl rfl rfl rfl rfl (fun _ _ h => h) rfl rfl rfl rfl rfl), fun h => h (key (-102) y6 f q6 q7)⟩⟩, fun h => absurd rfl h⟩⟩)⟩) (fun h => ?_)
        · have h : p3.toInt < 0 ∨ 30 < p3.toInt := c
          exfalso
          omega
        · have a : 0 ≤ p2.toInt := a
          have b : p2.toInt ≤ 9 := b
          have h : p2.toInt < 0 ∨ 9 < p2.toInt := h
          exfalso
          omega
    · unfold wX3_book
      refine p_in3 (fun _ _ => ?_) (fun _ => ⟨fun _ => ⟨fun _ => ⟨fun h => absurd rfl h, fun _ => ⟨hz, fun _ => Or.inl (p_led (B := A) hs h12 hc rfl rfl hi (fun j _ _ => ⟨rfl, fun _ h => h⟩) rfl rfl rfl rfl rfl (fun _ _ h => h) rfl rfl rfl rfl rfl), fun h => h (key (-102) y6 f q6 q7)⟩⟩, fun h => absurd rfl h⟩, fun h => absurd rfl h⟩)
      have h : p2.toInt < 0 ∨ 9 < p2.toInt := a
      exfalso
      omega
  · have h12 : p0.toNatClampNeg < 12 := by have := vp_in_iff.mp hin; show p0.toInt.toNat < 12; omega
    have hg := hG p0.toNatClampNeg h12
    rw [hn] at hg
    unfold wX1_book_F
    refine p_isIn (fun a b => ⟨fun h => absurd h (by decide), fun _ => p_isIn (fun c d => ⟨fun _ => ⟨fun h => absurd hin h, fun _ => ⟨hg, Or.inl ⟨rfl, v1, v2, v3, v4', ?_⟩⟩⟩, fun h => absurd h (by decide)⟩) (fun c => ⟨fun h => absurd rfl h, fun _ y6 q6 => ⟨hz, fun f q7 => ⟨v1, v2, v3, v4', ?_⟩⟩⟩)⟩) (fun a => ⟨fun _ y6 q6 => ⟨hz, fun f q7 => ⟨v1, v2, v3, v4', ?_⟩⟩, fun h => absurd rfl h⟩)
    · unfold wX3_book
      refine p_in3 (fun _ _ => ⟨fun h => absurd h (by decide), fun _ => p_in3 (fun _ _ => ⟨fun _ => ?_, fun h => absurd h (by decide)⟩) (fun h => ?_)⟩) (fun h => ?_)
      · exact p_fault hs (fun _ q _ _ => by rw [hn] at q; cases q) (fun _ _ => ⟨fun h => absurd h (by decide), fun _ => ⟨fun _ => ⟨fun _ => Or.inl hs, fun h => absurd h (by decide)⟩, fun h => absurd rfl h⟩⟩) (fun q => absurd hin q) (fun _ q _ _ => by rw [hn] at q; cases q)
      · have c : 0 ≤ p3.toInt := c
        have d : p3.toInt ≤ 30 := d
        have h : p3.toInt < 0 ∨ 30 < p3.toInt := h
        exfalso
        omega
      · have a : 0 ≤ p2.toInt := a
        have b : p2.toInt ≤ 9 := b
        have h : p2.toInt < 0 ∨ 9 < p2.toInt := h
        exfalso
        omega
    · unfold wX3_book
      refine p_in3 (fun _ _ => ⟨fun h => absurd h (by decide), fun _ => p_in3 (fun _ _ => ?_) (fun _ => ⟨fun h => absurd rfl h, fun _ => ⟨fun _ => ⟨fun h => absurd rfl h, fun _ => ⟨hz, fun _ => Or.inl hs, fun h => h (key (-102) y6 f q6 q7)⟩⟩, fun h => absurd rfl h⟩⟩)⟩) (fun h => ?_)
      · have h : p3.toInt < 0 ∨ 30 < p3.toInt := c
        exfalso
        omega
      · have a : 0 ≤ p2.toInt := a
        have b : p2.toInt ≤ 9 := b
        have h : p2.toInt < 0 ∨ 9 < p2.toInt := h
        exfalso
        omega
    · unfold wX3_book
      refine p_in3 (fun _ _ => ?_) (fun _ => ⟨fun _ => ⟨fun _ => ⟨fun h => absurd rfl h, fun _ => ⟨hz, fun _ => Or.inl hs, fun h => h (key (-102) y6 f q6 q7)⟩⟩, fun h => absurd rfl h⟩, fun h => absurd rfl h⟩)
      have h : p2.toInt < 0 ∨ 9 < p2.toInt := a
      exfalso
      omega
  · unfold wX1_book_F
    refine p_isIn (fun a b => ⟨fun h => absurd h (by decide), fun _ => p_isIn (fun c d => ⟨fun _ => ⟨fun _ => Or.inr ⟨rfl, v1, v2, v3, v4', ?_⟩, fun h => absurd h hin⟩, fun h => absurd h (by decide)⟩) (fun c => ⟨fun h => absurd rfl h, fun _ y6 q6 => ⟨hz, fun f q7 => ⟨v1, v2, v3, v4', ?_⟩⟩⟩)⟩) (fun a => ⟨fun _ y6 q6 => ⟨hz, fun f q7 => ⟨v1, v2, v3, v4', ?_⟩⟩, fun h => absurd rfl h⟩)
    · unfold wX3_book
      refine p_in3 (fun _ _ => ⟨fun h => absurd h (by decide), fun _ => p_in3 (fun _ _ => ⟨fun _ => ?_, fun h => absurd h (by decide)⟩) (fun h => ?_)⟩) (fun h => ?_)
      · exact p_fault hs (fun _ _ q _ => absurd q hin) (fun q _ => absurd q hin) (fun _ => ⟨fun h => absurd h (by decide), fun _ => ⟨fun _ => ⟨fun _ => Or.inl hs, fun h => absurd h (by decide)⟩, fun h => absurd rfl h⟩⟩) (fun _ _ q _ => absurd q hin)
      · have c : 0 ≤ p3.toInt := c
        have d : p3.toInt ≤ 30 := d
        have h : p3.toInt < 0 ∨ 30 < p3.toInt := h
        exfalso
        omega
      · have a : 0 ≤ p2.toInt := a
        have b : p2.toInt ≤ 9 := b
        have h : p2.toInt < 0 ∨ 9 < p2.toInt := h
        exfalso
        omega
    · unfold wX3_book
      refine p_in3 (fun _ _ => ⟨fun h => absurd h (by decide), fun _ => p_in3 (fun _ _ => ?_) (fun _ => ⟨fun h => absurd rfl h, fun _ => ⟨fun _ => ⟨fun h => absurd rfl h, fun _ => ⟨hz, fun _ => Or.inl hs, fun h => h (key (-102) y6 f q6 q7)⟩⟩, fun h => absurd rfl h⟩⟩)⟩) (fun h => ?_)
      · have h : p3.toInt < 0 ∨ 30 < p3.toInt := c
        exfalso
        omega
      · have a : 0 ≤ p2.toInt := a
        have b : p2.toInt ≤ 9 := b
        have h : p2.toInt < 0 ∨ 9 < p2.toInt := h
        exfalso
        omega
    · unfold wX3_book
      refine p_in3 (fun _ _ => ?_) (fun _ => ⟨fun _ => ⟨fun _ => ⟨fun h => absurd rfl h, fun _ => ⟨hz, fun _ => Or.inl hs, fun h => h (key (-102) y6 f q6 q7)⟩⟩, fun h => absurd rfl h⟩, fun h => absurd rfl h⟩)
      have h : p2.toInt < 0 ∨ 9 < p2.toInt := a
      exfalso
      omega
