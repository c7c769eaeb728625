/-! the plain law: one ledger changed. By hand (gen/210.plaine.src.txt) -/
theorem p_led {s s' : LSt} (hs : RR s) {i : Nat} {A B : Led} (hi : i < 12) (hc : cS s.cs i = some A) (hB : lU B = lU A) (hσ : cS s'.cs = upO (cS s.cs) i (some B)) (hrow : RLd s' i B) (hoth : ∀ j : Nat, j < 12 → j ≠ i → s'.many j = s.many j ∧ ∀ C, RLd s j C → RLd s' j C) (hG : cG s'.cs = cG s.cs) (hr : s'.runs = s.runs) (hT : cT s'.cs = cT s.cs) (hz : cLz s'.cs = cLz s.cs) (hl : cLa s'.cs = cLa s.cs) (hTp : ∀ r t, RTp s r t → RTp s' r t) (h1 : s'.cured = s.cured) (h2 : s'.cureOf = s.cureOf) (h3 : s'.cur = s.cur) (h4 : cSh s'.cs = cSh s.cs) (h5 : s'.shareOf = s.shareOf) (h6 : s'.keeps = s.keeps := by rfl) : RR s' := by
  obtain ⟨gA, gG, gR, gT, gC, gS⟩ := hs
  refine ⟨fun j hj => ?_, fun j hj => ?_, ?_, fun r t h => ?_, ?_, fun a ha => ?_, h6.trans gS.2⟩
  · by_cases e : j = i
    · subst e
      rw [hσ]
      show match (if j = j then some B else cS s.cs j) with | none => s'.many j = -1 | some L => RLd s' j L
      rw [if_pos rfl]
      exact hrow
    · rw [hσ]
      show match (if j = i then some B else cS s.cs j) with | none => s'.many j = -1 | some L => RLd s' j L
      rw [if_neg e]
      have h := gA j hj
      obtain ⟨o1, o2⟩ := hoth j hj e
      cases hj2 : cS s.cs j with
      | none => rw [hj2] at h; rw [o1]; exact h
      | some C => rw [hj2] at h; exact o2 C h
  · rw [hG, gG j hj, hσ]
    show (cS s.cs j).map lU = (if j = i then some B else cS s.cs j).map lU
    by_cases e : j = i
    · subst e
      rw [if_pos rfl, hc]
      show some (lU A) = some (lU B)
      rw [hB]
    · rw [if_neg e]
  · rw [hr, hz, hT, hl]; exact gR
  · rw [hT] at h; exact hTp r t (gT r t h)
  · rw [h1, h2, h3]; exact gC
  · rw [h4, h5]; exact gS.1 a ha
/-- a row that isn't touched -/
theorem p_fr {s s' : LSt} {j : Nat} {C : Led} (h1 : s'.many j = s.many j) (h2 : s'.isWide j = s.isWide j) (h3 : ∀ k, k < 60 → s'.amountOf (60 * j + k) = s.amountOf (60 * j + k)) (h4 : ∀ k, k < 60 → s'.accountOf (60 * j + k) = s.accountOf (60 * j + k)) (h5 : ∀ k, k < 60 → s'.dayOf (60 * j + k) = s.dayOf (60 * j + k)) (h6 : s'.given j = s.given j) (h7 : ∀ k, k < 60 → s'.givenOf (60 * j + k) = s.givenOf (60 * j + k)) (h : RLd s j C) : RLd s' j C := by
  obtain ⟨l1, l2, l3, l4, l5, l6, l7, l8, l9, l10⟩ := h
  refine ⟨l1, h1.trans l2, h2.trans l3, fun k hk => ?_, fun k hk => ?_, fun k hk => ?_, l7.trans h6.symm, l8, l9, fun k hk => ?_⟩
  · rw [h3 k (by omega)]; exact l4 k hk
  · rw [h4 k (by omega)]; exact l5 k hk
  · rw [h5 k (by omega)]; exact l6 k hk
  · rw [h7 k (by omega)]; exact l10 k hk
