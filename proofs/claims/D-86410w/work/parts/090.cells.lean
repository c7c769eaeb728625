/-! rows for worlds of cells. Printed by gen/cells_layer.py -/
theorem dfJ2 : ∀ j, j < 3 → defaultValue (tyJ2 j) = vp_V [.int 0, .null, .int 0] j := by
  intro j hj
  match j, hj with
  | 0, _ => rfl
  | 1, _ => rfl
  | 2, _ => rfl
  | n + 3, h => exact absurd h (by omega)
theorem dfX1 : ∀ j, j < 7 → defaultValue (tyX1 j) = vp_V [.null, .null, .null, .null, .null, .int 0, .null] j := by
  intro j hj
  match j, hj with
  | 0, _ => rfl
  | 1, _ => rfl
  | 2, _ => rfl
  | 3, _ => rfl
  | 4, _ => rfl
  | 5, _ => rfl
  | 6, _ => rfl
  | n + 7, h => exact absurd h (by omega)
theorem dfX11 : ∀ j, j < 1 → defaultValue (tyX11 j) = vp_V [.null] j := by
  intro j hj
  match j, hj with
  | 0, _ => rfl
  | n + 1, h => exact absurd h (by omega)
theorem dfX12 : ∀ j, j < 1 → defaultValue (tyX12 j) = vp_V [.null] j := by
  intro j hj
  match j, hj with
  | 0, _ => rfl
  | n + 1, h => exact absurd h (by omega)
theorem dfX14 : ∀ j, j < 1 → defaultValue (tyX14 j) = vp_V [.null] j := by
  intro j hj
  match j, hj with
  | 0, _ => rfl
  | n + 1, h => exact absurd h (by omega)
theorem dfX15 : ∀ j, j < 1 → defaultValue (tyX15 j) = vp_V [.null] j := by
  intro j hj
  match j, hj with
  | 0, _ => rfl
  | n + 1, h => exact absurd h (by omega)
theorem dfX16 : ∀ j, j < 1 → defaultValue (tyX16 j) = vp_V [.null] j := by
  intro j hj
  match j, hj with
  | 0, _ => rfl
  | n + 1, h => exact absurd h (by omega)
theorem dfX17 : ∀ j, j < 1 → defaultValue (tyX17 j) = vp_V [.null] j := by
  intro j hj
  match j, hj with
  | 0, _ => rfl
  | n + 1, h => exact absurd h (by omega)
theorem dfX18 : ∀ j, j < 1 → defaultValue (tyX18 j) = vp_V [.null] j := by
  intro j hj
  match j, hj with
  | 0, _ => rfl
  | n + 1, h => exact absurd h (by omega)
theorem dfX19 : ∀ j, j < 1 → defaultValue (tyX19 j) = vp_V [.null] j := by
  intro j hj
  match j, hj with
  | 0, _ => rfl
  | n + 1, h => exact absurd h (by omega)
theorem dfX2 : ∀ j, j < 1 → defaultValue (tyX2 j) = vp_V [.null] j := by
  intro j hj
  match j, hj with
  | 0, _ => rfl
  | n + 1, h => exact absurd h (by omega)
theorem dfX21 : ∀ j, j < 2 → defaultValue (tyX21 j) = vp_V [.int 0, .null] j := by
  intro j hj
  match j, hj with
  | 0, _ => rfl
  | 1, _ => rfl
  | n + 2, h => exact absurd h (by omega)
theorem dfX22 : ∀ j, j < 2 → defaultValue (tyX22 j) = vp_V [.null, .null] j := by
  intro j hj
  match j, hj with
  | 0, _ => rfl
  | 1, _ => rfl
  | n + 2, h => exact absurd h (by omega)
theorem dfX25 : ∀ j, j < 8 → defaultValue (tyX25 j) = vp_V [.null, .int 0, .null, .double FP.dconst0, .double FP.dconst0, .int 0, .double FP.dconst0, .int 0] j := by
  intro j hj
  match j, hj with
  | 0, _ => rfl
  | 1, _ => rfl
  | 2, _ => rfl
  | 3, _ => rfl
  | 4, _ => rfl
  | 5, _ => rfl
  | 6, _ => rfl
  | 7, _ => rfl
  | n + 8, h => exact absurd h (by omega)
theorem dfX5 : ∀ j, j < 5 → defaultValue (tyX5 j) = vp_V [.null, .null, .null, .int 0, .null] j := by
  intro j hj
  match j, hj with
  | 0, _ => rfl
  | 1, _ => rfl
  | 2, _ => rfl
  | 3, _ => rfl
  | 4, _ => rfl
  | n + 5, h => exact absurd h (by omega)
theorem dfX6 : ∀ j, j < 5 → defaultValue (tyX6 j) = vp_V [.null, .null, .null, .int 0, .null] j := by
  intro j hj
  match j, hj with
  | 0, _ => rfl
  | 1, _ => rfl
  | 2, _ => rfl
  | 3, _ => rfl
  | 4, _ => rfl
  | n + 5, h => exact absurd h (by omega)
theorem dfX7 : ∀ j, j < 6 → defaultValue (tyX7 j) = vp_V [.null, .null, .null, .null, .null, .int 0] j := by
  intro j hj
  match j, hj with
  | 0, _ => rfl
  | 1, _ => rfl
  | 2, _ => rfl
  | 3, _ => rfl
  | 4, _ => rfl
  | 5, _ => rfl
  | n + 6, h => exact absurd h (by omega)
theorem dfX8 : ∀ j, j < 7 → defaultValue (tyX8 j) = vp_V [.int 0, .int 0, .null, .null, .null, .int 0, .double FP.dconst0] j := by
  intro j hj
  match j, hj with
  | 0, _ => rfl
  | 1, _ => rfl
  | 2, _ => rfl
  | 3, _ => rfl
  | 4, _ => rfl
  | 5, _ => rfl
  | 6, _ => rfl
  | n + 7, h => exact absurd h (by omega)
section
variable {g : XG} {own : String} {cc : ByteArray} {nL d mc ms pc : Nat} {lv lv' : List (Nat × Value)} {st : List Value} {ws ws' : va_W} {k n : Nat}
theorem x_newaB {atype : ArrayType} {ty : FieldType} {m : Int32} {N' B t0 : Nat} {x0 : (Nat → Int32) ⊕ (Nat → Int64) ⊕ (Nat → UInt32) ⊕ (Nat → UInt64) ⊕ (Nat → Option Nat)} (G : XO g own cc nL d mc ms) (harr : Cond.arrayClass ty ∈ lw_all) (hty : newarray.typeOf atype = ty) (hobj : refKind ty = false) (ht : (xTy (xT g))[t0]? = some (xT g t0, ty)) (ha : ∀ cA : ClassId, vp_cell cA (N', x0) = arrV cA N' (fun _ => defaultValue ty)) (hneg : ¬ m < 0) (hN : m.toNatClampNeg = N') (hB : N' ≤ B) (hbytes : B * componentBytes ty ≤ 536870912) (hk : k + 1 ≤ mc) (hn : n + B ≤ ms) (dg : decode cc pc = .ok (.newarray atype, 2)) (kk : ∀ q : Nat, X g nL (pc + 2) lv (.ref q :: st) (ws ++ [(q, .inl (xT g t0, N', x0))]) (k + 1) (n + B)) : X g nL pc lv (.int m :: st) ws k n := x_newa G harr hty hobj ht ha hneg hN (Nat.le_trans (Nat.mul_le_mul_right _ hB) hbytes) hk (Nat.le_trans (Nat.add_le_add_left hB n) hn) dg (fun q => x_mono (Nat.le_refl _) (Nat.add_le_add_left hB n) (kk q))
theorem x_nfw : nativeFrameWords "java/lang/System" "arraycopy" 5 + 11 ≤ 100 := by decide +kernel
theorem x_copyi {index : Nat} (G : XO g own cc nL d mc ms) (hlink : Cond.methodLink own index arraycopyName ∈ lw_all) (hnat : Cond.native arraycopyName ∈ lw_all) (hstat : Cond.static arraycopyName ∈ lw_all) (hini : Cond.initialized "java/lang/System" ∈ lw_all) (q0 q1 : Nat) {a a0 n0 n1 : Nat} {f f1 : Nat → Int32} (ha0 : ws[q0]? = some (a0, .inl (xT g 2, n0, .inl f))) (ha1 : ws[q1]? = some (a, .inl (xT g 2, n1, .inl f1))) {sp dp m : Int32} (h1 : ¬ sp < 0) (h2 : ¬ dp < 0) (h3 : ¬ m < 0) (h4 : sp.toNatClampNeg + m.toNatClampNeg ≤ n0) (h5 : dp.toNatClampNeg + m.toNatClampNeg ≤ n1) (hw : ws.set q1 (a, .inl (xT g 2, n1, .inl (va_cpy f f1 sp.toNatClampNeg dp.toNatClampNeg m.toNatClampNeg))) = ws') (hd : 1 ≤ d) (hcat : (st.map fun v => v.category).sum ≤ 8) (dg : decode cc pc = .ok (.invokestatic index, 3)) (kk : X g nL (pc + 3) lv st ws' k n) : X g nL pc lv (.int m :: .int dp :: .ref a :: .int sp :: .ref a0 :: st) ws k n := by
  subst hw
  exact fun hD H locs ls hl hP hS => va_copyi G.exec G.code (G.maxL.trans hl.1.symm) G.cls (G.hts _ hlink) (G.hts _ hnat) (G.hts _ hstat) (G.hts _ hini) G.K hP hD hS q0 q1 2 2 ha0 ha1 rfl rfl rfl h1 h2 h3 h4 h5 (fun _ _ => rfl) (by rw [G.room]; show 1 ≤ 10 + d; omega) (by rw [G.room]; show _ + (nativeFrameWords "java/lang/System" "arraycopy" 5 + 11) ≤ 11000 + 64 * d; have h9 := x_nfw; omega) dg (fun H1 locs1 hP1 hD1 hS1 => kk hD1 H1 locs1 ls hl hP1 hS1)
end
section
variable {g : XG} {own : String} {cc : ByteArray} {nL d mc ms pc : Nat} {lv lv' : List (Nat × Value)} {st : List Value} {ws ws' : va_W} {k n : Nat}
/-- a field of a nest mate -/
theorem x_getN (G : XO g own cc nL d mc ms) {ref C host : String} {T : u_T} {N ci i a : Nat} {v : Value} {fs : List Value} (hin : ∀ w ∈ u_ws C T N, w ∈ lw_all) (q0 : Nat) (he : ws[q0]? = some (a, .inr (ci, fs))) (hc : xCl[ci]? = some (C, T, N)) (j : Nat) (hj : j < N) (hq : (own, i, ref, (T j).2.1, (T j).2.2.1, host) ∈ xNF) (hsame : ∀ x, (xs g).fieldFound? (T j).1 (T j).2.1 (T j).2.2.1 = some x → (xs g).fieldFound? ref (T j).2.1 (T j).2.2.1 = some x) (hv : fs[j]? = some v) (dg : decode cc pc = .ok (.getfield i, 3)) (kk : X g nL (pc + 3) lv (v :: st) ws k n) : X g nL pc lv (.ref a :: st) ws k n := fun hD H locs ls hl hP hS => va_getN G.exec G.code G.hts hin G.cls G.K hP q0 he hc j hj (G.E.2.1.1 _ hq) hsame hv dg (kk hD H locs ls hl hP hS)
theorem x_putN (G : XO g own cc nL d mc ms) {ref C host : String} {T : u_T} {N ci i a : Nat} {v : Value} {fs : List Value} (hin : ∀ w ∈ u_ws C T N, w ∈ lw_all) (ty0 : Nat → FieldType) (hty : ∀ k, k < N → parseFieldDescriptor (T k).2.2.1 = some (ty0 k)) (hnm : ∀ a, a < N → ∀ b, b < N → a ≠ b → (T a).2.1 ≠ (T b).2.1) (q0 : Nat) (he : ws[q0]? = some (a, .inr (ci, fs))) (hc : xCl[ci]? = some (C, T, N)) (j : Nat) (hj : j < N) (hq : (own, i, ref, (T j).2.1, (T j).2.2.1, host) ∈ xNF) (hsame : ∀ x, (xs g).fieldFound? (T j).1 (T j).2.1 (T j).2.2.1 = some x → (xs g).fieldFound? ref (T j).2.1 (T j).2.2.1 = some x) (hfin : (T j).2.2.2 = false) (hn : narrow (ty0 j) v = v) (hfit : fits (ty0 j) v = true) (hl2 : j < fs.length) (hw : ws.set q0 (a, .inr (ci, fs.set j v)) = ws') (dg : decode cc pc = .ok (.putfield i, 3)) (kk : X g nL (pc + 3) lv st ws' k n) : X g nL pc lv (v :: .ref a :: st) ws k n := by
  subst hw
  exact fun hD H locs ls hl hP hS => va_putN G.exec G.code G.hts hin ty0 hty hnm G.cls G.K hP hD hS q0 he hc j hj (G.E.2.1.1 _ hq) hsame hfin (hty j hj) hn hfit hl2 dg (fun H1 locs1 hP1 hD1 hS1 => kk hD1 H1 locs1 ls hl hP1 hS1)
/-- ledgers of a kind: true wide -/
def lci (κ : Bool) : Nat := cond κ 4 5
def lnm (κ : Bool) : String := cond κ RX5 RX6
def ltb (κ : Bool) : u_T := cond κ TX5 TX6
def lty (κ : Bool) : Nat → FieldType := cond κ tyX5 tyX6
def lamC (κ : Bool) (T : Nat → ClassId) (n : Nat) (f : Nat → UInt64) : ClassId × Nat × ((Nat → Int32) ⊕ (Nat → Int64) ⊕ (Nat → UInt32) ⊕ (Nat → UInt64) ⊕ (Nat → Option Nat)) := match κ with | true => (T 5, n, .inr (.inr (.inr (.inl f)))) | false => (T 4, n, .inr (.inr (.inl (fun i => (f i).toUInt32))))
theorem lci_at (κ : Bool) : xCl[lci κ]? = some (lnm κ, ltb κ, 5) := by cases κ <;> rfl
theorem in_L (κ : Bool) : ∀ w ∈ u_ws (lnm κ) (ltb κ) 5, w ∈ lw_all := by cases κ; exact in_X6; exact in_X5
theorem lty_ok (κ : Bool) : ∀ k, k < 5 → parseFieldDescriptor (ltb κ k).2.2.1 = some (lty κ k) := by cases κ; exact tyX6_ok; exact tyX5_ok
theorem lnm_ok (κ : Bool) : ∀ a, a < 5 → ∀ b, b < 5 → a ≠ b → (ltb κ a).2.1 ≠ (ltb κ b).2.1 := by cases κ; exact nmX6; exact nmX5
def lF (j : Nat) : String × String × String × Bool := TX5 j
theorem ltb_eq (κ : Bool) {j : Nat} (hj : j < 4) : ltb κ j = lF j := by cases κ; (match j, hj with | 0, _ => rfl | 1, _ => rfl | 2, _ => rfl | 3, _ => rfl); rfl
theorem lty_eq (κ : Bool) {j : Nat} (hj : j < 4) : lty κ j = tyX5 j := by cases κ; (match j, hj with | 0, _ => rfl | 1, _ => rfl | 2, _ => rfl | 3, _ => rfl); rfl
theorem x_getL (κ : Bool) (G : XO g own cc nL d mc ms) {i a : Nat} {v : Value} {fs : List Value} (q0 : Nat) (he : ws[q0]? = some (a, .inr (lci κ, fs))) (j : Nat) (hj : j < 4) (hq : Cond.fieldLink own i (lF j).1 (lF j).2.1 (lF j).2.2.1 ∈ lw_all) (hv : fs[j]? = some v) (dg : decode cc pc = .ok (.getfield i, 3)) (kk : X g nL (pc + 3) lv (v :: st) ws k n) : X g nL pc lv (.ref a :: st) ws k n := x_get (ref := (lF j).1) G (in_L κ) q0 he (lci_at κ) j (Nat.lt_succ_of_lt hj) (by rw [ltb_eq κ hj]; exact hq) (fun x h => by rw [ltb_eq κ hj] at h ⊢; exact h) hv dg kk
theorem x_putL (κ : Bool) (G : XO g own cc nL d mc ms) {i a : Nat} {v : Value} {fs : List Value} (q0 : Nat) (he : ws[q0]? = some (a, .inr (lci κ, fs))) (j : Nat) (hj : j < 4) (hq : Cond.fieldLink own i (lF j).1 (lF j).2.1 (lF j).2.2.1 ∈ lw_all) (hfin : (lF j).2.2.2 = false) (hn : narrow (tyX5 j) v = v) (hfit : fits (tyX5 j) v = true) (hl2 : j < fs.length) (hw : ws.set q0 (a, .inr (lci κ, fs.set j v)) = ws') (dg : decode cc pc = .ok (.putfield i, 3)) (kk : X g nL (pc + 3) lv st ws' k n) : X g nL pc lv (v :: .ref a :: st) ws k n := x_put (ref := (lF j).1) G (in_L κ) (lty κ) (lty_ok κ) (lnm_ok κ) q0 he (lci_at κ) j (Nat.lt_succ_of_lt hj) (by rw [ltb_eq κ hj]; exact hq) (fun x h => by rw [ltb_eq κ hj] at h ⊢; exact h) (by rw [ltb_eq κ hj]; exact hfin) (by rw [lty_eq κ hj]; exact hn) (by rw [lty_eq κ hj]; exact hfit) hl2 hw dg kk
theorem x_putFL (κ : Bool) (G : XO g own cc nL d mc ms) (hini : (xh g).name = "<init>") {i a : Nat} {v : Value} {fs : List Value} (q0 : Nat) (he : ws[q0]? = some (a, .inr (lci κ, fs))) (j : Nat) (hj : j < 4) (hq : Cond.fieldLink own i (lF j).1 (lF j).2.1 (lF j).2.2.1 ∈ lw_all) (hfin : (lF j).2.2.2 = true) (hdecl : (lF j).1 = own) (hn : narrow (tyX5 j) v = v) (hfit : fits (tyX5 j) v = true) (hl2 : j < fs.length) (hw : ws.set q0 (a, .inr (lci κ, fs.set j v)) = ws') (dg : decode cc pc = .ok (.putfield i, 3)) (kk : X g nL (pc + 3) lv st ws' k n) : X g nL pc lv (v :: .ref a :: st) ws k n := x_putF (ref := (lF j).1) G hini (in_L κ) (lty κ) (lty_ok κ) (lnm_ok κ) q0 he (lci_at κ) j (Nat.lt_succ_of_lt hj) (by rw [ltb_eq κ hj]; exact hq) (fun x h => by rw [ltb_eq κ hj] at h ⊢; exact h) (by rw [ltb_eq κ hj]; exact hfin) (by rw [ltb_eq κ hj]; exact hdecl) (by rw [lty_eq κ hj]; exact hn) (by rw [lty_eq κ hj]; exact hfit) hl2 hw dg kk
end
theorem x_stI0 {l : Launch} {D : va_G} {ta : Nat → ClassId} {y : MethodName} {cc : ByteArray} {nL : Nat} {d : Nat} {av : List Value} {wc : va_W} {wo : va_W} {mc ms : Nat} {K : Prop} (hlt : l.stackTraces = false) (hy : plainFor y = true) (hav : (lg_sl av).length ≤ nL) (body : ∀ g : XG, XO g y.cls cc nL d mc ms → xl g = l → xD g = D → xT g = ta → (xh g).name = y.name → XQv0 g mc ms wo K → X g nL 0 (lv_args 0 av) [] wc 0 0) : SMv0 l D ta y cc nL d av wc wo mc ms K := x_startI hlt hy hav body
theorem x_stI1 {S0 : Type} {l : Launch} {D : va_G} {ta : Nat → ClassId} {y : MethodName} {cc : ByteArray} {nL : Nat} {d : Nat} {av : List Value} {wc : va_W} {wo : S0 → va_W} {mc ms : Nat} {K : S0 → Prop} (hlt : l.stackTraces = false) (hy : plainFor y = true) (hav : (lg_sl av).length ≤ nL) (body : ∀ g : XG, XO g y.cls cc nL d mc ms → xl g = l → xD g = D → xT g = ta → (xh g).name = y.name → XQv1 g mc ms wo K → X g nL 0 (lv_args 0 av) [] wc 0 0) : SMv1 l D ta y cc nL d av wc wo mc ms K := x_startI hlt hy hav body
theorem x_stI2 {S0 S1 : Type} {l : Launch} {D : va_G} {ta : Nat → ClassId} {y : MethodName} {cc : ByteArray} {nL : Nat} {d : Nat} {av : List Value} {wc : va_W} {wo : S0 → S1 → va_W} {mc ms : Nat} {K : S0 → S1 → Prop} (hlt : l.stackTraces = false) (hy : plainFor y = true) (hav : (lg_sl av).length ≤ nL) (body : ∀ g : XG, XO g y.cls cc nL d mc ms → xl g = l → xD g = D → xT g = ta → (xh g).name = y.name → XQv2 g mc ms wo K → X g nL 0 (lv_args 0 av) [] wc 0 0) : SMv2 l D ta y cc nL d av wc wo mc ms K := x_startI hlt hy hav body
theorem x_stI3 {S0 S1 S2 : Type} {l : Launch} {D : va_G} {ta : Nat → ClassId} {y : MethodName} {cc : ByteArray} {nL : Nat} {d : Nat} {av : List Value} {wc : va_W} {wo : S0 → S1 → S2 → va_W} {mc ms : Nat} {K : S0 → S1 → S2 → Prop} (hlt : l.stackTraces = false) (hy : plainFor y = true) (hav : (lg_sl av).length ≤ nL) (body : ∀ g : XG, XO g y.cls cc nL d mc ms → xl g = l → xD g = D → xT g = ta → (xh g).name = y.name → XQv3 g mc ms wo K → X g nL 0 (lv_args 0 av) [] wc 0 0) : SMv3 l D ta y cc nL d av wc wo mc ms K := x_startI hlt hy hav body
theorem x_stI4 {S0 S1 S2 S3 : Type} {l : Launch} {D : va_G} {ta : Nat → ClassId} {y : MethodName} {cc : ByteArray} {nL : Nat} {d : Nat} {av : List Value} {wc : va_W} {wo : S0 → S1 → S2 → S3 → va_W} {mc ms : Nat} {K : S0 → S1 → S2 → S3 → Prop} (hlt : l.stackTraces = false) (hy : plainFor y = true) (hav : (lg_sl av).length ≤ nL) (body : ∀ g : XG, XO g y.cls cc nL d mc ms → xl g = l → xD g = D → xT g = ta → (xh g).name = y.name → XQv4 g mc ms wo K → X g nL 0 (lv_args 0 av) [] wc 0 0) : SMv4 l D ta y cc nL d av wc wo mc ms K := x_startI hlt hy hav body
theorem x_stI5 {S0 S1 S2 S3 S4 : Type} {l : Launch} {D : va_G} {ta : Nat → ClassId} {y : MethodName} {cc : ByteArray} {nL : Nat} {d : Nat} {av : List Value} {wc : va_W} {wo : S0 → S1 → S2 → S3 → S4 → va_W} {mc ms : Nat} {K : S0 → S1 → S2 → S3 → S4 → Prop} (hlt : l.stackTraces = false) (hy : plainFor y = true) (hav : (lg_sl av).length ≤ nL) (body : ∀ g : XG, XO g y.cls cc nL d mc ms → xl g = l → xD g = D → xT g = ta → (xh g).name = y.name → XQv5 g mc ms wo K → X g nL 0 (lv_args 0 av) [] wc 0 0) : SMv5 l D ta y cc nL d av wc wo mc ms K := x_startI hlt hy hav body
theorem x_stI6 {S0 S1 S2 S3 S4 S5 : Type} {l : Launch} {D : va_G} {ta : Nat → ClassId} {y : MethodName} {cc : ByteArray} {nL : Nat} {d : Nat} {av : List Value} {wc : va_W} {wo : S0 → S1 → S2 → S3 → S4 → S5 → va_W} {mc ms : Nat} {K : S0 → S1 → S2 → S3 → S4 → S5 → Prop} (hlt : l.stackTraces = false) (hy : plainFor y = true) (hav : (lg_sl av).length ≤ nL) (body : ∀ g : XG, XO g y.cls cc nL d mc ms → xl g = l → xD g = D → xT g = ta → (xh g).name = y.name → XQv6 g mc ms wo K → X g nL 0 (lv_args 0 av) [] wc 0 0) : SMv6 l D ta y cc nL d av wc wo mc ms K := x_startI hlt hy hav body
theorem x_stI7 {S0 S1 S2 S3 S4 S5 S6 : Type} {l : Launch} {D : va_G} {ta : Nat → ClassId} {y : MethodName} {cc : ByteArray} {nL : Nat} {d : Nat} {av : List Value} {wc : va_W} {wo : S0 → S1 → S2 → S3 → S4 → S5 → S6 → va_W} {mc ms : Nat} {K : S0 → S1 → S2 → S3 → S4 → S5 → S6 → Prop} (hlt : l.stackTraces = false) (hy : plainFor y = true) (hav : (lg_sl av).length ≤ nL) (body : ∀ g : XG, XO g y.cls cc nL d mc ms → xl g = l → xD g = D → xT g = ta → (xh g).name = y.name → XQv7 g mc ms wo K → X g nL 0 (lv_args 0 av) [] wc 0 0) : SMv7 l D ta y cc nL d av wc wo mc ms K := x_startI hlt hy hav body
theorem x_stI8 {S0 S1 S2 S3 S4 S5 S6 S7 : Type} {l : Launch} {D : va_G} {ta : Nat → ClassId} {y : MethodName} {cc : ByteArray} {nL : Nat} {d : Nat} {av : List Value} {wc : va_W} {wo : S0 → S1 → S2 → S3 → S4 → S5 → S6 → S7 → va_W} {mc ms : Nat} {K : S0 → S1 → S2 → S3 → S4 → S5 → S6 → S7 → Prop} (hlt : l.stackTraces = false) (hy : plainFor y = true) (hav : (lg_sl av).length ≤ nL) (body : ∀ g : XG, XO g y.cls cc nL d mc ms → xl g = l → xD g = D → xT g = ta → (xh g).name = y.name → XQv8 g mc ms wo K → X g nL 0 (lv_args 0 av) [] wc 0 0) : SMv8 l D ta y cc nL d av wc wo mc ms K := x_startI hlt hy hav body
