/-! THE PLAIN LAW: the relation of the component's state and the model's, and the entry. By hand -/
/-- an amount's number, by the ledger's kind -/
def pVal (k : Bool) (u : UInt64) : UInt64 := match k with | true => u | false => FP.f2d u.toUInt32
/-- an amount that may be -/
def pOk (k : Bool) (u : UInt64) : Prop := match k with | true => (u &&& 9223372036854775807) ≤ 5057542381537067008 | false => (u.toUInt32 &&& 2147483647) ≤ 1904214016
/-- a ledger against the model's row i -/
def RLd (s : LSt) (i : Nat) (L : Led) : Prop :=
  lLn L ≤ 60 ∧ s.many i = Int32.ofNat (lLn L) ∧ s.isWide i = cond (lK L) 1 0 ∧
  (∀ k : Nat, k < lLn L → pVal (lK L) (lAm L k) = s.amountOf (60 * i + k) ∧ pOk (lK L) (lAm L k)) ∧
  (∀ k : Nat, k < lLn L → lAc L k = s.accountOf (60 * i + k) ∧ 0 ≤ (lAc L k).toInt ∧ (lAc L k).toInt < 10) ∧
  (∀ k : Nat, k < lLn L → lDa L k = s.dayOf (60 * i + k) ∧ 0 ≤ (lDa L k).toInt ∧ (lDa L k).toInt < 31) ∧
  (lGc L = s.given i ∧ 0 ≤ (lGc L).toInt ∧ (lGc L).toInt ≤ lLn L ∧ ∀ k : Nat, (k : Int) < (lGc L).toInt → lGi L k = s.givenOf (60 * i + k) ∧ 0 ≤ (lGi L k).toInt ∧ (lGi L k).toInt < lLn L ∧ ∀ j : Nat, j < k → lGi L j ≠ lGi L k)
/-- a number of a run: finite, not too great -/
def pB (u : UInt64) : Prop := zf u ∧ (zV u).natAbs ≤ 2 ^ 1184
theorem pB_32 {u : UInt64} (h : pB u) : ff (FP.d2f u) ∧ vf_n32 (FP.d2f u) := by
  have h1 := (f_d2f h.1 (Nat.le_trans h.2 (Nat.pow_le_pow_right (by decide) (by decide)))).1
  exact ⟨h1, f_n32 h1⟩
/-- a run's tape against the model's row r -/
def RTp (s : LSt) (r : Nat) (t : Tp) : Prop :=
  (tW t = 0 ∨ tW t = 1) ∧ tW t = s.runWide r ∧ tY t = s.runWay r ∧ tC t = s.runSteps r ∧ tTt t = s.runTotal r ∧ 0 ≤ (tC t).toInt ∧ (tC t).toInt ≤ tNn t ∧ (tC t).toInt ≤ 60 ∧ pB (tTt t) ∧
  ∀ k : Nat, (k : Int) < (tC t).toInt → (tLl t k = s.lefts (60 * r + k) ∧ tRr t k = s.rights (60 * r + k) ∧ tSs t k = s.results (60 * r + k)) ∧ pB (tLl t k) ∧ pB (tRr t k) ∧ pB (tSs t k)
/-- what was cured: the set's members, rising -/
def RCu (cured : Int32) (cureOf : Nat → Int32) (cur : Int32) : Prop :=
  0 ≤ cur.toInt ∧ cur.toInt < 1024 ∧ ((cur = 0 ∧ cured.toInt ≤ 0 ∧ -1 ≤ cured.toInt) ∨ (cured = Int32.ofNat ((List.range 10).filter (fun j => cur.toInt.toNat.testBit j)).length ∧ ∀ k v : Nat, ((List.range 10).filter (fun j => cur.toInt.toNat.testBit j))[k]? = some v → cureOf k = Int32.ofNat v))
/-- the list's array -/
def RLs (ts : List Tp) (lz : Int32) (la : Option (Nat × Nat × (Nat → Option Nat))) : Prop :=
  ts.length ≤ 60 ∧ lz = Int32.ofNat ts.length ∧ match la with | none => ts = [] | some x => ts.length ≤ x.2.1 ∧ x.2.1 ≤ 100 ∧ ∀ (r : Nat) (t : Tp), ts[r]? = some t → x.2.2 r = some (tA t)
/-- THE RELATION of the two states -/
def RR (s : LSt) : Prop :=
  (∀ i : Nat, i < 12 → match cS s.cs i with | none => s.many i = -1 | some L => RLd s i L) ∧
  (∀ i : Nat, i < 12 → cG s.cs i = (cS s.cs i).map lU) ∧
  (s.runs = cLz s.cs ∧ RLs (cT s.cs) (cLz s.cs) (cLa s.cs)) ∧
  (∀ (r : Nat) (t : Tp), (cT s.cs)[r]? = some t → RTp s r t) ∧
  RCu s.cured s.cureOf s.cur ∧ (∀ a : Nat, a < 10 → cSh s.cs a = s.shareOf a) ∧ s.keeps = 0
/-- the first state -/
def lstE (f : Nat → Int32) : LSt := (0, f, fun _ => 0, fun _ => FP.dconst0, fun _ => 0, fun _ => 0, fun _ => 0, fun _ => 0, 0, fun _ => 0, fun _ => 0, fun _ => FP.dconst0, fun _ => 0, fun _ => FP.dconst0, fun _ => FP.dconst0, fun _ => FP.dconst0, 0, 0, 0, 0, fun _ => 0, fun _ => FP.dconst0, fun _ => FP.dconst0, fun _ => 0, fun _ => 0, -1, fun _ => 0, fun _ => 0, fun _ => 0, 0, 0, fun _ => 0, fun _ => 0, fun _ => 0, fun _ => FP.dconst0, 0, fun _ => 0, 0, (fun _ => none, [], fun _ => none, (0, 0, none), fun _ => 0, fun _ => 0, fun _ => 0, fun _ => 0))
set_option maxRecDepth 20000 in
theorem p_entry_of {I : LSt → Prop} (hI : ∀ f : Nat → Int32, (∀ i, i < 12 → f i = -1) → I (lstE f)) : wL_entry (lst0 I) := by
  repeat (first | (intro _) | (refine And.intro (vp_in_iff.mpr (by decide)) ?_))
  subst_vars
  refine hI _ (fun i hi => ?_)
  match i, hi with
  | 0, _ => rfl
  | 1, _ => rfl
  | 2, _ => rfl
  | 3, _ => rfl
  | 4, _ => rfl
  | 5, _ => rfl
  | 6, _ => rfl
  | 7, _ => rfl
  | 8, _ => rfl
  | 9, _ => rfl
  | 10, _ => rfl
  | 11, _ => rfl
  | n + 12, h => exact absurd h (by omega)
/-- the entry meets the relation -/
theorem p_entry : wL_entry (lst0 RR) := p_entry_of (fun f hf => ⟨fun i hi => hf i hi, fun i hi => rfl, ⟨rfl, (by show (0 : Nat) ≤ 60; decide), rfl, rfl⟩, fun r t h => (by cases h), ⟨(by show (0 : Int) ≤ (0 : Int32).toInt; decide), (by show (0 : Int32).toInt < 1024; decide), Or.inl ⟨rfl, (by show (-1 : Int32).toInt ≤ 0; decide), (by show -1 ≤ (-1 : Int32).toInt; decide)⟩⟩, ⟨fun a ha => rfl, rfl⟩⟩)
