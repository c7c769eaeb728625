/-! the orders of up to seven things: the recursion's and the model's next. By hand (gen/264.orders.src.txt) -/
/-- the recursion's orders: each thing left first, then the rest -/
def o_all : Nat → List Nat → List (List Nat)
  | 0, _ => [[]]
  | m + 1, rem => rem.flatMap (fun i => (o_all m (rem.filter (fun j => !(Nat.beq j i)))).map (fun t => i :: t))
def o_at (l : List Nat) (k : Nat) : Nat := l.getD k 0
def o_sw (l : List Nat) (i j : Nat) : List Nat := (l.set i (o_at l j)).set j (o_at l i)
/-- the place before the last rise, one more -/
def o_4 (l : List Nat) : Nat → Nat
  | 0 => 0
  | j + 1 => if o_at l j ≤ o_at l (j + 1) then j + 1 else o_4 l j
def o_41 (l : List Nat) (i : Nat) : Nat → Nat
  | 0 => 0
  | j + 1 => if o_at l i ≤ o_at l (j + 1) then j + 1 else o_41 l i j
def o_78 : Nat → Nat → Nat → List Nat → List Nat
  | 0, _, _, l => l
  | m + 1, a, b, l => if b ≤ a then l else o_78 m (a + 1) (b - 1) (o_sw l a b)
def o_nx (n : Nat) (l : List Nat) : Option (List Nat) := match o_4 l (n - 1) with
  | 0 => none
  | i + 1 => some (o_78 n (i + 1) (n - 1) (o_sw l i (o_41 l i (n - 1))))
def o_eq : List Nat → List Nat → Bool
  | [], [] => true
  | a :: s, b :: t => Nat.beq a b && o_eq s t
  | _, _ => false
def o_chk (n : Nat) : List (List Nat) → Bool
  | [] => false
  | a :: t => match t with
    | [] => (o_nx n a).isNone
    | b :: u => (match o_nx n a with | none => false | some c => o_eq c b) && o_chk n (b :: u)
theorem o_run7 : o_chk 7 (o_all 7 (List.range 7)) = true := by decide +kernel
theorem o_run6 : ∀ n : Fin 7, o_chk n.val (o_all n.val (List.range n.val)) = true := by decide +kernel
theorem o_run {n : Nat} (h : n ≤ 7) : o_chk n (o_all n (List.range n)) = true := by
  by_cases c : n = 7
  · rw [c]; exact o_run7
  · exact o_run6 ⟨n, by omega⟩
theorem o_eq_eq : ∀ {a b : List Nat}, o_eq a b = true → a = b
  | [], [], _ => rfl
  | [], _ :: _, h => nomatch h
  | _ :: _, [], h => nomatch h
  | a :: s, b :: t, h => by
    have h : (Nat.beq a b && o_eq s t) = true := h
    rw [Bool.and_eq_true] at h
    rw [Nat.eq_of_beq_eq_true h.1, o_eq_eq h.2]
