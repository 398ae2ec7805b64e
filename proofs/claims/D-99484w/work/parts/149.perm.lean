/-! PURE SIDE: orders, one after the other. -/
def dfsL : Nat → List Nat → List (List Nat)
  | 0, _ => [[]]
  | f + 1, l => if l.isEmpty then [[]] else l.flatMap (fun t => (dfsL f (l.erase t)).map (fun q => t :: q))
def nxK (l : List Nat) : Nat → Option Nat
  | 0 => none
  | k + 1 => if l.getD k 0 ≤ l.getD (k + 1) 0 then some k else nxK l k
def nxJ (l : List Nat) (k : Nat) : Nat → Nat
  | 0 => 0
  | j + 1 => if l.getD k 0 ≤ l.getD j 0 then j else nxJ l k j
def swp (l : List Nat) (i j : Nat) : List Nat := (l.set i (l.getD j 0)).set j (l.getD i 0)
def rvP : Nat → List Nat → Nat → Nat → List Nat
  | 0, l, _, _ => l
  | f + 1, l, a, b => if b ≤ a then l else rvP f (swp l a b) (a + 1) (b - 1)
def nextL (n : Nat) (l : List Nat) : Option (List Nat) := (nxK l (n - 1)).map (fun k => rvP n (swp l k (nxJ l k n)) (k + 1) (n - 1))
def itL (n : Nat) : Nat → List Nat → List (List Nat)
  | 0, l => [l]
  | f + 1, l => l :: (match nextL n l with
    | none => []
    | some l' => itL n f l')
theorem it_dfs : ∀ n, n < 7 → itL n 720 (List.range n) = dfsL n (List.range n) := by decide +kernel
theorem it_ok : ∀ n, n < 7 → (itL n 720 (List.range n)).length ≤ 720 ∧ ∀ l, l ∈ itL n 720 (List.range n) → l.length = n ∧ (∀ x, x ∈ l → x < n) ∧ ∀ k, nxK l (n - 1) = some k → l.getD k 0 ≤ l.getD (nxJ l k n) 0 ∧ k < nxJ l k n ∧ nxJ l k n < n := by
  have : ∀ n, n < 7 → (itL n 720 (List.range n)).all (fun l => decide (l.length = n) && (l.all (fun x => decide (x < n)) && (match nxK l (n - 1) with
    | none => true
    | some k => decide (l.getD k 0 ≤ l.getD (nxJ l k n) 0) && (decide (k < nxJ l k n) && decide (nxJ l k n < n))))) = true ∧ (itL n 720 (List.range n)).length ≤ 720 := by decide +kernel
  intro n hn
  obtain ⟨h1, h2⟩ := this n hn
  refine ⟨h2, fun l hl => ?_⟩
  have := List.all_eq_true.1 h1 l hl
  rw [Bool.and_eq_true, Bool.and_eq_true, decide_eq_true_eq, List.all_eq_true] at this
  obtain ⟨q1, q2, q3⟩ := this
  refine ⟨q1, fun x hx => by simpa using q2 x hx, fun k hk => ?_⟩
  rw [hk] at q3
  simpa using q3
