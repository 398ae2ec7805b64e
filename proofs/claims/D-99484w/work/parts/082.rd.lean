def U_rd : Nat → PTR × PTR
  | 0 => (fun _ _ _ _ _ => False, fun _ _ _ _ _ => False)
  | n + 1 => (fun mc ms σ K E => U_X2_atom (U_rd n).1 (U_rd n).2 mc ms σ K E, fun mc ms σ K E => U_X2_fact (U_rd n).1 (U_rd n).2 mc ms σ K E)
def rdF : Nat → Nat
  | 0 => 0
  | n + 1 => 12 + rdF n
def rdL : Nat → Nat
  | 0 => 0
  | n + 1 => 260 + rdL n
theorem rd_AF (l : Launch) (D : va_G) (dA : Nat → ClassId) (ad : Nat → Nat) (Hs : Heap) (hA : cAd ad 1296 Hs.size) (n : Nat) : MetRA l D dA ad Hs (rdF n) (rdL n) (U_rd n).1 ∧ MetRF l D dA ad Hs (rdF n) (rdL n) (U_rd n).2 := by
  induction n with
  | zero => exact ⟨fun _ _ _ _ _ h => h.elim, fun _ _ _ _ _ h => h.elim⟩
  | succ n ih =>
    constructor
    · intro mc ms σ K E hT
      exact um_X2_atom l D dA ad Hs hA (rdF n) (rdL n) _ _ ih.1 ih.2 mc ms σ K E hT
    · intro mc ms σ K E hT
      exact um_X2_fact l D dA ad Hs hA (rdF n) (rdL n) _ _ ih.1 ih.2 mc ms σ K E hT
