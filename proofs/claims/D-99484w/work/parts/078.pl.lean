def U_pl : Nat → PTP
  | 0 => fun _ _ _ _ _ _ => False
  | n + 1 => U_X0_places (U_pl n)
def plF : Nat → Nat
  | 0 => 903
  | n + 1 => 1 + plF n
def plL : Nat → Nat
  | 0 => 18572
  | n + 1 => 26 + plL n
theorem plF_le (n : Nat) : 903 ≤ plF n ∧ 18572 ≤ plL n := by
  induction n with
  | zero => exact ⟨Nat.le_refl _, Nat.le_refl _⟩
  | succ n ih => exact ⟨by show _ ≤ _ + plF n; omega, by show _ ≤ _ + plL n; omega⟩
theorem pl_P (l : Launch) (D : va_G) (dA : Nat → ClassId) (ad : Nat → Nat) (Hs : Heap) (hA : cAd ad 1296 Hs.size) (n : Nat) : MetP l D dA ad Hs (plF n) (plL n) (U_pl n) := by
  induction n with
  | zero => exact fun _ _ _ _ _ _ h => h.elim
  | succ n ih => exact fun σ x1 x2 x3 x4 K hT => um_X0_places l D dA ad Hs hA (plF n) (plL n) (U_pl n) ih (plF_le n).1 (plF_le n).2 σ x1 x2 x3 x4 K hT
