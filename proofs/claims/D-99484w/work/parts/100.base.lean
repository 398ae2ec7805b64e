/-! PURE SIDE, basics: branches, writes, small words. -/
theorem bn_t {c P Q : Prop} (h : ¬ c) (k : P) : (¬ c → P) ∧ (c → Q) := ⟨fun _ => k, fun z => absurd z h⟩
theorem bn_f {c P Q : Prop} (h : c) (k : Q) : (¬ c → P) ∧ (c → Q) := ⟨fun z => absurd h z, fun _ => k⟩
theorem st_ {α : Type} {e : α} {P : α → Prop} (k : P e) : ∀ x : α, x = e → P x := fun x h => by subst h; exact k
theorem bif_ {c P Q : Prop} [Decidable c] : ((c → P) ∧ (¬ c → Q)) ↔ (if c then P else Q) := by
  by_cases h : c <;> simp [h]
def b1 (b : Bool) : Int32 := if b then 1 else 0
def b1L (b : Bool) : Int64 := if b then 1 else 0
theorem b1_ne (b : Bool) : ¬ b1 b = 0 ↔ b = true := by cases b <;> decide
theorem b1_eq (b : Bool) : b1 b = 0 ↔ b = false := by cases b <;> decide
theorem vi_ {i n : Nat} (h : i < n) (hn : n < 2 ^ 31) : vp_in (nI i) n := nI_in h hn
theorem lit_ (n : Nat) : (OfNat.ofNat n : Int32) = nI n := rfl
theorem n1_ : (-1 : Int32).toInt = -1 := by decide
/-- a generic run: the first place from k on where q no longer holds -/
def rn (q : Nat → Bool) : Nat → Nat → Nat
  | 0, k => k
  | f + 1, k => if q k then rn q f (k + 1) else k
def rnE (q : Nat → Bool) (n k : Nat) : Nat := rn q (n - k) k
theorem rn_ge (q : Nat → Bool) : ∀ f k, k ≤ rn q f k
  | 0, _ => Nat.le_refl _
  | f + 1, k => by
    unfold rn
    split
    · have := rn_ge q f (k + 1); omega
    · exact Nat.le_refl _
theorem rn_le (q : Nat → Bool) : ∀ f k, rn q f k ≤ k + f
  | 0, _ => Nat.le_refl _
  | f + 1, k => by
    unfold rn
    split
    · have := rn_le q f (k + 1); omega
    · omega
theorem rnE_ge (q : Nat → Bool) (n k : Nat) : k ≤ rnE q n k := rn_ge q _ _
theorem rnE_le {q : Nat → Bool} {n k : Nat} (h : k ≤ n) : rnE q n k ≤ n := by
  have := rn_le q (n - k) k
  unfold rnE; omega
theorem rnE_step {q : Nat → Bool} {n k : Nat} (h : q k = true) (hk : k < n) : rnE q n k = rnE q n (k + 1) := by
  unfold rnE
  rw [show n - k = (n - (k + 1)) + 1 by omega]
  show (if q k then _ else _) = _
  rw [h]; rfl
theorem rnE_stop {q : Nat → Bool} {n k : Nat} (h : q k = false) : rnE q n k = k := by
  unfold rnE
  cases n - k with
  | zero => rfl
  | succ f =>
    show (if q k then _ else _) = _
    rw [h]; rfl
theorem rnE_false {q : Nat → Bool} {n : Nat} (hq : ∀ j, n ≤ j → q j = false) : ∀ (d k : Nat), n - k = d → q (rnE q n k) = false
  | 0, k, h => by
    unfold rnE; rw [h]
    exact hq k (by omega)
  | d + 1, k, h => by
    by_cases hk : q k = true
    · rw [rnE_step hk (by omega)]
      exact rnE_false hq d (k + 1) (by omega)
    · have hk : q k = false := by simpa using hk
      rw [rnE_stop hk]; exact hk
theorem rnE_all {q : Nat → Bool} {n : Nat} : ∀ (d k : Nat), n - k = d → ∀ j, k ≤ j → j < rnE q n k → q j = true
  | 0, k, h, j, h1, h2 => by
    unfold rnE at h2; rw [h] at h2
    exact absurd h2 (Nat.not_lt.mpr h1)
  | d + 1, k, h, j, h1, h2 => by
    by_cases hk : q k = true
    · rw [rnE_step hk (by omega)] at h2
      by_cases e : j = k
      · subst e; exact hk
      · exact rnE_all d (k + 1) (by omega) j (by omega) h2
    · have hk : q k = false := by simpa using hk
      rw [rnE_stop hk] at h2
      omega
theorem rnE_idem {q : Nat → Bool} {n : Nat} (hq : ∀ j, n ≤ j → q j = false) (k : Nat) : rnE q n (rnE q n k) = rnE q n k := rnE_stop (rnE_false hq _ k rfl)
theorem rnE_mid {q : Nat → Bool} {n : Nat} : ∀ (d k j : Nat), j = k + d → j ≤ rnE q n k → rnE q n j = rnE q n k
  | 0, k, j, h, _ => by rw [show j = k by omega]
  | d + 1, k, j, h, hj => by
    by_cases hk : q k = true
    · by_cases hn : k < n
      · rw [rnE_step hk hn] at hj ⊢
        exact rnE_mid d (k + 1) j (by omega) hj
      · exfalso
        unfold rnE at hj
        rw [show n - k = 0 by omega] at hj
        unfold rn at hj
        omega
    · have hk : q k = false := by simpa using hk
      rw [rnE_stop hk] at hj
      omega
