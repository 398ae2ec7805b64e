/-! COMPONENT, PURE SIDE: see. -/
theorem oL_inj {u v : Nat} (hu : u < 2 ^ 31) (hv : v < 2 ^ 31) : oL u = oL v ↔ u = v := by
  refine ⟨fun h => ?_, fun h => by rw [h]⟩
  have h1 := congrArg (fun x : Int64 => x.toBitVec.toNat) h
  have h2 : (BitVec.ofNat 64 u).toNat = (BitVec.ofNat 64 v).toNat := h1
  rw [BitVec.toNat_ofNat, BitVec.toNat_ofNat, Nat.mod_eq_of_lt (by omega), Nat.mod_eq_of_lt (by omega)] at h2
  exact h2
theorem seB_s (B : Byt) (j d : Nat) : seB B (j + 1) d = (seB B j d || decide (B j = d)) := by
  show (!(allN (fun j => !decide (B j = d)) j && !decide (B j = d))) = _
  rw [Bool.not_and, Bool.not_not]; rfl
/-- the days told, as a set -/
def teM (B : Byt) (j : Nat) : Nat := dyN (fun d => seB B j d) 30
theorem teM_lt (B : Byt) (j : Nat) : teM B j < 2 ^ 31 := dyN_lt _ _
theorem teM_0 (B : Byt) : teM B 0 = 0 := by
  apply Nat.eq_of_testBit_eq
  intro i
  unfold teM
  rw [dyN_bit, Nat.zero_testBit]
  show (_ && false) = false
  rw [Bool.and_false]
theorem teM_s {B : Byt} {j : Nat} (h1 : 1 ≤ B j) (h2 : B j ≤ 30) : teM B (j + 1) = teM B j ||| 2 ^ B j := by
  apply Nat.eq_of_testBit_eq
  intro i
  unfold teM
  rw [dyN_bit, Nat.testBit_or, dyN_bit, Nat.testBit_two_pow, seB_s]
  by_cases e : B j = i
  · rw [decide_eq_true e, Bool.or_true, Bool.or_true, Bool.and_true, decide_eq_true (by omega)]
  · rw [decide_eq_false e, Bool.or_false, Bool.or_false]
theorem allN_t {p : Nat → Bool} : ∀ n, allN p n = true ↔ ∀ k, k < n → p k = true
  | 0 => ⟨fun _ k hk => absurd hk (by omega), fun _ => rfl⟩
  | n + 1 => by
    have : allN p (n + 1) = (allN p n && p n) := rfl
    rw [this, Bool.and_eq_true, allN_t n]
    refine ⟨fun ⟨h1, h2⟩ k hk => ?_, fun h => ⟨fun k hk => h k (by omega), h n (by omega)⟩⟩
    by_cases e : k = n
    · rw [e]; exact h2
    · exact h1 k (by omega)
theorem dyQ_up {B : Byt} : ∀ n, (∀ k, k < n → dyQ B k = true) → ∀ k, k < n → 1 ≤ B k ∧ B k ≤ B (n - 1) ∧ B k ≤ 30
  | 0, _, k, hk => absurd hk (by omega)
  | n + 1, h, k, hk => by
    have hq := h n (by omega)
    unfold dyQ at hq
    rw [decide_eq_true_eq] at hq
    rw [Nat.add_sub_cancel]
    by_cases e : k = n
    · subst e
      refine ⟨?_, Nat.le_refl _, hq.2⟩
      have := hq.1
      split at this <;> omega
    · have ih := dyQ_up n (fun k hk => h k (by omega)) k (by omega)
      have := hq.1
      rw [if_neg (by omega)] at this
      omega
theorem seB_t {B : Byt} {n d : Nat} : seB B n d = true ↔ ∃ j, j < n ∧ B j = d := by
  unfold seB
  rw [Bool.not_eq_true', ← Bool.not_eq_true, allN_t]
  constructor
  · intro h
    apply Classical.byContradiction
    intro h2
    exact h (fun k hk => by rw [Bool.not_eq_true', decide_eq_false_iff_not]; exact fun z => h2 ⟨k, hk, z⟩)
  · rintro ⟨j, h1, h2⟩ h
    have := h j h1
    rw [Bool.not_eq_true', decide_eq_false_iff_not] at this
    exact this h2
theorem se_eq {B : Byt} {n : Nat} {p : Nat → Bool} (hn : 0 < n) (hq : ∀ k, k < n → dyQ B k = true) : (dyN p (B (n - 1)) = teM B n) ↔ allN (fun k => seB B n (k + 1) == p (k + 1)) (B (n - 1)) = true := by
  have up := dyQ_up n hq
  have hl := (up (n - 1) (by omega)).2.2
  rw [allN_t]
  constructor
  · intro h k hk
    have := congrArg (fun v => v.testBit (k + 1)) h
    have h2 : (dyN p (B (n - 1))).testBit (k + 1) = (teM B n).testBit (k + 1) := this
    unfold teM at h2
    rw [dyN_bit, dyN_bit, decide_eq_true (by omega), decide_eq_true (by omega), Bool.true_and, Bool.true_and] at h2
    rw [h2, beq_self_eq_true]
  · intro h
    apply Nat.eq_of_testBit_eq
    intro i
    unfold teM
    rw [dyN_bit, dyN_bit]
    by_cases c : 1 ≤ i ∧ i ≤ B (n - 1)
    · rw [decide_eq_true c, decide_eq_true (by omega), Bool.true_and, Bool.true_and]
      have := h (i - 1) (by omega)
      rw [show i - 1 + 1 = i by omega] at this
      exact (eq_of_beq this).symm
    · rw [decide_eq_false c, Bool.false_and]
      have : (decide (1 ≤ i ∧ i ≤ 30) && seB B n i) = false := by
        rw [← Bool.not_eq_true, Bool.and_eq_true, decide_eq_true_eq, seB_t]
        rintro ⟨h1, j, h2, h3⟩
        have := up j h2
        omega
      exact this.symm
