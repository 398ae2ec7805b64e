theorem ts_out0 {x : Int32} {n : Nat} (hn : n < 2 ^ 31) (h : ∀ k : Nat, k < n → ¬ x = nI k) : x.toInt < 0 ∨ (n : Int) - 1 < x.toInt := by
  by_cases h0 : x < 0
  · left; rw [Int32.lt_iff_toInt_lt] at h0; exact h0
  · right
    obtain ⟨j, hj, rfl⟩ := nI_of h0
    rw [nI_toInt hj]
    by_cases hjn : j < n
    · exact absurd rfl (h j hjn)
    · omega
theorem ts_out1 {x : Int32} {n : Nat} (hn : n + 1 < 2 ^ 31) (h : ∀ k : Nat, k < n → ¬ x = nI (k + 1)) : x.toInt < 1 ∨ (n : Int) < x.toInt := by
  by_cases h0 : x < 0
  · left; rw [Int32.lt_iff_toInt_lt, Int32.toInt_zero] at h0; omega
  · obtain ⟨j, hj, rfl⟩ := nI_of h0
    rw [nI_toInt hj]
    by_cases h1 : j = 0
    · left; omega
    · by_cases hjn : j ≤ n
      · exact absurd (show nI j = nI (j - 1 + 1) by rw [show j - 1 + 1 = j by omega]) (h (j - 1) (by omega))
      · right; omega
