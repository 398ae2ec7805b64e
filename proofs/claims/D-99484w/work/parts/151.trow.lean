/-! PURE SIDE: row; the model's. -/
def csS (I : Isl) (s : Nat → Nat) (p : Nat × Nat) (t : Nat) : Nat × Nat := (p.1 + spTakes I (-1, 0) s t 0, p.2 + iX I (3 * t + 1) * (p.1 + spTakes I (-1, 0) s t 0))
def csL (I : Isl) (s : Nat → Nat) (l : List Nat) : Nat × Nat := l.foldl (csS I s) (0, 0)
section TRo
variable {I : Isl} {s : Nat → Nat} {τ τ' : Sto} {K : Int32 → Sto → Prop} {n : Nat}
theorem csL_take {L : List Nat} {k : Nat} (h : k < L.length) : csL I s (L.take (k + 1)) = csS I s (csL I s (L.take k)) (L.getD k 0) := by
  unfold csL
  rw [take_snoc h, List.foldl_append]; rfl
theorem T_sumOf_law {L : List Nat} (h : EvC I (-1, 0) s τ) (hm : 0 < iC I 1) (hL : L.length = n) (hn : n ≤ 6) (hT : ∀ j, j < n → L.getD j 0 < iC I 0 ∧ τ.1 62 j = nI (L.getD j 0)) (hk : ∀ τ', FrE τ τ' → K (nI (csL I s L).2) τ') : T_sumOf τ (nI n) K := by
  have hc := h.c
  refine ⟨n + 1, ?_⟩
  have lp : ∀ (d g k : Nat) (τ' : Sto), n - k = d → d < g → k ≤ n → FrE τ τ' → T_sumOf_7 K (nI n) g (nI (csL I s (L.take k)).1) (nI (csL I s (L.take k)).2) (nI k) τ' := by
    intro d
    induction d with
    | zero =>
      intro g k τ' hd hg hkn f
      obtain ⟨g, rfl⟩ : ∃ f', g = f' + 1 := ⟨g - 1, by omega⟩
      obtain rfl : k = n := by omega
      unfold T_sumOf_7
      refine br_t (nI_le (by omega) (by omega)) ?_
      rw [← hL, List.take_length]
      exact hk τ' f
    | succ d ih =>
      intro g k τ' hd hg hkn f
      obtain ⟨g, rfl⟩ : ∃ f', g = f' + 1 := ⟨g - 1, by omega⟩
      unfold T_sumOf_7
      obtain ⟨t1, t2⟩ := hT k (by omega)
      rw [nI_clamp (by omega), f.1 62 _ (by omega), t2, nI_1]
      refine br_f (nI_ge (by omega) (by omega)) ⟨vi_ (by omega) (by omega), T_hoursOf_law (m := 0) (h.fr_ f) t1 hm fun τ2 f2 => ⟨vi_ (by omega) (by omega), ?_⟩⟩
      rw [(f.trans f2).1 62 _ (by omega), t2]
      refine T_useOf_law (h.fr_ (f.trans f2)) t1 ?_
      have hn := ih g (k + 1) τ2 (by omega) (by omega) (by omega) (f.trans f2)
      rw [csL_take (by omega)] at hn
      rw [nI_add, nI_mul, nI_add]
      exact hn
  exact lp n _ 0 τ rfl (by omega) (by omega) (FrE.refl τ)
end TRo
