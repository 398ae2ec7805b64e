/-! PURE SIDE: the next order; the model's. -/
def moW (w : Nat → Nat) (n : Nat) : Prop := (∀ i j, i < j → j < n → w i < w j) ∧ ∀ i, i < n → w i < 8
def orR (w : Nat → Nat) (n : Nat) (l : List Nat) (τ : Sto) : Prop := l.length = n ∧ (∀ j, j < n → l.getD j 0 < n) ∧ ∀ j, j < n → τ.1 62 j = nI (w (l.getD j 0))
def Fr62 (τ τ' : Sto) : Prop := (∀ i j, i ≠ 62 → τ'.1 i j = τ.1 i j) ∧ τ'.2.1 = τ.2.1
section TNx
variable {τ τ' : Sto} {K : Int32 → Sto → Prop} {w : Nat → Nat} {n : Nat} {l : List Nat}
theorem moW.le (h : moW w n) {i j : Nat} (hi : i < n) (hj : j < n) : w i ≤ w j ↔ i ≤ j := by
  refine ⟨fun z => ?_, fun z => ?_⟩
  · by_cases c : i ≤ j
    · exact c
    · have := h.1 j i (by omega) hi; omega
  · by_cases c : i = j
    · subst c; exact Nat.le_refl _
    · exact Nat.le_of_lt (h.1 i j (by omega) hj)
theorem moW.nle (h : moW w n) {i j : Nat} (hi : i < n) (hj : j < n) : nI (w i) ≤ nI (w j) ↔ i ≤ j := by
  have h1 := h.2 i hi
  have h2 := h.2 j hj
  rw [nI_leI (by omega) (by omega)]
  exact h.le hi hj
theorem swp_getD {l : List Nat} {i j k : Nat} (hi : i < l.length) (hj : j < l.length) : (swp l i j).getD k 0 = if k = j then l.getD i 0 else if k = i then l.getD j 0 else l.getD k 0 := by
  unfold swp
  simp only [List.getD_eq_getElem?_getD, List.getElem?_set, List.length_set]
  by_cases c1 : j = k
  · subst c1; simp [hj]
  · by_cases c2 : i = k
    · subst c2; simp [c1, hi, Ne.symm c1]
    · simp [c1, c2, Ne.symm c1, Ne.symm c2]
theorem orR.sw (h : orR w n l τ) {i j : Nat} (hi : i < n) (hj : j < n) : orR w n (swp l i j) (sI (sI τ 62 i (τ.1 62 j)) 62 j (τ.1 62 i)) ∧ Fr62 τ (sI (sI τ 62 i (τ.1 62 j)) 62 j (τ.1 62 i)) := by
  obtain ⟨h1, h2, h3⟩ := h
  refine ⟨⟨by unfold swp; rw [List.length_set, List.length_set]; exact h1, fun k hk => ?_, fun k hk => ?_⟩, fun a b hab => by rw [sI_neI hab, sI_neI hab], rfl⟩
  · rw [swp_getD (by omega) (by omega)]
    split
    · exact h2 i hi
    · split
      · exact h2 j hj
      · exact h2 k hk
  · rw [swp_getD (by omega) (by omega)]
    by_cases c1 : k = j
    · subst c1; rw [sI_same, if_pos rfl]; exact h3 i hi
    · rw [sI_ne (by omega), if_neg c1]
      by_cases c2 : k = i
      · subst c2; rw [sI_same, if_pos rfl]; exact h3 j hj
      · rw [sI_ne (by omega), if_neg c2]; exact h3 k hk
theorem Fr62.trans {τ'' : Sto} (h : Fr62 τ τ') (h' : Fr62 τ' τ'') : Fr62 τ τ'' := ⟨fun i j hi => by rw [h'.1 i j hi, h.1 i j hi], by rw [h'.2, h.2]⟩
theorem T_next100 (hn : n ≤ 6) : ∀ (f : Nat) (l : List Nat) (a b : Nat) (τ : Sto), b - a < f → b < n → a ≤ n → orR w n l τ → (∀ τ', orR w n (rvP f l a b) τ' → Fr62 τ τ' → K 1 τ') → T_isNextOrder_100 K f (nI a) (nI b) τ
  | 0, l, a, b, τ, hf, _, _, _, _ => absurd hf (by omega)
  | f + 1, l, a, b, τ, hf, hb, ha, h, hk => by
    unfold T_isNextOrder_100
    have er : rvP (f + 1) l a b = if b ≤ a then l else rvP f (swp l a b) (a + 1) (b - 1) := rfl
    rw [er] at hk
    by_cases c : b ≤ a
    · rw [if_pos c] at hk
      exact br_t (nI_le c (by omega)) (hk τ h ⟨fun _ _ _ => rfl, rfl⟩)
    · rw [if_neg c] at hk
      obtain ⟨s1, s2⟩ := h.sw (i := a) (j := b) (by omega) hb
      rw [nI_clamp (by omega), nI_clamp (by omega), nI_1]
      refine br_f (nI_ge (by omega) (by omega)) ⟨vi_ (by omega) (by omega), vi_ (by omega) (by omega), vi_ (by omega) (by omega), st_ ⟨vi_ (by omega) (by omega), st_ ?_⟩⟩
      rw [show nI b + (-1) = nI (b - 1) by
        obtain ⟨b, rfl⟩ : ∃ b', b = b' + 1 := ⟨b - 1, by omega⟩
        rw [← Int32.sub_eq_add_neg]; exact nI_pred b]
      exact T_next100 hn f (swp l a b) (a + 1) (b - 1) _ (by omega) (by omega) (by omega) s1 (fun τ' h' f' => hk τ' h' (s2.trans f'))
theorem T_next41 (hn : n ≤ 6) (hw : moW w n) {k : Nat} (hk1 : k + 1 < n) (h : orR w n l τ) (hk : ∀ τ', orR w n (rvP n (swp l k (nxJ l k n)) (k + 1) (n - 1)) τ' → Fr62 τ τ' → K 1 τ') (hJ : l.getD k 0 ≤ l.getD (nxJ l k n) 0 ∧ k < nxJ l k n ∧ nxJ l k n < n) : ∃ f, T_isNextOrder_41 K (nI n) (nI k) f (nI n - 1) τ := by
  refine ⟨n, ?_⟩
  obtain ⟨h1, h2, h3⟩ := h
  have lp : ∀ j, j + 1 ≤ n → nxJ l k (j + 1) = nxJ l k n → T_isNextOrder_41 K (nI n) (nI k) (j + 1) (nI j) τ := by
    intro j
    induction j with
    | zero =>
      intro hj ej
      exfalso
      have : nxJ l k (0 + 1) = 0 := by show (if _ then _ else nxJ l k 0) = 0; split <;> rfl
      rw [this] at ej; omega
    | succ j ih =>
      intro hj ej
      unfold T_isNextOrder_41
      have er : nxJ l k (j + 1 + 1) = if l.getD k 0 ≤ l.getD (j + 1) 0 then j + 1 else nxJ l k (j + 1) := rfl
      rw [er] at ej
      rw [nI_clamp (by omega), nI_clamp (by omega), h3 k (by omega), h3 (j + 1) (by omega), hw.nle (h2 k (by omega)) (h2 (j + 1) (by omega))]
      refine ⟨vi_ (by omega) (by omega), vi_ (by omega) (by omega), ?_⟩
      by_cases c : l.getD k 0 ≤ l.getD (j + 1) 0
      · rw [if_pos c] at ej
        rw [← ej] at hk
        obtain ⟨s1, s2⟩ := orR.sw (i := k) (j := j + 1) ⟨h1, h2, h3⟩ (by omega) (by omega)
        rw [h3 k (by omega), h3 (j + 1) (by omega)] at s1 s2
        refine br_t c ⟨vi_ (by omega) (by omega), vi_ (by omega) (by omega), vi_ (by omega) (by omega), st_ ⟨vi_ (by omega) (by omega), st_ ⟨n, ?_⟩⟩⟩
        rw [nI_1, show nI n - 1 = nI (n - 1) by
          obtain ⟨b, rfl⟩ : ∃ b', n = b' + 1 := ⟨n - 1, by omega⟩
          exact nI_pred b]
        exact T_next100 hn n _ (k + 1) (n - 1) _ (by omega) (by omega) (by omega) s1 (fun τ' h' f' => hk τ' h' (s2.trans f'))
      · rw [if_neg c] at ej
        refine br_f c ?_
        rw [show nI (j + 1) + (-1) = nI j by rw [← Int32.sub_eq_add_neg]; exact nI_pred j]
        exact ih (by omega) ej
  have := lp (n - 1) (by omega) (by rw [show n - 1 + 1 = n by omega])
  rw [show n - 1 + 1 = n by omega] at this
  rw [show nI n - 1 = nI (n - 1) by
    obtain ⟨b, rfl⟩ : ∃ b', n = b' + 1 := ⟨n - 1, by omega⟩
    exact nI_pred b]
  exact this
theorem T_isNextOrder_law (hn : n ≤ 6) (hw : moW w n) (h : orR w n l τ) (hJ : ∀ k, nxK l (n - 1) = some k → l.getD k 0 ≤ l.getD (nxJ l k n) 0 ∧ k < nxJ l k n ∧ nxJ l k n < n)
    (hk : match nextL n l with
      | none => K 0 τ
      | some l' => ∀ τ', orR w n l' τ' → Fr62 τ τ' → K 1 τ') : T_isNextOrder τ (nI n) K := by
  obtain ⟨h1, h2, h3⟩ := h
  unfold nextL at hk
  refine ⟨n + 1, ?_⟩
  have lp : ∀ m, m ≤ n - 1 → nxK l m = nxK l (n - 1) → ∀ g, m < g → T_isNextOrder_4 K (nI n) g (nI m - 1) τ := by
    intro m
    induction m with
    | zero =>
      intro _ em g hg
      obtain ⟨g, rfl⟩ : ∃ f', g = f' + 1 := ⟨g - 1, by omega⟩
      rw [← em] at hk
      unfold T_isNextOrder_4
      exact br_t (by decide) (br_f (by decide) hk)
    | succ m ih =>
      intro hm em g hg
      obtain ⟨g, rfl⟩ : ∃ f', g = f' + 1 := ⟨g - 1, by omega⟩
      have er : nxK l (m + 1) = if l.getD m 0 ≤ l.getD (m + 1) 0 then some m else nxK l m := rfl
      rw [er] at em
      unfold T_isNextOrder_4
      rw [nI_pred, nI_1, nI_clamp (by omega), nI_clamp (by omega), h3 m (by omega), h3 (m + 1) (by omega), hw.nle (h2 m (by omega)) (h2 (m + 1) (by omega))]
      refine br_f (nI_pos (by omega)) ⟨vi_ (by omega) (by omega), vi_ (by omega) (by omega), ?_⟩
      by_cases c : l.getD m 0 ≤ l.getD (m + 1) 0
      · rw [if_pos c] at em
        rw [← em] at hk
        exact br_t c (br_t (show nI 0 ≤ nI m from nI_le (by omega) (by omega)) (T_next41 hn hw (by omega) ⟨h1, h2, h3⟩ hk (hJ m em.symm)))
      · rw [if_neg c] at em
        refine br_f c ?_
        rw [← Int32.sub_eq_add_neg]
        exact ih (by omega) em g (by omega)
  by_cases n0 : n = 0
  · subst n0
    unfold T_isNextOrder_4
    exact br_t (by decide) (br_f (by decide) hk)
  · have := lp (n - 1) (Nat.le_refl _) rfl (n + 1) (by omega)
    rw [show nI n - 2 = nI (n - 1) - 1 by
      obtain ⟨b, rfl⟩ : ∃ b', n = b' + 1 := ⟨n - 1, by omega⟩
      rw [← nI_1, Nat.add_sub_cancel]
      have : ∀ x : Int32, x + 1 - 2 = x - 1 := by
        intro x
        rw [Int32.sub_eq_add_neg, Int32.add_assoc, Int32.sub_eq_add_neg]; rfl
      exact this _]
    exact this
end TNx
