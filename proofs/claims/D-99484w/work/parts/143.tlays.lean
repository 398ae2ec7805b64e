/-! PURE SIDE: how frail; the model's. -/
/-- does a thing break in a day ahead, were it so frail? -/
def br1 (a : AS) (t f d : Nat) : Bool := (spDay (aI a) (nI t, nI f) (spDays (aI a) (nI t, nI f) (d - 1) (aS a)).2).1.testBit t
section TLy
variable {a : AS} {τ τ' : Sto} {K : Int32 → Sto → Prop} {fr : Int32 × Int32} {s : St}
theorem TH.fro (h : TH a fr s τ) {fr' : Int32 × Int32} (e : ∀ i j, ¬ (i = 0 ∧ (j = 53 ∨ j = 54)) → τ'.1 i j = τ.1 i j) (el : τ'.2.1 = τ.2.1) (e53 : τ'.1 0 53 = fr'.1) (e54 : fr'.1 ≠ -1 → τ'.1 0 54 = fr'.2 ∧ ∃ f, f ≤ 9 ∧ fr'.2 = nI f) : TH a fr' s τ' := by
  obtain ⟨⟨τ0, r, g1, g2, cc, g3, g4⟩, ⟨⟨h1, h2, h3, h4, h5, h6⟩, d2, d3, d4⟩, hh⟩ := h
  refine ⟨⟨τ0, r, fun i j q1 q2 q3 => ?_, fun i j q => by rw [el]; exact g2 i j q, cc, g3, by rw [e _ _ (by omega)]; exact g4⟩, ⟨⟨h1, h2.congr (fun i j hi => e i j (by omega)) (fun j => by rw [el]), fun i hi => by rw [e _ _ (by omega)]; exact h3 i hi, h4, e53, e54⟩, by rw [e _ _ (by omega)]; exact d2, d3, fun z => by cases z⟩, fun i hi => by rw [e _ _ (by omega)]; exact hh i hi⟩
  by_cases c : i = 0 ∧ j = 54
  · exact absurd (by rw [c.1, c.2]; simp [scrT]) q1
  · rw [e i j (by omega)]; exact g1 i j q1 q2 q3
theorem TH.w64 (h : TH a fr s τ) {j : Nat} {v : Int32} : TH a fr s (sI τ 64 j v) := by
  obtain ⟨⟨τ0, r, g1, g2, cc, g3, g4⟩, ⟨⟨h1, h2, h3, h4, h5, h6⟩, d2, d3, d4⟩, hh⟩ := h
  have e : ∀ i k, i ≠ 64 → (sI τ 64 j v).1 i k = τ.1 i k := fun i k hi => sI_neI hi
  refine ⟨⟨τ0, r, fun i k q1 q2 q3 => ?_, g2, cc, g3, by rw [e _ _ (by omega)]; exact g4⟩, ⟨⟨h1, h2.congr (fun i j hi => e i j (by omega)) (fun j => rfl), fun i hi => by rw [e _ _ (by omega)]; exact h3 i hi, h4, by rw [e _ _ (by omega)]; exact h5, fun z => ⟨by rw [e _ _ (by omega)]; exact (h6 z).1, (h6 z).2⟩⟩, by rw [e _ _ (by omega)]; exact d2, d3, fun z => by cases z⟩, fun i hi => by rw [e _ _ (by omega)]; exact hh i hi⟩
  rw [e i k (fun z => q1 (by simp [scrT, z]))]; exact g1 i k q1 q2 q3
theorem nar_b (b : Bool) : vp_nar .boolean (b1 b) = b1 b := by cases b <;> decide
theorem T_laysBreaks_law {K : Sto → Prop} {t n : Nat} (h : RT a τ) (ht : t < iC (aI a) 0) (hn : n ≤ 30) (hk : ∀ τ', RT a τ' → (∀ f d, f < 10 → 1 ≤ d → d ≤ n → τ'.1 64 (31 * f + d) = b1 (br1 a t f d)) → K τ') : T_laysBreaks τ (nI t) (nI n) K := by
  have hs1 := h.2.2.2.2.1.1
  have hc := h.ev.c
  refine T_putsAside_law h fun τ1 h1 _ => ⟨11, ?_⟩
  have lp : ∀ (e g f : Nat) (fr : Int32 × Int32) (τ' : Sto), 10 - f = e → e < g → f ≤ 10 → TH a fr (aS a) τ' → (∀ f' d, f' < f → 1 ≤ d → d ≤ n → τ'.1 64 (31 * f' + d) = b1 (br1 a t f' d)) → T_laysBreaks_6 K (nI t) (nI n) g (nI f) τ' := by
    intro e
    induction e with
    | zero =>
      intro g f fr τ' he hg hf hT hB
      obtain ⟨g, rfl⟩ : ∃ f', g = f' + 1 := ⟨g - 1, by omega⟩
      obtain rfl : f = 10 := by omega
      unfold T_laysBreaks_6
      refine br_t (by decide) (st_ (T_takesBack_law64 (hT.fro (fr' := (-1, 0)) (fun i j hij => sI_ne (by omega)) rfl (sI_same ..) (fun z => absurd rfl z)) rfl fun τ2 h2 e64 => hk τ2 h2 fun f d q1 q2 q3 => ?_))
      rw [e64, sI_neI (by omega)]; exact hB f d q1 q2 q3
    | succ e ih =>
      intro g f fr τ' he hg hf hT hB
      obtain ⟨g, rfl⟩ : ∃ f', g = f' + 1 := ⟨g - 1, by omega⟩
      unfold T_laysBreaks_6
      refine br_f (show ¬ nI 10 ≤ nI f from nI_ge (by omega) (by omega)) (st_ (st_ ⟨n + 1, ?_⟩))
      have lp2 : ∀ (e2 g2 d : Nat) (τ2 : Sto), n + 1 - d = e2 → e2 < g2 → 1 ≤ d → d ≤ n + 1 → TH a (nI t, nI f) (spDays (aI a) (nI t, nI f) (d - 1) (aS a)).2 τ2 → (∀ f' d', f' < f → 1 ≤ d' → d' ≤ n → τ2.1 64 (31 * f' + d') = b1 (br1 a t f' d')) → (∀ d', 1 ≤ d' → d' < d → τ2.1 64 (31 * f + d') = b1 (br1 a t f d')) → T_laysBreaks_25 K (T_laysBreaks_6 K (nI t) (nI n) g) (nI t) (nI n) (nI f) g2 (nI d) τ2 := by
        intro e2
        induction e2 with
        | zero =>
          intro g2 d τ2 he2 hg2 hd1 hd2 hT2 hB1 hB2
          obtain ⟨g2, rfl⟩ : ∃ f', g2 = f' + 1 := ⟨g2 - 1, by omega⟩
          unfold T_laysBreaks_25
          refine br_t (nI_lt (by omega) (by omega)) (T_triesAnew_law hT2 fun τ3 h3 _ e64 => ?_)
          rw [nI_1]
          refine ih g (f + 1) _ τ3 (by omega) (by omega) (by omega) h3 (fun f' d' q1 q2 q3 => ?_)
          rw [e64]
          by_cases c : f' = f
          · subst c; exact hB2 d' q2 (by omega)
          · exact hB1 f' d' (by omega) q2 q3
        | succ e2 ih2 =>
          intro g2 d τ2 he2 hg2 hd1 hd2 hT2 hB1 hB2
          obtain ⟨g2, rfl⟩ : ∃ f', g2 = f' + 1 := ⟨g2 - 1, by omega⟩
          unfold T_laysBreaks_25
          have hiv := spDays_inv (fr := (nI t, nI f)) h.ev.1 hs1.w (d - 1)
          have hd0 := hs1.1
          refine br_f (nI_nlt (by omega) (by omega)) (T_dayGoes_law hT2.2.1 (by omega) fun τ3 d3 f3 h60 _ => ?_)
          have i1 : 31 * nI f + nI d = nI (31 * f + d) := by rw [show (31 : Int32) * nI f = nI (31 * f) from nI_mul 31 f, nI_add]
          rw [i1, nI_clamp (by omega), nI_clamp (by omega), h60 t ht, nar_b, nI_1]
          refine ⟨vi_ (by omega) (by omega), vi_ (by omega) (by omega), st_ (ih2 g2 (d + 1) _ (by omega) (by omega) (by omega) (by omega) ?_ (fun f' d' q1 q2 q3 => ?_) (fun d' q1 q2 => ?_))⟩
          · have := hT2.go d3 f3
            obtain ⟨d, rfl⟩ : ∃ k, d = k + 1 := ⟨d - 1, by omega⟩
            exact this.w64
          · rw [sI_ne (by omega), f3.1 64 _ (by omega) (by omega) (by omega) (by omega)]; exact hB1 f' d' q1 q2 q3
          · by_cases c : d' = d
            · subst c; exact sI_same ..
            · rw [sI_ne (by omega), f3.1 64 _ (by omega) (by omega) (by omega) (by omega)]; exact hB2 d' q1 (by omega)
      refine lp2 n (n + 1) 1 _ rfl (by omega) (by omega) (by omega) (hT.fro (fun i j hij => by rw [sI_ne (by omega), sI_ne (by omega)]) rfl (by rw [sI_ne (by omega)]; exact sI_same ..) (fun _ => ⟨sI_same .., f, by omega, rfl⟩)) (fun f' d' q1 q2 q3 => ?_) (fun d' q1 q2 => absurd q2 (by omega))
      rw [sI_neI (by omega), sI_neI (by omega)]; exact hB f' d' q1 q2 q3
  exact lp 10 11 0 _ τ1 rfl (by omega) (by omega) h1 (fun f' d q => absurd q (by omega))
end TLy
