/-! COMPONENT, PURE SIDE: states are kept, undone; strike, mend, forge, days. -/
section CA1
variable {σ σ' σ'' : CS} {a : AS} {I : Isl} {K : Int32 → CS → Prop} {x y : Int32} {P Q J : Nat → Prop} {i j n ob : Nat} {s : St} {U : List St}
theorem FrX.toJ (h : FrX P σ σ') (hc : σ.1 ≤ CB) (hP : ¬ P 0) : FrO P J σ σ' := ⟨Nat.le_of_eq h.1.symm, by rw [h.1]; exact hc, fun i _ => h.2.1 i, fun i _ hi _ => h.2.2 i hi, (h.2.2 0 hP).2.2.2, (h.2.2 0 hP).2.2.1, fun j _ => by rw [(h.2.2 0 hP).2.1]⟩
theorem FrO.wR {v : Nat} (h : FrO P J σ σ') (h0 : i ≠ 0) (hi : P i) : FrO P J σ (wR σ' i j v) := by
  obtain ⟨a1, a2, a3, a4, a5, a6, a7⟩ := h
  exact ⟨a1, a2, a3, fun i' hi' hp h0' => (a4 i' hi' hp h0').wR (fun z => by subst z; exact hp hi), (gR_wi h0.symm).trans a5, a6, a7⟩
abbrev kpP : Nat → Prop := fun i => 134 ≤ i ∧ i < 1295
abbrev kpJ : Nat → Prop := fun j => j = 15
theorem RC.kp (h : RC a σ) (f : FrO kpP kpJ σ σ') (k : KpC σ' U) : RC (aSetS a (aS a) U) σ' := by
  obtain ⟨b, t, fl, is, nw, tr, -, sd, ou⟩ := h
  obtain ⟨f1, f2, f3, f4, f5, f6, f7⟩ := f
  have hz := b.1.1
  have hcb := CBv
  have ag : ∀ i, i ≠ 0 → (i < 134 ∨ i = 1295) → agr σ σ' i := fun i h0 hi => f4 i (Or.inl (by omega)) (fun z => by have : 134 ≤ i ∧ i < 1295 := z; omega) h0
  have g0 : ∀ j, j ≠ 15 → gI σ' 0 j = gI σ 0 j := fun j hj => f7 j hj
  refine ⟨b.mv f1 f2 f3 (fun i hi => f4 i (Or.inr hi) (fun z => by have : 134 ≤ i ∧ i < 1295 := z; omega) (by omega)), t.mv (g0 2 (by omega)) (ag 8 (by omega) (by omega)).2.1, fl.mv (g0 3 (by omega)) (g0 4 (by omega)) (ag 15 (by omega) (by omega)).2.1, is.fr (by rw [f5]) (fun i hi => ?_) f1, nw.mv (fun i h1 h2 => ag i (by omega) (by omega)), tr.fr (by omega) (fun i h1 h2 => ag i (by omega) (by omega)), k, ?_, ou.mv (g0 19 (by omega)) (ag 1295 (by omega) (by omega)).2.1⟩
  · rcases hi with h | h
    · exact ag i (by omega) (by omega)
    · exact f4 i (Or.inl h.2) (fun z => by have : 134 ≤ i ∧ i < 1295 := z; omega) (by omega)
  · show gL σ' 0 16 = aSd a
    rw [f6]; exact sd
theorem st_kind (hs : StaC σ) (h : stOK ob) : gK σ ob = some kO5 := by
  have hl := row_lt h
  rw [hs _ (by omega), show ob = ob + 0 by omega, st_lay h (by omega)]
  rfl
theorem kp_ok {k : Nat} (h : k < 20) : stOK (135 + 58 * k) := Or.inr (Or.inr ⟨k, h, rfl⟩)
theorem getU {U : List St} {j : Nat} {s : St} (h : U[j]? = some s) : j < U.length := by
  rcases Nat.lt_or_ge j U.length with hlt | hge
  · exact hlt
  · rw [List.getElem?_eq_none hge] at h; cases h
theorem co_keeps62 {K : Unit → CS → Prop} (h : RC a σ) (ha : AOK a) (hl : (aU a).length < 20) (hk : ∀ σ', RC (aSetS a (aS a) (aS a :: aU a)) σ' → K () σ') : U_X0_keeps_62 K σ := by
  obtain ⟨k1, k2, k3, p, p1, p2, p3⟩ := h.2.2.2.2.2.2.1
  obtain ⟨r1, r2⟩ := p1 _ hl
  unfold U_X0_keeps_62
  rw [k2, nI_clamp (by omega)]
  refine ⟨vi_ hl (by omega), _, r1, kp_ok r2, st_kind h.sta (kp_ok r2), cb_copy h.sta (kp_ok r2) (Or.inl rfl) (Or.inr (by omega)) h.2.2.2.2.1.1 (fun t ht => (ha.2.1.2.1 t ht).2.2.2.2) (k3 _ r2) fun σ1 f1 s1 e1 => st_ ?_⟩
  have g0 : agr σ σ1 0 := f1.2.2 0 (fun z => by unfold obP at z; omega)
  rw [g0.2.1, k2, nI_1]
  have fo : FrO kpP kpJ σ (wI σ1 0 15 (nI ((aU a).length + 1))) := by
    refine FrO.wI ((f1.mono (Q := kpP) (fun i z => ?_)).toJ h.z ?_) ?_
    · show 134 ≤ i ∧ i < 1295
      unfold obP at z; omega
    · intro z
      have : 134 ≤ 0 ∧ 0 < 1295 := z
      omega
    · exact Or.inr ⟨rfl, rfl⟩
  have agK : ∀ k, k < 20 → k ≠ p (aU a).length → ∀ i, 135 + 58 * k ≤ i → i < 135 + 58 * k + 58 → agr σ (wI σ1 0 15 (nI ((aU a).length + 1))) i := fun k hk hne i h1 h2 => (f1.2.2 i (fun z => by unfold obP at z; omega)).wI (by omega)
  refine hk _ (h.kp fo ⟨by rw [List.length_cons]; omega, by rw [List.length_cons]; exact gI_ws, fun k hk' => ?_, p, fun k hk' => ?_, p2, fun j s hj => ?_⟩)
  · by_cases e : k = p (aU a).length
    · rw [e]; exact (s1.mv (fun i h1 h2 => (agr.refl σ1 i).wI (by omega))).rw0
    · exact (k3 k hk').fr (by omega) (fun i h1 h2 => agK k hk' e i (by omega) (by omega))
  · rw [((f1.2.2 134 (fun z => by unfold obP at z; omega)).wI (a := 0) (b := 15) (v := nI ((aU a).length + 1)) (by omega)).2.2.2]; exact p1 k hk'
  · cases j with
    | zero =>
      have e : aS a = s := by simpa using hj
      rw [List.length_cons, show (aU a).length + 1 - 1 - 0 = (aU a).length by omega, ← e]
      exact s1.mv (fun i h1 h2 => (agr.refl σ1 i).wI (by omega))
    | succ j =>
      have hj' : (aU a)[j]? = some s := by simpa using hj
      have hlt := getU hj'
      rw [List.length_cons, show (aU a).length + 1 - 1 - (j + 1) = (aU a).length - 1 - j by omega]
      refine (p3 j s hj').mv (agK _ (p1 _ (by omega)).2 (fun z => ?_))
      have := p2 _ _ (by omega) (by omega) z
      omega
theorem co_keeps {K : Unit → CS → Prop} (h : RC a σ) (ha : AOK a) (hk : ∀ σ', RC (aKeep a) σ' → K () σ') : U_X0_keeps σ K := by
  have hRC := h
  obtain ⟨k1, k2, k3, p, p1, p2, p3⟩ := h.2.2.2.2.2.2.1
  unfold U_X0_keeps
  rw [k2]
  by_cases hl : (aU a).length = 20
  · refine bn_f (by rw [hl]; rfl) ⟨vi_ (i := 0) (by omega) (by omega), 20, ?_⟩
    rw [cl_0, (p1 0 (by omega)).1]
    have lp : ∀ (d f k : Nat) (σ1 : CS), 20 - k = d → d < f → 1 ≤ k → k ≤ 20 → FrO kpP kpJ σ σ1 → gI σ1 0 15 = gI σ 0 15 → (∀ i, i ≠ 134 → agr σ σ1 i) → (∀ k', k' < 20 → gR σ1 134 k' = if k' + 1 < k then gR σ 134 (k' + 1) else gR σ 134 k') → U_X0_keeps_18 K (135 + 58 * p 0 + 1) f (nI k) σ1 := by
      intro d
      induction d with
      | zero =>
        intro f k σ1 hd hf hk1 hk20 f1 e15 ag er
        obtain ⟨f, rfl⟩ : ∃ f', f = f' + 1 := ⟨f - 1, by omega⟩
        obtain rfl : k = 20 := by omega
        unfold U_X0_keeps_18
        have kk : gK σ1 (135 + 58 * p 0) = some kO5 := by
          have := (p1 0 (by omega)).2
          rw [(ag _ (by omega)).1]; exact st_kind h.sta (kp_ok this)
        refine br_t (by decide) ⟨_, rfl, kk, vi_ (i := 19) (by omega) (by omega), st_ (st_ ?_)⟩
        rw [gI_wR, e15, k2, hl, show nI 20 - 1 = nI 19 by decide, show Int32.toNatClampNeg 19 = 19 by decide]
        obtain ⟨u, hu⟩ : ∃ u, u = wI (wR σ1 134 19 (135 + 58 * p 0 + 1)) 0 15 (nI 19) := ⟨_, rfl⟩
        rw [← hu]
        have fu : FrO kpP kpJ σ u := by
          rw [hu]
          refine FrO.wI (FrO.wR f1 (by omega) ?_) ?_
          · exact ⟨by omega, by omega⟩
          · exact Or.inr ⟨rfl, rfl⟩
        have au : ∀ i, i ≠ 0 → i ≠ 134 → agr σ u i := fun i h0 h1 => by rw [hu]; exact ((ag i h1).wR h1).wI h0
        have u15 : gI u 0 15 = nI 19 := by rw [hu]; exact gI_ws
        have uR : ∀ k, k < 20 → gR u 134 k = if k = 19 then 135 + 58 * p 0 + 1 else gR σ 134 (k + 1) := by
          intro k hk
          rw [hu, gR_wI]
          by_cases e : k = 19
          · rw [if_pos e, e]; exact gR_ws
          · rw [if_neg e, gR_wn (by omega), er k hk, if_pos (by omega)]
        have hU19 : ((aU a).take 19).length = 19 := by rw [List.length_take]; omega
        have kp : KpC u ((aU a).take 19) := by
          refine ⟨by omega, by rw [hU19]; exact u15, fun k hk' => (k3 k hk').fr (by omega) (fun i h1 h2 => au i (by omega) (by omega)), fun k => if k = 19 then p 0 else p (k + 1), fun k hk' => ?_, fun k k' hk' hk2 e => ?_, fun j s hj => ?_⟩
          · dsimp only
            rw [uR k hk']
            by_cases e : k = 19
            · rw [if_pos e, if_pos e]; exact ⟨rfl, (p1 0 (by omega)).2⟩
            · rw [if_neg e, if_neg e]; exact p1 (k + 1) (by omega)
          · dsimp only at e
            by_cases e1 : k = 19
            · by_cases e2 : k' = 19
              · omega
              · rw [if_pos e1, if_neg e2] at e
                have := p2 0 (k' + 1) (by omega) (by omega) e
                omega
            · by_cases e2 : k' = 19
              · rw [if_neg e1, if_pos e2] at e
                have := p2 (k + 1) 0 (by omega) (by omega) e
                omega
              · rw [if_neg e1, if_neg e2] at e
                have := p2 (k + 1) (k' + 1) (by omega) (by omega) e
                omega
          · have hj19 := getU hj
            rw [hU19] at hj19 ⊢
            rw [List.getElem?_take, if_pos hj19] at hj
            dsimp only
            rw [if_neg (by omega), show 19 - 1 - j + 1 = 20 - 1 - j by omega]
            have := p3 j s hj
            rw [hl] at this
            exact this.mv (fun i h1 h2 => au i (by omega) (by omega))
        have hr := h.kp fu kp
        refine co_keeps62 hr ⟨ha.1, ha.2.1, fun j s hj => ?_, ha.2.2.2⟩ (show ((aU a).take 19).length < 20 by omega) fun σ' h' => hk σ' ?_
        · have hj' : ((aU a).take 19)[j]? = some s := hj
          have := getU hj'
          rw [hU19] at this
          rw [List.getElem?_take, if_pos this] at hj'
          exact ha.2.2.1 j s hj'
        · show RC (aSetS a (aS a) ((aS a :: aU a).take 20)) σ'
          rw [List.take_succ_cons]
          exact h'
      | succ d ih =>
        intro f k σ1 hd hf hk1 hk20 f1 e15 ag er
        obtain ⟨f, rfl⟩ : ∃ f', f = f' + 1 := ⟨f - 1, by omega⟩
        unfold U_X0_keeps_18
        obtain ⟨q1, q2⟩ := p1 k (by omega)
        have kk : gK σ1 (135 + 58 * p k) = some kO5 := by
          rw [(ag _ (by omega)).1]; exact st_kind h.sta (kp_ok q2)
        obtain ⟨k, rfl⟩ : ∃ k', k = k' + 1 := ⟨k - 1, by omega⟩
        rw [nI_clamp (by omega), nI_pred, nI_clamp (by omega), nI_1]
        refine br_f (nI_ge (a := k + 1) (b := 20) (by omega) (by omega)) ⟨vi_ (by omega) (by omega), _, ?_, kk, vi_ (by omega) (by omega), st_ (ih f (k + 1 + 1) _ (by omega) (by omega) (by omega) (by omega) (f1.wR (by omega) ⟨by omega, by omega⟩) e15 (fun i hi => (ag i hi).wR hi) (fun k' hk' => ?_))⟩
        · rw [er _ (by omega), if_neg (by omega)]; exact q1
        · by_cases e : k' = k
          · rw [e, gR_ws, if_pos (by omega)]; exact q1.symm
          · rw [gR_wn (by omega), er k' hk']
            by_cases e2 : k' + 1 < k + 1
            · rw [if_pos e2, if_pos (by omega)]
            · rw [if_neg e2, if_neg (by omega)]
    refine lp 19 20 1 σ rfl (by omega) (by omega) (by omega) (FrO.refl h.z) rfl (fun i _ => agr.refl σ i) (fun k' hk' => by rw [if_neg (by omega)])
  · refine bn_t (fun z => hl ((nI_eq (b := 20) (by omega) (by omega)).mp z)) (co_keeps62 h ha (by omega) fun σ' h' => hk σ' ?_)
    show RC (aSetS a (aS a) ((aS a :: aU a).take 20)) σ'
    rw [List.take_of_length_le (by rw [List.length_cons]; omega)]
    exact h'
end CA1
