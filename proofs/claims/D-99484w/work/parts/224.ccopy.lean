/-! COMPONENT, PURE SIDE: states are copied. -/
def obP (ob : Nat) : Nat → Prop := fun i => ob ≤ i ∧ i < ob + 58
section CCp
variable {σ0 σ σ' σ'' : CS} {i j k n q ob x t m tk c v what : Nat} {P Q : Nat → Prop} {I : Isl} {fl : Int32 × Int32} {s : St} {left : Nat → Nat} {r r' : Nat → Nat}
theorem RwC.zero (h : RwC σ ob m r) : RwC σ ob 0 r' := by
  obtain ⟨p, p1, p2, -⟩ := h
  exact ⟨p, p1, p2, fun k i hk => absurd hk (by omega)⟩
theorem nar_le1 {b : Nat} (h : b ≤ 1) : vp_nar .boolean (nI b) = nI b := by
  rcases (show b = 0 ∨ b = 1 by omega) with rfl | rfl
  · exact nar_b0
  · exact nar_b1
/-- two states have no cell in common -/
def apt (ob x : Nat) : Prop := ob + 58 ≤ x ∨ x + 58 ≤ ob
theorem cb_copy97 {K : Nat → CS → Prop} (hsta : StaC σ) (hob : stOK ob) (hx : stOK x) (hne : apt ob x) {m : Nat} (hm : m ≤ 50) {px po : Nat → Nat} (x1 : ∀ k, k < 50 → gR σ (x + 6) k = x + 7 + px k + 1 ∧ px k < 50) (o1 : ∀ k, k < 50 → gR σ (ob + 6) k = ob + 7 + po k + 1 ∧ po k < 50) (o2 : ∀ k k', k < 50 → k' < 50 → po k = po k' → k = k') (hxr : ∀ k i, k < m → i < 3 → gI σ (x + 7 + px k) i = nI (r (3 * k + i))) (h1 : gI σ ob 1 = nI m)
    (hk : ∀ σ', FrX (obP ob) σ σ' → (∀ i, ob ≤ i → i < ob + 7 → agr σ σ' i) → RwC σ' ob m r → K (ob + 1) σ') :
    ∀ (d f k : Nat) (σ1 : CS), m - k = d → d < f → k ≤ m → FrX (obP ob) σ σ1 → (∀ i, ob ≤ i → i < ob + 7 → agr σ σ1 i) → (∀ k' i, k' < k → i < 3 → gI σ1 (ob + 7 + po k') i = nI (r (3 * k' + i))) → U_X5_copy_97 K ob x f (nI k) σ1 := by
  have hlo := row_lt hob
  have hlx := row_lt hx
  intro d
  induction d with
  | zero =>
    intro f k σ1 hd hf hkm f1 a1 e1
    obtain ⟨f, rfl⟩ : ∃ f', f = f' + 1 := ⟨f - 1, by omega⟩
    obtain rfl : k = m := by omega
    unfold U_X5_copy_97
    rw [(a1 ob (by omega) (by omega)).2.1, h1]
    refine br_t (nI_le (by omega) (by omega)) (hk σ1 f1 a1 ⟨po, fun k' hk' => ?_, o2, e1⟩)
    rw [(a1 (ob + 6) (by omega) (by omega)).2.2.2]; exact o1 k' hk'
  | succ d ih =>
    intro f k σ1 hd hf hkm f1 a1 e1
    obtain ⟨f, rfl⟩ : ∃ f', f = f' + 1 := ⟨f - 1, by omega⟩
    unfold U_X5_copy_97
    rw [(a1 ob (by omega) (by omega)).2.1, h1]
    refine br_f (nI_ge (by omega) (by omega)) ⟨4, ?_⟩
    obtain ⟨q1, q2⟩ := x1 k (by omega)
    obtain ⟨w1, w2⟩ := o1 k (by omega)
    have kx : gK σ1 (x + 7 + px k) = some (.inr (0, 3)) := (f1.2.1 _).trans (row_kind hsta hx q2)
    have ko : gK σ1 (ob + 7 + po k) = some (.inr (0, 3)) := (f1.2.1 _).trans (row_kind hsta hob w2)
    have hxo : x + 7 + px k ≠ ob + 7 + po k := by unfold apt at hne; omega
    have lp : ∀ (d2 f2 i : Nat) (σ2 : CS), 3 - i = d2 → d2 < f2 → i ≤ 3 → FrX (obP ob) σ σ2 → (∀ i, ob ≤ i → i < ob + 7 → agr σ σ2 i) → (∀ k' i, k' < k → i < 3 → gI σ2 (ob + 7 + po k') i = nI (r (3 * k' + i))) → (∀ i', i' < i → gI σ2 (ob + 7 + po k) i' = nI (r (3 * k + i'))) → U_X5_copy_107 K ob x (U_X5_copy_97 K ob x f) (nI k) f2 (nI i) σ2 := by
      intro d2
      induction d2 with
      | zero =>
        intro f2 i σ2 hd2 hf2 hi3 g1 g2 g3 g4
        obtain ⟨f2, rfl⟩ : ∃ f', f2 = f' + 1 := ⟨f2 - 1, by omega⟩
        obtain rfl : i = 3 := by omega
        unfold U_X5_copy_107
        rw [nI_1]
        refine br_t (by decide) (ih f (k + 1) σ2 (by omega) (by omega) (by omega) g1 g2 (fun k' i hk' hi => ?_))
        by_cases e : k' = k
        · subst e; exact g4 i hi
        · exact g3 k' i (by omega) hi
      | succ d2 ih2 =>
        intro f2 i σ2 hd2 hf2 hi3 g1 g2 g3 g4
        obtain ⟨f2, rfl⟩ : ∃ f', f2 = f' + 1 := ⟨f2 - 1, by omega⟩
        have kx2 : gK σ2 (x + 7 + px k) = some (.inr (0, 3)) := (g1.2.1 _).trans (row_kind hsta hx q2)
        have ko2 : gK σ2 (ob + 7 + po k) = some (.inr (0, 3)) := (g1.2.1 _).trans (row_kind hsta hob w2)
        have ax : ∀ i, x ≤ i → i < x + 58 → agr σ σ2 i := fun i h1 h2 => g1.2.2 i (fun z => by unfold obP at z; unfold apt at hne; omega)
        unfold U_X5_copy_107
        rw [nI_clamp (by omega), nI_clamp (by omega)]
        refine br_f (nI_ge (a := i) (b := 3) (by omega) (by omega)) ⟨vi_ (by omega) (by omega), vi_ (by omega) (by omega), x + 7 + px k, ?_, gKN kx2, ?_, ob + 7 + po k, ?_, ?_, gKN ko2, ?_, st_ ?_⟩
        · rw [(ax (x + 6) (by omega) (by omega)).2.2.2]; exact q1
        · rw [gN_of kx2]; exact vi_ (by omega) (by omega)
        · rw [(g2 (ob + 6) (by omega) (by omega)).2.2.2]; exact w1
        · rw [CBv]; omega
        · rw [gN_of ko2]; exact vi_ (by omega) (by omega)
        · rw [nI_1, (ax (x + 7 + px k) (by omega) (by omega)).2.1, hxr k i (by omega) (by omega)]
          refine ih2 f2 (i + 1) _ (by omega) (by omega) (by omega) (g1.wI ⟨by omega, by omega⟩) (fun i' h1 h2 => (g2 i' h1 h2).wI (by omega)) (fun k' i' hk' hi' => ?_) (fun i' hi' => ?_)
          · have hpk : po k' ≠ po k := fun z => by have := o2 k' k (by omega) (by omega) z; omega
            rw [gI_wi (by omega)]; exact g3 k' i' hk' hi'
          · by_cases e : i' = i
            · subst e; exact gI_ws
            · rw [gI_wn (by omega)]; exact g4 i' (by omega)
    exact lp 3 4 0 σ1 rfl (by omega) (by omega) f1 a1 e1 (fun i' hi' => absurd hi' (by omega))
theorem cb_copy {K : Nat → CS → Prop} (hsta : StaC σ) (hob : stOK ob) (hx : stOK x) (hne : apt ob x) (hs : StC σ x s) (h1 : ∀ t, t < 8 → s.1 (5 + 5 * t) ≤ 1) (hrw : RwC σ ob 0 r') (hk : ∀ σ', FrX (obP ob) σ σ' → StC σ' ob s → gI σ' ob 9 = -1 → K (ob + 1) σ') : U_X5_copy σ ob x K := by
  have hlo := row_lt hob
  have hlx := row_lt hx
  obtain ⟨⟨c1, c2⟩, c3, c4, px, x1, x2, x3⟩ := hs
  obtain ⟨po, o1, o2, -⟩ := hrw
  have pob : obP ob ob := ⟨Nat.le_refl _, by omega⟩
  have hxo : x ≠ ob := by unfold apt at hne; omega
  refine st_ (st_ (st_ ⟨9, ?_⟩))
  rw [gI_wi hxo, c1, c3]
  obtain ⟨u, hu⟩ : ∃ u, u = wI (wI (wI σ ob 0 (nI (s.1 0))) ob 1 (nI s.2.1)) ob 9 (-1) := ⟨_, rfl⟩
  rw [← hu]
  have fu : FrX (obP ob) σ u := by rw [hu]; exact (((FrX.refl σ).wI pob).wI pob).wI pob
  have au : ∀ i, i ≠ ob → agr σ u i := fun i hi => by rw [hu]; exact (((agr.refl σ i).wI hi).wI hi).wI hi
  have u0 : gI u ob 0 = nI (s.1 0) := by rw [hu, gI_wn (by omega), gI_wn (by omega)]; exact gI_ws
  have u1 : gI u ob 1 = nI s.2.1 := by rw [hu, gI_wn (by omega)]; exact gI_ws
  have u9 : gI u ob 9 = -1 := by rw [hu]; exact gI_ws
  have lp : ∀ (d f t : Nat) (σ1 : CS), 8 - t = d → d < f → t ≤ 8 → FrX (obP ob) u σ1 → (∀ i, i = ob ∨ ob + 6 ≤ i → agr u σ1 i) → (∀ t', t' < t → gI σ1 (ob + 1) t' = nI (s.1 (1 + 5 * t')) ∧ gI σ1 (ob + 2) t' = nI (s.1 (2 + 5 * t')) ∧ gI σ1 (ob + 3) t' = nI (s.1 (3 + 5 * t')) ∧ gI σ1 (ob + 4) t' = nI (s.1 (4 + 5 * t')) ∧ gI σ1 (ob + 5) t' = nI (s.1 (5 + 5 * t'))) → U_X5_copy_23 K ob x f (nI t) σ1 := by
    intro d
    induction d with
    | zero =>
      intro f t σ1 hd hf ht8 f1 a1 e1
      obtain ⟨f, rfl⟩ : ∃ f', f = f' + 1 := ⟨f - 1, by omega⟩
      obtain rfl : t = 8 := by omega
      unfold U_X5_copy_23
      refine br_t (by decide) ⟨s.2.1 + 1, ?_⟩
      have fu1 := fu.trans f1
      have ax : ∀ i, x ≤ i → i < x + 58 → agr σ σ1 i := fun i h1 h2 => fu1.2.2 i (fun z => by unfold obP at z; unfold apt at hne; omega)
      have ao : ∀ i, ob + 6 ≤ i → agr σ σ1 i := fun i hi => (au i (by omega)).trans (a1 i (Or.inr hi))
      have aob := (a1 ob (Or.inl rfl)).2.1
      refine cb_copy97 (σ := σ1) (r := s.2.2) (hsta.fr fu1.2.1) hob hx hne c4 (px := px) (po := po) (fun k hk' => by rw [(ax _ (by omega) (by omega)).2.2.2]; exact x1 k hk') (fun k hk' => by rw [(ao _ (by omega)).2.2.2]; exact o1 k hk') o2 (fun k i hk' hi => by rw [(ax _ (by have := (x1 k (by omega)).2; omega) (by have := (x1 k (by omega)).2; omega)).2.1]; exact x3 k i hk' hi) (by rw [aob]; exact u1) (fun σ2 f2 a2 rw2 => ?_) s.2.1 _ 0 σ1 rfl (by omega) (by omega) (FrX.refl σ1) (fun i _ _ => agr.refl σ1 i) (fun k' i hk' => absurd hk' (by omega))
      have bob := (a2 ob (by omega) (by omega)).2.1
      refine hk σ2 (fu1.trans f2) ⟨⟨by rw [bob, aob]; exact u0, fun t ht => ?_⟩, by rw [bob, aob]; exact u1, c4, rw2⟩ (by rw [bob, aob]; exact u9)
      rw [(a2 (ob + 1) (by omega) (by omega)).2.1, (a2 (ob + 2) (by omega) (by omega)).2.1, (a2 (ob + 3) (by omega) (by omega)).2.1, (a2 (ob + 4) (by omega) (by omega)).2.1, (a2 (ob + 5) (by omega) (by omega)).2.1]
      exact e1 t ht
    | succ d ih =>
      intro f t σ1 hd hf ht8 f1 a1 e1
      obtain ⟨f, rfl⟩ : ∃ f', f = f' + 1 := ⟨f - 1, by omega⟩
      have v8 : vp_in (nI t) 8 := vi_ (by omega) (by omega)
      have fu1 := fu.trans f1
      have ax : ∀ i, x ≤ i → i < x + 58 → gI σ1 i = gI σ i := fun i h1 h2 => (fu1.2.2 i (fun z => by unfold obP at z; unfold apt at hne; omega)).2.1
      obtain ⟨s1, s2, s3, s4, s5⟩ := c2 t (by omega)
      have nx : ∀ a b, a ≤ 5 → b ≤ 5 → x + a ≠ ob + b := fun a b h1 h2 => by unfold apt at hne; omega
      unfold U_X5_copy_23
      refine br_f (nI_ge (a := t) (b := 8) (by omega) (by omega)) ⟨v8, v8, st_ ⟨v8, v8, st_ ⟨v8, v8, st_ ⟨v8, v8, st_ ⟨v8, v8, st_ ?_⟩⟩⟩⟩⟩
      rw [nI_clamp (by omega), nI_1]
      rw [gI_wi (nx 5 4 (by omega) (by omega)), gI_wi (nx 5 3 (by omega) (by omega)), gI_wi (nx 5 2 (by omega) (by omega)), gI_wi (nx 5 1 (by omega) (by omega)), gI_wi (nx 4 3 (by omega) (by omega)), gI_wi (nx 4 2 (by omega) (by omega)), gI_wi (nx 4 1 (by omega) (by omega)), gI_wi (nx 3 2 (by omega) (by omega)), gI_wi (nx 3 1 (by omega) (by omega)), gI_wi (nx 2 1 (by omega) (by omega))]
      rw [ax (x + 1) (by omega) (by omega), ax (x + 2) (by omega) (by omega), ax (x + 3) (by omega) (by omega), ax (x + 4) (by omega) (by omega), ax (x + 5) (by omega) (by omega), s1, s2, s3, s4, s5, nar_le1 (h1 t (by omega))]
      refine ih f (t + 1) _ (by omega) (by omega) (by omega) (((((f1.wI ⟨by omega, by omega⟩).wI ⟨by omega, by omega⟩).wI ⟨by omega, by omega⟩).wI ⟨by omega, by omega⟩).wI ⟨by omega, by omega⟩) (fun i hi => (((((a1 i hi).wI (by omega)).wI (by omega)).wI (by omega)).wI (by omega)).wI (by omega)) (fun t' ht' => ?_)
      by_cases e : t' = t
      · subst e
        refine ⟨?_, ?_, ?_, ?_, ?_⟩
        · rw [gI_wi (by omega), gI_wi (by omega), gI_wi (by omega), gI_wi (by omega)]; exact gI_ws
        · rw [gI_wi (by omega), gI_wi (by omega), gI_wi (by omega)]; exact gI_ws
        · rw [gI_wi (by omega), gI_wi (by omega)]; exact gI_ws
        · rw [gI_wi (by omega)]; exact gI_ws
        · exact gI_ws
      · rw [gI_wn (by omega), gI_wn (by omega), gI_wn (by omega), gI_wn (by omega), gI_wn (by omega), gI_wn (by omega), gI_wn (by omega), gI_wn (by omega), gI_wn (by omega), gI_wn (by omega), gI_wn (by omega), gI_wn (by omega), gI_wn (by omega), gI_wn (by omega), gI_wn (by omega), gI_wn (by omega), gI_wn (by omega), gI_wn (by omega), gI_wn (by omega), gI_wn (by omega), gI_wn (by omega), gI_wn (by omega), gI_wn (by omega), gI_wn (by omega), gI_wn (by omega)]
        exact e1 t' (by omega)
  exact lp 8 9 0 u rfl (by omega) (by omega) (FrX.refl u) (fun i _ => agr.refl u i) (fun t' ht' => absurd ht' (by omega))
theorem st0_1 (i : Nat) : st0.1 i = 0 := rfl
theorem cb_begins {K : Unit → CS → Prop} (hob : stOK ob) (hrw : RwC σ ob 0 r') (hk : ∀ σ', FrX (obP ob) σ σ' → StC σ' ob st0 → gI σ' ob 9 = -1 → K () σ') : U_X5_begins σ ob K := by
  have hlo := row_lt hob
  have pob : obP ob ob := ⟨Nat.le_refl _, by omega⟩
  refine st_ (st_ (st_ ⟨9, ?_⟩))
  obtain ⟨u, hu⟩ : ∃ u, u = wI (wI (wI σ ob 0 0) ob 1 0) ob 9 (-1) := ⟨_, rfl⟩
  rw [← hu]
  have fu : FrX (obP ob) σ u := by rw [hu]; exact (((FrX.refl σ).wI pob).wI pob).wI pob
  have au : ∀ i, i ≠ ob → agr σ u i := fun i hi => by rw [hu]; exact (((agr.refl σ i).wI hi).wI hi).wI hi
  have u0 : gI u ob 0 = 0 := by rw [hu, gI_wn (by omega), gI_wn (by omega)]; exact gI_ws
  have u1 : gI u ob 1 = 0 := by rw [hu, gI_wn (by omega)]; exact gI_ws
  have u9 : gI u ob 9 = -1 := by rw [hu]; exact gI_ws
  have lp : ∀ (d f t : Nat) (σ1 : CS), 8 - t = d → d < f → t ≤ 8 → FrX (obP ob) u σ1 → (∀ i, i = ob ∨ ob + 6 ≤ i → agr u σ1 i) → (∀ t', t' < t → gI σ1 (ob + 1) t' = 0 ∧ gI σ1 (ob + 2) t' = 0 ∧ gI σ1 (ob + 3) t' = 0 ∧ gI σ1 (ob + 4) t' = 0 ∧ gI σ1 (ob + 5) t' = 0) → U_X5_begins_17 K ob f (nI t) σ1 := by
    intro d
    induction d with
    | zero =>
      intro f t σ1 hd hf ht8 f1 a1 e1
      obtain ⟨f, rfl⟩ : ∃ f', f = f' + 1 := ⟨f - 1, by omega⟩
      obtain rfl : t = 8 := by omega
      unfold U_X5_begins_17
      have aob := (a1 ob (Or.inl rfl)).2.1
      refine br_t (by decide) (hk σ1 (fu.trans f1) ⟨⟨by rw [aob, u0]; rfl, fun t ht => e1 t ht⟩, by rw [aob, u1]; rfl, by show 0 ≤ 50; omega, (hrw.fr (by omega) (fun i h1 _ => (au i (by omega)).trans (a1 i (Or.inr h1)))).zero⟩ (by rw [aob]; exact u9))
    | succ d ih =>
      intro f t σ1 hd hf ht8 f1 a1 e1
      obtain ⟨f, rfl⟩ : ∃ f', f = f' + 1 := ⟨f - 1, by omega⟩
      have v8 : vp_in (nI t) 8 := vi_ (by omega) (by omega)
      unfold U_X5_begins_17
      refine br_f (nI_ge (a := t) (b := 8) (by omega) (by omega)) ⟨v8, st_ ⟨v8, st_ ⟨v8, st_ ⟨v8, st_ ⟨v8, st_ ?_⟩⟩⟩⟩⟩
      rw [nI_clamp (by omega), nI_1, nar_b0]
      refine ih f (t + 1) _ (by omega) (by omega) (by omega) (((((f1.wI ⟨by omega, by omega⟩).wI ⟨by omega, by omega⟩).wI ⟨by omega, by omega⟩).wI ⟨by omega, by omega⟩).wI ⟨by omega, by omega⟩) (fun i hi => (((((a1 i hi).wI (by omega)).wI (by omega)).wI (by omega)).wI (by omega)).wI (by omega)) (fun t' ht' => ?_)
      by_cases e : t' = t
      · subst e
        refine ⟨?_, ?_, ?_, ?_, ?_⟩
        · rw [gI_wi (by omega), gI_wi (by omega), gI_wi (by omega), gI_wi (by omega)]; exact gI_ws
        · rw [gI_wi (by omega), gI_wi (by omega), gI_wi (by omega)]; exact gI_ws
        · rw [gI_wi (by omega), gI_wi (by omega)]; exact gI_ws
        · rw [gI_wi (by omega)]; exact gI_ws
        · exact gI_ws
      · rw [gI_wn (by omega), gI_wn (by omega), gI_wn (by omega), gI_wn (by omega), gI_wn (by omega), gI_wn (by omega), gI_wn (by omega), gI_wn (by omega), gI_wn (by omega), gI_wn (by omega), gI_wn (by omega), gI_wn (by omega), gI_wn (by omega), gI_wn (by omega), gI_wn (by omega), gI_wn (by omega), gI_wn (by omega), gI_wn (by omega), gI_wn (by omega), gI_wn (by omega), gI_wn (by omega), gI_wn (by omega), gI_wn (by omega), gI_wn (by omega), gI_wn (by omega)]
        exact e1 t' (by omega)
  exact lp 8 9 0 u rfl (by omega) (by omega) (FrX.refl u) (fun i _ => agr.refl u i) (fun t' ht' => absurd ht' (by omega))
end CCp
