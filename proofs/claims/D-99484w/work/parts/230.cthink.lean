/-! COMPONENT, PURE SIDE: a state is tried: later, breaks, gain; lawed. -/
section CTh
variable {σ σ' σ'' : CS} {a : AS} {I : Isl} {K : Int32 → CS → Prop} {x y : Int32} {fl : Int32 × Int32} {i j n ob : Nat} {s : St}
theorem co_try {K : Nat → CS → Prop} (h : RC a σ) (ha : AOK a) (hk : ∀ σ', RC a σ' → DyB σ' 74 (aI a) (-1, 0) (aS a) → K 75 σ') : U_X5_copy σ 74 16 K := by
  refine cb_copy h.sta (Or.inr (Or.inl rfl)) (Or.inl rfl) (Or.inr (by omega)) h.2.2.2.2.1.1 (fun t ht => (ha.2.1.2.1 t ht).2.2.2.2) h.2.2.2.2.2.1 fun σ1 f1 s1 e1 => ?_
  have r1 := h.tr f1 (fun i z => Or.inr z) s1.rw0
  exact hk σ1 r1 ⟨⟨r1.is, ha.ib, by omega, s1.1, e1, fun z => absurd rfl z⟩, s1, ha.2.1.bd, r1.sta, Or.inr (Or.inl rfl)⟩
theorem RC.t74 (h : RC a σ) (f : FrX (stP 74) σ σ') (d : DyB σ' 74 I fl s) : RC a σ' :=
  h.tr f (fun i z => by
    rcases z with z | z
    · exact Or.inl (by unfold scC; omega)
    · exact Or.inr z) d.2.1.rw0
theorem co_later (h : RC a σ) (ha : AOK a) (hk : ∀ σ', RC a σ' → K (sp_later a x y) σ') : U_X0_later σ x y K := by
  unfold sp_later at hk
  have hb := ha.ib
  refine co_isAhead h ha (lo := 0) (hi := 60) rfl rfl (by omega) (by omega) (br_b _ (fun e => ?_) (fun e => ?_))
  · rw [e] at hk; exact hk σ h
  refine co_is (lo := 0) (hi := 3) rfl rfl (bn_b _ (fun e2 => ?_) (fun e2 => ?_))
  · rw [e, e2] at hk; exact hk σ h
  rw [e, e2, Bool.true_and, if_pos rfl] at hk
  obtain ⟨q1, ⟨q2, q3⟩, q4⟩ := ahd_ix (by omega) (by omega) e
  have hinv := fun n => spDays_inv (fr := (-1, 0)) ha.1 ha.2.1.w n
  generalize ix x = n at *
  subst q1
  refine co_try h ha fun σ1 h1 d1 => ⟨n + 1, ?_⟩
  have lp : ∀ (d f k : Nat) (σ2 : CS), n - k = d → d < f → k ≤ n → RC a σ2 → DyB σ2 74 (aI a) (-1, 0) (spDays (aI a) (-1, 0) k (aS a)).2 → U_X0_later_39 K (nI n) y f (nI (spDays (aI a) (-1, 0) k (aS a)).1) (nI k) σ2 := by
    intro d
    induction d with
    | zero =>
      intro f k σ2 hd hf hkn r2 d2
      obtain ⟨f, rfl⟩ : ∃ f', f = f' + 1 := ⟨f - 1, by omega⟩
      obtain rfl : k = n := by omega
      unfold U_X0_later_39
      refine br_t (nI_le (by omega) (by omega)) ?_
      by_cases c0 : y = 0
      · refine bn_f c0 (cb_standing d2.1 d2.2.2.1 fun σ3 f3 => ?_)
        have := hk σ3 (r2.p12 f3)
        rw [if_pos c0] at this; exact this
      refine bn_t c0 ?_
      by_cases c1 : y = 1
      · refine bn_f c1 (cb_are (x := 1) rfl (by omega) d2.1 d2.2.2.1 ?_)
        have := hk σ2 r2
        rw [if_neg c0, if_pos c1] at this; exact this
      refine bn_t c1 ?_
      by_cases c2 : y = 2
      · refine bn_f c2 (cb_standing d2.1 d2.2.2.1 fun σ3 f3 => cb_useOf (r2.p12 f3).is hb (setN_256 _ hb.1) ?_)
        have := hk σ3 (r2.p12 f3)
        rw [if_neg c0, if_neg c1, if_pos c2] at this; exact this
      · refine bn_t c2 ?_
        have := hk σ2 r2
        rw [if_neg c0, if_neg c1, if_neg c2] at this; exact this
    | succ d ih =>
      intro f k σ2 hd hf hkn r2 d2
      obtain ⟨f, rfl⟩ : ∃ f', f = f' + 1 := ⟨f - 1, by omega⟩
      unfold U_X0_later_39
      have hday := (hinv k).2
      refine br_f (nI_ge (by omega) (by omega)) (cb_day ha.1 (ha.2.2.2.1 _) (by omega) d2 fun σ3 d3 f3 _ => ?_)
      rw [nI_add, nI_1]
      have := ih f (k + 1) σ3 (by omega) (by omega) (by omega) (r2.t74 f3 d3)
      rw [spDays_s] at this
      exact this d3
  exact lp n _ 0 σ1 rfl (by omega) (by omega) h1 d1
theorem co_breaks (h : RC a σ) (ha : AOK a) (hk : ∀ σ', RC a σ' → K (sp_breaks a x) σ') : U_X0_breaks σ x K := by
  have hb := ha.ib
  have hb0 := hb.1
  have hd0 := ha.2.1.1
  unfold sp_breaks isTh at hk
  refine co_isThing h.is hb (bn_b _ (fun e => ?_) (fun e => ?_))
  · rw [e] at hk; exact hk σ h
  rw [e, if_pos rfl] at hk
  obtain ⟨q1, q2⟩ := inR_ix e (by omega)
  generalize ix x = t at *
  subst q1
  refine co_try h ha fun σ1 h1 d1 => ⟨61, ?_⟩
  have lp : ∀ (f k : Nat) (σ2 : CS) (s : St), 61 ≤ f + k → f ≤ 61 → 1 ≤ k → k ≤ 61 → s.1 0 + 1 = (aS a).1 0 + k → StW s → RC a σ2 → DyB σ2 74 (aI a) (-1, 0) s → (∀ σ', RC a σ' → K (spBrk (aI a) t (f + 1) k s) σ') → U_X0_breaks_24 K (nI t) (f + 1) (nI k) σ2 := by
    intro f
    induction f with
    | zero =>
      intro k σ2 s hf hf2 hk1 hk2 hs hw r2 d2 go
      unfold U_X0_breaks_24
      refine co_isAhead r2 ha (lo := 1) (hi := 60) rfl rfl (by omega) (by omega) ?_
      rw [show ahd ((aS a).1 0) (nI k) 1 60 = false by unfold ahd inR; rw [nI_toInt (by omega), decide_eq_false (p := 1 ≤ (k : Int) ∧ (k : Int) ≤ 60) (by omega), Bool.false_and]]
      refine br_t rfl ?_
      have := go σ2 r2
      unfold spBrk at this
      rw [if_pos (by omega)] at this
      exact this
    | succ f ih =>
      intro k σ2 s hf hf2 hk1 hk2 hs hw r2 d2 go
      unfold U_X0_breaks_24
      unfold spBrk at go
      refine co_isAhead r2 ha (lo := 1) (hi := 60) rfl rfl (by omega) (by omega) ?_
      by_cases c : 60 < k ∨ 999 ≤ s.1 0
      · rw [show ahd ((aS a).1 0) (nI k) 1 60 = false by
          unfold ahd inR
          rw [nI_toInt (by omega)]
          rcases c with c | c
          · rw [decide_eq_false (p := 1 ≤ (k : Int) ∧ (k : Int) ≤ 60) (by omega), Bool.false_and]
          · rw [decide_eq_false (p := ((aS a).1 0 : Int) + (k : Int) ≤ 999) (by omega), Bool.and_false]]
        refine br_t rfl ?_
        have := go σ2 r2
        rw [if_pos c] at this
        exact this
      · rw [show ahd ((aS a).1 0) (nI k) 1 60 = true by
          unfold ahd inR
          rw [nI_toInt (by omega), decide_eq_true (p := 1 ≤ (k : Int) ∧ (k : Int) ≤ 60) (by omega), decide_eq_true (p := ((aS a).1 0 : Int) + (k : Int) ≤ 999) (by omega)]; rfl]
        refine br_f (by decide) (cb_day ha.1 (ha.2.2.2.1 _) (by omega) d2 fun σ3 d3 f3 e8 => ?_)
        rw [e8]
        have r3 := r2.t74 f3 d3
        refine cb_hasS (setN_256 _ hb0) (by omega) (br_b _ (fun e4 => ?_) (fun e4 => ?_))
        · rw [nI_1]
          obtain ⟨w1, w2⟩ := hw.day (fr := (-1, 0)) ha.1
          refine ih (k + 1) σ3 _ (by omega) (by omega) (by omega) (by omega) (by omega) w1 r3 d3 (fun σ' hr => ?_)
          have := go σ' hr
          rw [if_neg c, if_neg (by rw [e4]; decide)] at this
          exact this
        · have := go σ3 r3
          rw [if_neg c, if_pos e4] at this
          exact this
  exact lp 60 1 σ1 (aS a) (by omega) (by omega) (by omega) (by omega) rfl ha.2.1.w h1 d1 hk
theorem co_gain {K : Int64 → CS → Prop} (h : RC a σ) (ha : AOK a) (hk : ∀ σ', RC a σ' → K (sp_gain a x y) σ') : U_X0_gain σ x y K := by
  have hb := ha.ib
  have hb0 := hb.1
  have hb1 := hb.2.1
  unfold sp_gain isTh isMe at hk
  refine co_isThing h.is hb (br_b _ (fun e => ?_) (fun e => ?_))
  · rw [e] at hk; exact hk σ h
  refine co_isMender h.is hb (br_b _ (fun e2 => ?_) (fun e2 => ?_))
  · rw [e, e2] at hk; exact hk σ h
  obtain ⟨q1, q2⟩ := inR_ix e (by omega)
  obtain ⟨r1, r2⟩ := inR_ix e2 (by omega)
  have hbt := (ha.2.1.2.1 (ix x) (by omega)).1
  rw [e, e2, Bool.true_and, Bool.true_and] at hk
  generalize ix x = t at *
  generalize ix y = m at *
  subst q1 r1
  rw [nI_clamp (by omega), h.isv (by omega)]
  refine ⟨vi_ (by omega) (by omega), ?_⟩
  by_cases c : (aS a).1 (1 + 5 * t) = 1
  · rw [decide_eq_true c, if_pos rfl] at hk
    refine br_t (by rw [c]; rfl) (co_try h ha fun σ1 h1 d1 => ⟨74, rfl, Or.inr (Or.inl rfl), st_kind h1.sta (Or.inr (Or.inl rfl)), cb_isMended d1 ha.1 q2 r2 fun σ2 f2 d2 _ _ => ?_⟩)
    have h2 := h1.t74 f2 d2
    refine cb_standing d2.1 d2.2.2.1 fun σ3 f3 => cb_useOf (h2.p12 f3).is hb (setN_256 _ hb0) (cb_standing ((h2.p12 f3).ev ha) ha.2.1.bd fun σ4 f4 => ?_)
    have h4 := (h2.p12 f3).p12 f4
    exact cb_useOf h4.is hb (setN_256 _ hb0) (hk σ4 h4)
  · rw [decide_eq_false c] at hk
    exact br_f (fun z => c ((nI_eq (b := 1) (by omega) (by omega)).mp z)) (hk σ h)
end CTh
