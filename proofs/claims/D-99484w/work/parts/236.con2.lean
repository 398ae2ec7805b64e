/-! COMPONENT, PURE SIDE: on, joined. -/
section COn2
variable {σ σ' : CS} {a : AS} {K : Int32 → CS → Prop} {n t k : Nat} {B : Byt}
/-- the told state, so far -/
theorem co_on91 (ha : AOK a) (hk0 : allN (fun t => thOK (aTp a) (2 + 5 * t)) (iC (aI a) 0) = false → ∀ σ', RC (aRef a 5) σ' → K 0 σ') (hk1 : allN (fun t => thOK (aTp a) (2 + 5 * t)) (iC (aI a) 0) = true → ∀ σ', RC (aSetS a (onS (aTp a) (iC (aI a) 0) (aS a)) []) σ' → K 1 σ') :
    ∀ (d f t : Nat) (σ' : CS), iC (aI a) 0 - t = d → d + 1 < f → t ≤ iC (aI a) 0 → allN (fun t => thOK (aTp a) (2 + 5 * t)) t = true → RC a σ' → StC σ' 74 (onS (aTp a) t (aS a)) → U_X0_on_91 K f 1 (nI t) σ' := by
  have hb := ha.ib
  have hc := hb.1
  intro d
  induction d with
  | zero =>
    intro f t σ' hd hf ht hP h hS
    obtain ⟨f, rfl⟩ : ∃ f', f = f' + 1 := ⟨f - 1, by omega⟩
    obtain rfl : t = iC (aI a) 0 := by omega
    unfold U_X0_on_91
    refine cb_things h.is (br_t (nI_le (by omega) (by omega)) ?_)
    unfold U_X0_on_123
    have h5 : ∀ t, t < 8 → (onS (aTp a) (iC (aI a) 0) (aS a)).1 (5 + 5 * t) ≤ 1 := by
      intro t ht8
      show (if 5 + 5 * t = 0 then 256 * aTp a 0 + aTp a 1 else if 5 + 5 * t < 1 + 5 * iC (aI a) 0 then aTp a (1 + (5 + 5 * t)) else (aS a).1 (5 + 5 * t)) ≤ 1
      rw [if_neg (by omega)]
      by_cases c : 5 + 5 * t < 1 + 5 * iC (aI a) 0
      · rw [if_pos c]
        have hPt : thOK (aTp a) (2 + 5 * t) = true := by
          rcases hb2 : thOK (aTp a) (2 + 5 * t) with _ | _
          · have e1 : allN (fun t => thOK (aTp a) (2 + 5 * t)) (t + 1) = false := by
              show (allN (fun t => thOK (aTp a) (2 + 5 * t)) t && thOK (aTp a) (2 + 5 * t)) = false
              rw [hb2, Bool.and_false]
            rw [allN_mono e1 _ (by omega)] at hP
            cases hP
          · rfl
        have := (thOK_iff.mp hPt).2.2.2.2.1
        rw [show 1 + (5 + 5 * t) = 2 + 5 * t + 4 by omega]; exact this
      · rw [if_neg c]; exact (ha.2.1.2.1 t ht8).2.2.2.2
    refine bn_t (by decide) (cb_copy h.sta (Or.inl rfl) (Or.inr (Or.inl rfl)) (Or.inl (by omega)) hS h5 h.2.2.2.2.1.1.rw0 fun σ1 f1 s1 e1 => st_ (hk1 hP _ ?_))
    exact (h.now (f1.mono (fun i z => Or.inr z)) ⟨s1, e1⟩).kp0
  | succ d ih =>
    intro f t σ' hd hf ht hP h hS
    obtain ⟨f, rfl⟩ : ∃ f', f = f' + 1 := ⟨f - 1, by omega⟩
    unfold U_X0_on_91
    refine cb_things h.is (br_f (nI_ge (by omega) (by omega)) (br_f (by decide) ?_))
    rw [nI_1, show (5 : Int32) * nI t = nI (5 * t) from nI_mul 5 t, show (2 : Int32) + nI (5 * t) = nI (2 + 5 * t) from nI_add 2 _]
    refine co_thingOn h.2.1.2.2.1 h.2.1.2.2.2 (by omega) (by omega) fun σ2 f2 o2 w1 w2 w3 w4 w5 => ?_
    have rw2 : RwC σ2 74 0 (fun _ => 0) := h.2.2.2.2.2.1.fr (by omega) (fun i h1 h2 => f2.2.2 i (fun z => by have : 75 ≤ i ∧ i < 80 := z; omega))
    have h2 : RC a σ2 := h.tr f2 (fun i z => Or.inr (by have : 75 ≤ i ∧ i < 80 := z; exact ⟨by omega, by omega⟩)) rw2
    cases e : thOK (aTp a) (2 + 5 * t) with
    | false =>
      obtain ⟨f, rfl⟩ : ∃ f', f = f' + 1 := ⟨f - 1, by omega⟩
      have fin : U_X0_on_123 K 0 σ2 := by
        unfold U_X0_on_123
        have e1 : allN (fun t => thOK (aTp a) (2 + 5 * t)) (t + 1) = false := by
          show (allN (fun t => thOK (aTp a) (2 + 5 * t)) t && thOK (aTp a) (2 + 5 * t)) = false
          rw [e, Bool.and_false]
        exact bn_f rfl (co_0 (k := 5) h2 (by omega) (hk0 (allN_mono e1 _ (by omega))))
      show U_X0_on_91 K (f + 1) 0 (nI (t + 1)) σ2
      unfold U_X0_on_91
      refine cb_things h2.is ?_
      exact ⟨fun _ => fin, fun _ => br_t rfl fin⟩
    | true =>
      have tk := thOK_iff.mp e
      obtain ⟨⟨c1, c2⟩, c3, c4, c5⟩ := hS
      refine ih f (t + 1) σ2 (by omega) (by omega) (by omega) ?_ h2 ⟨⟨?_, fun t' ht' => ?_⟩, ?_, c4, c5.fr c4 (fun i h1 h2 => f2.2.2 i (fun z => by have : 75 ≤ i ∧ i < 80 := z; omega))⟩
      · show (allN (fun t => thOK (aTp a) (2 + 5 * t)) t && thOK (aTp a) (2 + 5 * t)) = true
        rw [hP, e]; rfl
      · rw [(f2.2.2 74 (fun z => by have : 75 ≤ 74 ∧ 74 < 80 := z; omega)).2.1]; exact c1
      · have ev : ∀ j, 0 < j → (onS (aTp a) (t + 1) (aS a)).1 (j + 5 * t') = if j + 5 * t' < 1 + 5 * (t + 1) then aTp a (1 + (j + 5 * t')) else (aS a).1 (j + 5 * t') := fun j hj => by
          show (if j + 5 * t' = 0 then _ else _) = _
          rw [if_neg (by omega)]
        have ev0 : ∀ j, 0 < j → (onS (aTp a) t (aS a)).1 (j + 5 * t') = if j + 5 * t' < 1 + 5 * t then aTp a (1 + (j + 5 * t')) else (aS a).1 (j + 5 * t') := fun j hj => by
          show (if j + 5 * t' = 0 then _ else _) = _
          rw [if_neg (by omega)]
        by_cases et : t' = t
        · subst et
          rw [ev 1 (by omega), ev 2 (by omega), ev 3 (by omega), ev 4 (by omega), ev 5 (by omega), if_pos (by omega), if_pos (by omega), if_pos (by omega), if_pos (by omega), if_pos (by omega)]
          rw [show 1 + (1 + 5 * t') = 2 + 5 * t' by omega, show 1 + (2 + 5 * t') = 2 + 5 * t' + 1 by omega, show 1 + (3 + 5 * t') = 2 + 5 * t' + 2 by omega, show 1 + (4 + 5 * t') = 2 + 5 * t' + 3 by omega, show 1 + (5 + 5 * t') = 2 + 5 * t' + 4 by omega]
          refine ⟨w1, w2, w3, w4, ?_⟩
          rw [show gI σ2 (74 + 5) t' = _ from w5]
          rcases (show aTp a (2 + 5 * t' + 4) = 0 ∨ aTp a (2 + 5 * t' + 4) = 1 by omega) with e0 | e0
          · rw [e0]; rfl
          · rw [e0]; rfl
        · obtain ⟨d1, d2, d3, d4, d5⟩ := c2 t' ht'
          have same : ∀ j, 0 < j → j ≤ 5 → (onS (aTp a) (t + 1) (aS a)).1 (j + 5 * t') = (onS (aTp a) t (aS a)).1 (j + 5 * t') := fun j hj hj5 => by
            rw [ev j hj, ev0 j hj]
            by_cases c : j + 5 * t' < 1 + 5 * t
            · rw [if_pos c, if_pos (by omega)]
            · rw [if_neg c, if_neg (by omega)]
          rw [same 1 (by omega) (by omega), same 2 (by omega) (by omega), same 3 (by omega) (by omega), same 4 (by omega) (by omega), same 5 (by omega) (by omega), o2 _ _ et, o2 _ _ et, o2 _ _ et, o2 _ _ et, o2 _ _ et]
          exact ⟨d1, d2, d3, d4, d5⟩
      · rw [(f2.2.2 74 (fun z => by have : 75 ≤ 74 ∧ 74 < 80 := z; omega)).2.1]; exact c3
theorem co_on64 {b : Bool} {dy : Nat} (h : RC a σ) (ha : AOK a) (hdy : dy = 256 * aTp a 0 + aTp a 1) (hk0 : (b && allN (fun t => thOK (aTp a) (2 + 5 * t)) (iC (aI a) 0)) = false → ∀ σ', RC (aRef a 5) σ' → K 0 σ') (hk1 : (b && allN (fun t => thOK (aTp a) (2 + 5 * t)) (iC (aI a) 0)) = true → ∀ σ', RC (aSetS a (onS (aTp a) (iC (aI a) 0) (aS a)) []) σ' → K 1 σ') : U_X0_on_64 K (nI dy) (b1 b) σ := by
  unfold U_X0_on_64
  refine co_try h ha fun σ1 h1 d1 => ⟨74, rfl, by rw [CBv]; omega, st_kind h1.sta (Or.inr (Or.inl rfl)), st_ (st_ ⟨iC (aI a) 0 + 2, ?_⟩)⟩
  obtain ⟨u, hu⟩ : ∃ u, u = wI (wI σ1 74 0 (nI dy)) 74 1 0 := ⟨_, rfl⟩
  rw [← hu]
  have fu : FrX (obP 74) σ1 u := by
    rw [hu]
    refine FrX.wI (FrX.wI (FrX.refl σ1) ?_) ?_ <;> exact ⟨by omega, by omega⟩
  have au : ∀ i, i ≠ 74 → agr σ1 u i := fun i hi => by rw [hu]; exact ((agr.refl σ1 i).wI hi).wI hi
  have rw2 : RwC u 74 0 (fun _ => 0) := d1.2.1.rw0.fr (by omega) (fun i h1 h2 => au i (by omega))
  have h2 : RC a u := h1.tr fu (fun i z => Or.inr z) rw2
  cases b with
  | false =>
    have fin : U_X0_on_123 K 0 u := by
      unfold U_X0_on_123
      exact bn_f rfl (co_0 (k := 5) h2 (by omega) (hk0 rfl))
    show U_X0_on_91 K (iC (aI a) 0 + 1 + 1) 0 0 u
    unfold U_X0_on_91
    refine cb_things h2.is ?_
    exact ⟨fun _ => fin, fun _ => br_t rfl fin⟩
  | true =>
    rw [Bool.true_and] at hk0 hk1
    obtain ⟨⟨c1, c2⟩, c3, c4, c5⟩ := d1.2.1
    refine co_on91 ha hk0 hk1 (iC (aI a) 0) _ 0 u rfl (by omega) (by omega) rfl h2 ⟨⟨?_, fun t' ht' => ?_⟩, ?_, by show 0 ≤ 50; omega, rw2.zero⟩
    · rw [hu, gI_wn (by omega), gI_ws, hdy]; rfl
    · have ev : ∀ j, 0 < j → (onS (aTp a) 0 (aS a)).1 (j + 5 * t') = (aS a).1 (j + 5 * t') := fun j hj => by
        show (if j + 5 * t' = 0 then _ else if j + 5 * t' < 1 + 5 * 0 then _ else _) = _
        rw [if_neg (by omega), if_neg (by omega)]
      rw [ev 1 (by omega), ev 2 (by omega), ev 3 (by omega), ev 4 (by omega), ev 5 (by omega), (au 75 (by omega)).2.1, (au 76 (by omega)).2.1, (au 77 (by omega)).2.1, (au 78 (by omega)).2.1, (au 79 (by omega)).2.1]
      exact c2 t' ht'
    · rw [hu]; exact gI_ws
theorem co_on (h : RC a σ) (ha : AOK a) (hk : ∀ σ', RC (sp_on a).2 σ' → K (sp_on a).1 σ') : U_X0_on σ K := by
  have hn := h.2.1.1
  have hB := h.2.1.2.2.2
  have hb := ha.ib
  have hc := hb.1
  have h0 : RC (aT0 a) (wI σ 0 2 0) := h.tn (n := 0) (by omega)
  have ha0 : AOK (aT0 a) := ha
  refine st_ ?_
  rw [h.2.1.2.1]
  have htp : ∀ i, i < 1600 → gI (wI σ 0 2 0) 8 i = sB (aTp a i) := h0.2.1.2.2.1
  have b0 := hB 0
  have b1' := hB 1
  have fin : ∀ b : Bool, (b && allN (fun t => thOK (aTp a) (2 + 5 * t)) (iC (aI a) 0)) = imOK a (aTn a) → U_X0_on_64 K (nI (256 * aTp a 0 + aTp a 1)) (b1 b) (wI σ 0 2 0) := by
    intro b e
    unfold sp_on at hk
    refine co_on64 h0 ha0 rfl (fun z => ?_) (fun z => ?_)
    · have z : imOK a (aTn a) = false := e.symm.trans z
      rw [z] at hk; exact hk
    · have z : imOK a (aTn a) = true := e.symm.trans z
      rw [z] at hk; exact hk
  unfold imOK at fin
  refine co_byteAt (k := 0) htp hB (by omega) (co_byteAt (k := 1) htp hB (by omega) (cb_things (show IsR _ (aI a) from h0.is) ?_))
  show ((¬ nI (aTn a) = 3 + 5 * nI (iC (aI a) 0) → U_X0_on_64 K ((nI (aTp a 0) <<< ((8 : Int32) &&& 31)) ||| nI (aTp a 1)) 0 _) ∧ _)
  rw [day_I b0 b1', show (5 : Int32) * nI (iC (aI a) 0) = nI (5 * iC (aI a) 0) from nI_mul 5 _, show (3 : Int32) + nI (5 * iC (aI a) 0) = nI (3 + 5 * iC (aI a) 0) from nI_add 3 _, nI_eq (by omega) (by omega)]
  by_cases c : aTn a = 3 + 5 * iC (aI a) 0
  · refine bn_f c ?_
    rw [decide_eq_true c, Bool.true_and] at fin
    obtain ⟨m, hm⟩ : ∃ m, aTn a = m + 1 := ⟨aTn a - 1, by omega⟩
    rw [hm, nI_pred]
    rw [hm, Nat.add_sub_cancel] at fin
    refine co_byteAt htp hB (by omega) (co_check (B := aTp a) (len := 1600) (h0.sta 8 (by omega)) (by omega) (by omega) (fun k hk' => ⟨htp k (by omega), hB k⟩) ?_)
    have ck := ckN_lt (aTp a) m
    have bm := hB m
    rw [nI_eq (by omega) (by omega)]
    by_cases c2 : aTp a m = ckN (aTp a) m
    · rw [decide_eq_true c2, Bool.true_and] at fin
      refine bn_f c2 ?_
      rw [show (999 : Int32) = nI 999 from rfl, nI_ltI (by omega) (by omega)]
      by_cases c3 : 256 * aTp a 0 + aTp a 1 ≤ 999
      · rw [decide_eq_true c3] at fin
        exact br_f (by omega) (fin true rfl)
      · rw [decide_eq_false c3] at fin
        exact br_t (by omega) (fin false rfl)
    · rw [decide_eq_false c2] at fin
      exact bn_t c2 (fin false rfl)
  · rw [decide_eq_false c] at fin
    exact bn_t c (fin false rfl)
end COn2
