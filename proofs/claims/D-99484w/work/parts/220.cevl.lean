/-! COMPONENT, PURE SIDE: what laws tell of a thing. -/
/-- no cell is made, none but those of P is changed -/
def FrX (P : Nat → Prop) (σ σ' : CS) : Prop := σ'.1 = σ.1 ∧ (∀ i, gK σ' i = gK σ i) ∧ ∀ i, ¬ P i → agr σ σ' i
abbrev P12 : Nat → Prop := fun i => i = 12
/-- the island as it stands -/
def IsR (σ : CS) (I : Isl) : Prop := ∃ t, gR σ 0 0 = t + 1 ∧ IslC σ (dyn σ.1) t I
/-- a state's numbers -/
def StA (σ : CS) (ob : Nat) (s : Nat → Nat) : Prop := gI σ ob 0 = nI (s 0) ∧ ∀ t, t < 8 → gI σ (ob + 1) t = nI (s (1 + 5 * t)) ∧ gI σ (ob + 2) t = nI (s (2 + 5 * t)) ∧ gI σ (ob + 3) t = nI (s (3 + 5 * t)) ∧ gI σ (ob + 4) t = nI (s (4 + 5 * t)) ∧ gI σ (ob + 5) t = nI (s (5 + 5 * t))
def EvB (σ : CS) (ob : Nat) (I : Isl) (fl : Int32 × Int32) (s : Nat → Nat) : Prop := IsR σ I ∧ IbC I ∧ (16 ≤ ob ∧ ob + 58 ≤ 1296) ∧ StA σ ob s ∧ gI σ ob 9 = fl.1 ∧ (fl.1 ≠ -1 → gI σ ob 10 = fl.2)
section CV
variable {σ0 σ σ' σ'' : CS} {i j k n q ob t m tk c : Nat} {P Q : Nat → Prop} {I : Isl} {fl : Int32 × Int32} {s : Nat → Nat}
theorem FrX.refl (σ : CS) : FrX P σ σ := ⟨rfl, fun _ => rfl, fun i _ => agr.refl σ i⟩
theorem FrX.trans (h : FrX P σ σ') (h' : FrX P σ' σ'') : FrX P σ σ'' := ⟨h'.1.trans h.1, fun i => (h'.2.1 i).trans (h.2.1 i), fun i hi => (h.2.2 i hi).trans (h'.2.2 i hi)⟩
theorem FrX.mono (h : FrX P σ σ') (hPQ : ∀ i, P i → Q i) : FrX Q σ σ' := ⟨h.1, h.2.1, fun i hi => h.2.2 i (fun z => hi (hPQ i z))⟩
theorem FrX.l12 {v : Int64} (h : FrX P12 σ σ') : FrX P12 σ (wL σ' 12 j v) := ⟨h.1, h.2.1, fun a ha => (h.2.2 a ha).wL ha⟩
theorem FrX.wI {v : Int32} (h : FrX P σ σ') (hi : P i) : FrX P σ (wI σ' i j v) := ⟨h.1, h.2.1, fun a ha => (h.2.2 a ha).wI (fun z => ha (z ▸ hi))⟩
theorem FrX.wL {v : Int64} (h : FrX P σ σ') (hi : P i) : FrX P σ (wL σ' i j v) := ⟨h.1, h.2.1, fun a ha => (h.2.2 a ha).wL (fun z => ha (z ▸ hi))⟩
theorem FrX.wR {v : Nat} (h : FrX P σ σ') (hi : P i) : FrX P σ (wR σ' i j v) := ⟨h.1, h.2.1, fun a ha => (h.2.2 a ha).wR (fun z => ha (z ▸ hi))⟩
theorem dyn_not {n i : Nat} (h : dyn n i) : (0 < i ∧ i < 8) ∨ 1296 ≤ i := h.imp id And.left
theorem IsR.fr (h : IsR σ I) (h0 : gR σ' 0 0 = gR σ 0 0) (hd : ∀ i, dyn σ.1 i → agr σ σ' i) (hz : σ.1 ≤ σ'.1) : IsR σ' I := by
  obtain ⟨t, h1, h2⟩ := h
  exact ⟨t, h0.trans h1, h2.fr hd (fun i hi => hi.imp id (fun z => ⟨z.1, Nat.lt_of_lt_of_le z.2 hz⟩))⟩
theorem IsR.frX (h : IsR σ I) (f : FrX P σ σ') (hP : ∀ i, P i → 8 ≤ i ∧ i < 1296) : IsR σ' I := by
  refine h.fr ?_ (fun i hi => f.2.2 i (fun z => ?_)) (Nat.le_of_eq f.1.symm)
  · rw [(f.2.2 0 (fun z => by have := hP 0 z; omega)).2.2.2]
  · have := hP i z
    have := dyn_not hi
    omega
theorem StA.fr (h : StA σ ob s) (f : ∀ i, ob ≤ i → i < ob + 6 → gI σ' i = gI σ i) : StA σ' ob s := by
  obtain ⟨h1, h2⟩ := h
  refine ⟨by rw [f ob (by omega) (by omega)]; exact h1, fun t ht => ?_⟩
  rw [f (ob + 1) (by omega) (by omega), f (ob + 2) (by omega) (by omega), f (ob + 3) (by omega) (by omega), f (ob + 4) (by omega) (by omega), f (ob + 5) (by omega) (by omega)]
  exact h2 t ht
theorem EvB.fr (h : EvB σ ob I fl s) (f : FrX P12 σ σ') : EvB σ' ob I fl s := by
  obtain ⟨h1, h2, h3, h4, h5, h6⟩ := h
  have hI : ∀ i, ob ≤ i → gI σ' i = gI σ i := fun i hi => (f.2.2 i (fun z => by have : i = 12 := z; omega)).2.1
  exact ⟨h1.frX f (fun i z => by have : i = 12 := z; omega), h2, h3, h4.fr (fun i hi _ => hI i hi), by rw [hI ob (Nat.le_refl _)]; exact h5, fun z => by rw [hI ob (Nat.le_refl _)]; exact h6 z⟩
theorem cb_things {K : Int32 → CS → Prop} (h : IsR σ I) (hk : K (nI (iC I 0)) σ) : U_X0_things σ K := by
  obtain ⟨t, h1, -, h2, h3, -⟩ := h
  obtain ⟨l, el, l1, l2, -⟩ := h3 0 (by omega)
  exact ⟨t, h1, h2, l, l1, l2.2.1, U_size l2 hk⟩
theorem cb_menders {K : Int32 → CS → Prop} (h : IsR σ I) (hk : K (nI (iC I 1)) σ) : U_X0_menders σ K := by
  obtain ⟨t, h1, -, h2, h3, -⟩ := h
  obtain ⟨l, el, l1, l2, -⟩ := h3 1 (by omega)
  exact ⟨t, h1, h2, l, l1, l2.2.1, U_size l2 hk⟩
theorem cb_trials {K : Int32 → CS → Prop} (h : IsR σ I) (hk : K (nI (iC I 2)) σ) : U_X0_trials σ K := by
  obtain ⟨t, h1, -, h2, h3, -⟩ := h
  obtain ⟨l, el, l1, l2, -⟩ := h3 2 (by omega)
  exact ⟨t, h1, h2, l, l1, l2.2.1, U_size l2 hk⟩
theorem cb_thingOf {K : Nat → CS → Prop} (h : IsR σ I) (ht : t < iC I 0) (hk : ∀ q, gK σ q = some kO7 → gI σ q 1 = nI (iX I (3 * t)) → gI σ q 2 = nI (iX I (3 * t + 1)) → gI σ q 3 = nI (iX I (3 * t + 2)) → K (q + 1) σ) : U_X0_thingOf σ (nI t) K := by
  obtain ⟨t0, h1, -, h2, h3, -⟩ := h
  obtain ⟨l, el, l1, l2, l3⟩ := h3 0 (by omega)
  obtain ⟨-, -, e, -⟩ := l3 t ht
  obtain ⟨e1, e2, e3, e4⟩ := e rfl
  exact ⟨t0, h1, h2, l, l1, l2.2.1, U_get l2 ht ⟨_, rfl, isC_of e1 rfl (Or.inl rfl), hk _ e1 e2 e3 e4⟩⟩
theorem cb_menderOf {K : Nat → CS → Prop} (h : IsR σ I) (ht : m < iC I 1) (hk : ∀ q, gK σ q = some kO8 → gI σ q 1 = nI (iX I (24 + 2 * m)) → gI σ q 2 = nI (iX I (24 + 2 * m + 1)) → K (q + 1) σ) : U_X0_menderOf σ (nI m) K := by
  obtain ⟨t0, h1, -, h2, h3, -⟩ := h
  obtain ⟨l, el, l1, l2, l3⟩ := h3 1 (by omega)
  obtain ⟨-, -, -, e, -⟩ := l3 m ht
  obtain ⟨e1, e2, e3⟩ := e rfl
  exact ⟨t0, h1, h2, l, l1, l2.2.1, U_get l2 ht ⟨_, rfl, isC_of e1 rfl (Or.inl rfl), hk _ e1 e2 e3⟩⟩
theorem v10 {k : Nat} (h : k < 10) : vp_in (nI k) 10 := vi_ h (by omega)
/-- a thing's numbers are laid out -/
theorem cb_asks {K : Unit → CS → Prop} (h : EvB σ ob I fl s) (ht : t < iC I 0) (hk : ∀ σ', FrX P12 σ σ' → (∀ k, k < 7 → ∀ sk lk, gL σ' 12 k = (evE I fl s t sk lk).1 k) → K () σ') : U_X5_asks σ ob (nI t) K := by
  obtain ⟨h1, h2, h3, ⟨h4, h4'⟩, h5, h6⟩ := h
  have h8 := h2.1
  obtain ⟨s1, s2, s3, s4, s5⟩ := h4' t (by omega)
  have v8 : vp_in (nI t) 8 := vi_ (by omega) (by omega)
  have isr : ∀ {x : Nat} {v : Int64} {σ1 : CS}, IsR σ1 I → IsR (wL σ1 12 x v) I := fun h => h.frX (P := P12) ((FrX.refl _).l12) (fun i z => by have : i = 12 := z; omega)
  refine cb_thingOf h1 ht fun q q1 q2 q3 q4 => ⟨q, rfl, q1, v10 (k := 0) (by omega), st_ ?_⟩
  rw [q2, cl_0]
  refine cb_thingOf (isr h1) ht fun r r1 r2 r3 r4 => ⟨r, rfl, r1, v10 (k := 1) (by omega), st_ ?_⟩
  rw [r3, show Int32.toNatClampNeg 1 = 1 by decide]
  obtain ⟨u, hu⟩ : ∃ u, u = wL (wL σ 12 0 (nI (iX I (3 * t))).toInt64) 12 1 (nI (iX I (3 * t + 1))).toInt64 := ⟨_, rfl⟩
  rw [← hu]
  have uI : ∀ i, gI u i = gI σ i := fun i => by rw [hu]; rfl
  have ui : IsR u I := by rw [hu]; exact isr (isr h1)
  have uf : FrX P12 σ u := by rw [hu]; exact ((FrX.refl σ).l12).l12
  have u0 : gL u 12 0 = (nI (iX I (3 * t))).toInt64 := by rw [hu, gL_wn (by omega)]; exact gL_ws
  have u1 : gL u 12 1 = (nI (iX I (3 * t + 1))).toInt64 := by rw [hu]; exact gL_ws
  have fin : ∀ x : Int32, x = (if nI t = fl.1 then fl.2 else nI (iX I (3 * t + 2))) → U_X5_asks_87 K ob (nI t) x.toInt64 2 u := by
    intro x hx
    refine ⟨v10 (k := 2) (by omega), st_ ⟨v8, v10 (k := 3) (by omega), st_ ⟨v8, v10 (k := 4) (by omega), st_ ⟨v10 (k := 5) (by omega), st_ ⟨v8, v10 (k := 6) (by omega), st_ ?_⟩⟩⟩⟩⟩
    have e1 : ∀ (a b c d : Int64), (wL (wL (wL (wL u 12 (Int32.toNatClampNeg 2) a) 12 (Int32.toNatClampNeg 3) b) 12 (Int32.toNatClampNeg 4) c) 12 (Int32.toNatClampNeg 5) d).2.2.1 = u.2.2.1 := fun _ _ _ _ => rfl
    refine hk _ (((((uf.l12).l12).l12).l12).l12) (fun k hk7 sk lk => ?_)
    rw [show Int32.toNatClampNeg 2 = 2 by decide, show Int32.toNatClampNeg 3 = 3 by decide, show Int32.toNatClampNeg 4 = 4 by decide, show Int32.toNatClampNeg 5 = 5 by decide, show Int32.toNatClampNeg 6 = 6 by decide]
    show _ = if k = 0 then _ else _
    rcases (show k = 0 ∨ k = 1 ∨ k = 2 ∨ k = 3 ∨ k = 4 ∨ k = 5 ∨ k = 6 by omega) with rfl | rfl | rfl | rfl | rfl | rfl | rfl
    · rw [gL_wn (by omega), gL_wn (by omega), gL_wn (by omega), gL_wn (by omega), gL_wn (by omega), u0, if_pos rfl]
    · rw [gL_wn (by omega), gL_wn (by omega), gL_wn (by omega), gL_wn (by omega), gL_wn (by omega), u1, if_neg (by omega), if_pos rfl]
    · rw [gL_wn (by omega), gL_wn (by omega), gL_wn (by omega), gL_wn (by omega), gL_ws, if_neg (by omega), if_neg (by omega), if_pos rfl, hx]
    · rw [gL_wn (by omega), gL_wn (by omega), gL_wn (by omega), gL_ws, if_neg (by omega), if_neg (by omega), if_neg (by omega), if_pos rfl]
      show (gI u (ob + 2) (Int32.toNatClampNeg (nI t))).toInt64 = _
      rw [nI_clamp (by omega), uI, s2]
    · rw [gL_wn (by omega), gL_wn (by omega), gL_ws, if_neg (by omega), if_neg (by omega), if_neg (by omega), if_neg (by omega), if_pos rfl]
      show (gI u (ob + 3) (Int32.toNatClampNeg (nI t))).toInt64 = _
      rw [nI_clamp (by omega), uI, s3]
    · rw [gL_wn (by omega), gL_ws, if_neg (by omega), if_neg (by omega), if_neg (by omega), if_neg (by omega), if_neg (by omega), if_pos rfl]
      show (gI u ob 0).toInt64 = _
      rw [uI, h4]
    · rw [gL_ws, if_neg (by omega), if_neg (by omega), if_neg (by omega), if_neg (by omega), if_neg (by omega), if_neg (by omega), if_pos rfl]
      show (gI u (ob + 4) (Int32.toNatClampNeg (nI t))).toInt64 = _
      rw [nI_clamp (by omega), uI, s4]
  rw [uI, h5]
  by_cases e : nI t = fl.1
  · refine bn_f e ?_
    rw [h6 (fun z => by rw [z] at e; exact nI_m1 (by omega) e.symm)]
    exact fin _ (by rw [if_pos e])
  · refine bn_t e (cb_thingOf ui ht fun r' r1 r2 r3 r4 => ⟨r', rfl, r1, ?_⟩)
    rw [r4]
    exact fin _ (by rw [if_neg e])
/-- all that an evaluation asks is laid out in cell 12 -/
theorem evh (htk : tk ≠ 3) (e : Env) (h : ∀ k, k < 10 → alw tk k = true → gL σ 12 k = e.1 k) : EvH tk 0 σ (dyn σ.1) 11 e (fun σ' => σ' = σ) := ⟨fun s hs => by subst hs; exact ⟨fun i _ => agr.refl s i, h⟩, fun z => absurd z htk⟩
theorem alw_7 (htk : tk = 0 ∨ tk = 1) (h : alw tk k = true) : k < 7 := by
  rcases htk with rfl | rfl
  · simp [alw] at h; omega
  · simp [alw] at h; omega
theorem alw_27 (h : alw 2 k = true) : k < 6 ∨ k = 7 := by
  simp [alw] at h; omega
theorem cb_holds {K : Int32 → CS → Prop} {v : TT} (h : EvB σ ob I fl s) (ht : t < iC I 0) (htk : tk = 0 ∨ tk = 1) (hq : TC tk σ (dyn σ.1) 45 q v) (sk : Int32) (lk : Int64 → Int64) (hk : ∀ σ', FrX P12 σ σ' → K (b1 (v (evE I fl s t sk lk))) σ') : U_X5_holds (U_ev 100).1 (U_ev 100).2 σ ob q (nI t) K := by
  refine cb_asks h ht fun s1 f1 e1 => ?_
  have hq1 : TC tk s1 (dyn s1.1) 45 q v := TC.fr (fun i hi => f1.2.2 i (fun z => by have : i = 12 := z; have := dyn_not hi; omega)) (fun i hi => by rw [f1.1]; exact hi) _ _ _ hq
  refine ev_tst (evh (σ := s1) (by omega) (evE I fl s t sk lk) (fun k hk10 ha => e1 k (alw_7 htk ha) sk lk)) 45 q v hq1 100 (by omega) s1 _ rfl fun s2 hs2 => ?_
  subst hs2
  exact ⟨nar_z _, hk s2 f1⟩
theorem cb_sum0 {K : Int64 → CS → Prop} {v : VV} (h : EvB σ ob I fl s) (ht : t < iC I 0) (hq : VC 0 σ (dyn σ.1) 45 q v) (sk : Int32) (lk : Int64 → Int64) (hk : ∀ σ', FrX P12 σ σ' → K (v (evE I fl s t sk lk)) σ') : U_X5_sum σ ob q (nI t) (-1) K := by
  refine cb_asks h ht fun s1 f1 e1 => bn_f rfl ⟨v10 (k := 7) (by omega), st_ ?_⟩
  obtain ⟨s2, hs2⟩ : ∃ s2, s2 = wL s1 12 (Int32.toNatClampNeg 7) 0 := ⟨_, rfl⟩
  rw [← hs2]
  have f2 : FrX P12 σ s2 := by rw [hs2]; exact f1.l12
  have hq1 : VC 0 s2 (dyn s2.1) 45 q v := VC.fr (fun i hi => f2.2.2 i (fun z => by have : i = 12 := z; have := dyn_not hi; omega)) (fun i hi => by rw [f2.1]; exact hi) _ _ _ hq
  refine ev_val (evh (σ := s2) (by omega) (evE I fl s t sk lk) (fun k hk10 ha => ?_)) 45 q v hq1 100 (by omega) s2 _ rfl fun s3 hs3 => ?_
  · have := alw_7 (Or.inl rfl) ha
    rw [hs2, show Int32.toNatClampNeg 7 = 7 by decide, gL_wn (by omega)]
    exact e1 k this sk lk
  · subst hs3
    exact hk s3 f2
theorem cb_sum2 {K : Int64 → CS → Prop} {v : VV} (h : EvB σ ob I fl s) (ht : t < iC I 0) (hm : m < iC I 1) (hq : VC 2 σ (dyn σ.1) 45 q v) (lk : Int64 → Int64) (hk : ∀ σ', FrX P12 σ σ' → K (v (evE I fl s t (nI (iX I (24 + 2 * m))) lk)) σ') : U_X5_sum σ ob q (nI t) (nI m) K := by
  have hm4 := h.2.1.2.1
  refine cb_asks h ht fun s1 f1 e1 => bn_t (fun z => nI_m1 (by omega) z.symm) (cb_menderOf (h.fr f1).1 hm fun r r1 r2 r3 => ⟨r, rfl, r1, v10 (k := 7) (by omega), st_ ?_⟩)
  rw [r2]
  obtain ⟨s2, hs2⟩ : ∃ s2, s2 = wL s1 12 (Int32.toNatClampNeg 7) (nI (iX I (24 + 2 * m))).toInt64 := ⟨_, rfl⟩
  rw [← hs2]
  have f2 : FrX P12 σ s2 := by rw [hs2]; exact f1.l12
  have hq1 : VC 2 s2 (dyn s2.1) 45 q v := VC.fr (fun i hi => f2.2.2 i (fun z => by have : i = 12 := z; have := dyn_not hi; omega)) (fun i hi => by rw [f2.1]; exact hi) _ _ _ hq
  refine ev_val (evh (σ := s2) (by omega) (evE I fl s t (nI (iX I (24 + 2 * m))) lk) (fun k hk10 ha => ?_)) 45 q v hq1 100 (by omega) s2 _ rfl fun s3 hs3 => ?_
  · rw [hs2, show Int32.toNatClampNeg 7 = 7 by decide]
    rcases alw_27 ha with h6 | rfl
    · rw [gL_wn (by omega)]; exact e1 k (by omega) _ lk
    · rw [gL_ws]; rfl
  · subst hs3
    exact hk s3 f2
theorem cb_lw (h : IsR σ I) : ∃ t, gR σ 0 0 = t + 1 ∧ gK σ t = some kO1 ∧ LwC σ (dyn σ.1) t I := by
  obtain ⟨t, h1, -, h2, -, h3⟩ := h
  exact ⟨t, h1, h2, h3⟩
theorem cb_stands {K : Int32 → CS → Prop} (h : EvB σ ob I fl s) (ht : t < iC I 0) (hb : bdS s) (hk : ∀ σ', FrX P12 σ σ' → K (b1 (spStands I fl s t)) σ') : U_X5_stands σ ob (nI t) K := by
  have h8 := h.2.1.1
  obtain ⟨s1, s2, s3, s4, s5⟩ := h.2.2.2.1.2 t (by omega)
  have v8 : vp_in (nI t) 8 := vi_ (by omega) (by omega)
  have b1' := hb.2.1 (1 + 5 * t) (by omega) (by omega)
  have b3' := hb.2.1 (3 + 5 * t) (by omega) (by omega)
  refine ⟨v8, ?_⟩
  rw [nI_clamp (by omega), s1]
  unfold spStands at hk
  by_cases e : s (1 + 5 * t) = 2
  · refine bn_f (by rw [e]; rfl) ?_
    rw [decide_eq_true e, Bool.true_and] at hk
    obtain ⟨t0, l1, l2, l3⟩ := cb_lw h.1
    have hop := l3.1
    refine ⟨t0, l1, l2, ?_⟩
    cases hT : iT I 0 with
    | none =>
      rw [hT] at hop hk
      have hop : gR σ t0 5 = 0 := hop
      have hk := hk σ (FrX.refl σ)
      refine bn_f hop ⟨v8, ?_⟩
      rw [s3]
      by_cases z : 0 < s (3 + 5 * t)
      · have hk : K (b1 (decide (0 < s (3 + 5 * t)))) σ := hk
        rw [decide_eq_true z] at hk
        exact br_f (nI_nle z (by omega)) hk
      · have hk : K (b1 (decide (0 < s (3 + 5 * t)))) σ := hk
        rw [decide_eq_false z] at hk
        exact br_t (nI_le (b := 0) (by omega) (by omega)) hk
    | some v =>
      rw [hT] at hop hk
      obtain ⟨q, q1, q2⟩ := hop
      refine bn_t (by omega) ⟨t0, l1, l2, q, q1, cb_holds h ht (Or.inr rfl) q2 0 (fun _ => 0) fun s1 f1 => ?_⟩
      have hkk := hk s1 f1
      cases hb2 : v (evE I fl s t 0 (fun _ => 0)) with
      | true =>
        have hkk : K (b1 (v (evE I fl s t 0 (fun _ => 0)))) s1 := hkk
        rw [hb2] at hkk
        exact br_f (by decide) hkk
      | false =>
        have hkk : K (b1 (v (evE I fl s t 0 (fun _ => 0)))) s1 := hkk
        rw [hb2] at hkk
        exact br_t rfl hkk
  · rw [decide_eq_false e, Bool.false_and] at hk
    exact bn_t (fun z => e ((nI_eq (b := 2) (by omega) (by omega)).mp z)) (hk σ (FrX.refl σ))
theorem clip_I {lo : Nat} (hlo : lo ≤ 1) {l : Int64} (hl : l.toInt = lo) (x : Int64) : Int64.toInt32 (mxL l (mnL 99 x)) = nI (clN lo x) := by
  rw [clN_I (by omega)]
  have h99 : (99 : Int64).toInt = 99 := by decide
  unfold mxL mnL
  by_cases c1 : x < 99
  · have c1' : x.toInt < 99 := by rw [Int64.lt_iff_toInt_lt, h99] at c1; exact c1
    rw [if_pos c1]
    by_cases c2 : l < x
    · have c2' : (lo : Int) < x.toInt := by rw [Int64.lt_iff_toInt_lt, hl] at c2; exact c2
      rw [if_pos c2, if_neg (by omega), if_neg (by omega)]
    · have c2' : ¬ (lo : Int) < x.toInt := by rw [Int64.lt_iff_toInt_lt, hl] at c2; exact c2
      rw [if_neg c2]
      by_cases c3 : x.toInt < lo
      · rw [if_pos c3]
        have : l = Int64.ofInt lo := by rw [← hl, Int64.ofInt_toInt]
        rw [this]
        rcases (show lo = 0 ∨ lo = 1 by omega) with rfl | rfl <;> decide
      · rw [if_neg c3, if_neg (by omega)]
        congr 1
        exact Int64.toInt_inj.mp (by omega)
  · have c1' : ¬ x.toInt < 99 := by rw [Int64.lt_iff_toInt_lt, h99] at c1; exact c1
    have c2 : l < 99 := by rw [Int64.lt_iff_toInt_lt, hl, h99]; omega
    rw [if_neg c1, if_pos c2, if_neg (by omega)]
    by_cases c3 : 99 < x.toInt
    · rw [if_pos c3]; decide
    · rw [if_neg c3]
      have : x = 99 := Int64.toInt_inj.mp (by omega)
      rw [this]
theorem cb_takes {K : Int32 → CS → Prop} (h : EvB σ ob I fl s) (ht : t < iC I 0) (hm : m < iC I 1) (hk : ∀ σ', FrX P12 σ σ' → K (nI (spTakes I fl s t m)) σ') : U_X5_takes σ ob (nI t) (nI m) K := by
  obtain ⟨t0, l1, l2, -, -, hop, -⟩ := cb_lw h.1
  refine ⟨t0, l1, l2, ?_⟩
  unfold spTakes at hk
  cases hT : iV I 2 with
  | none =>
    rw [hT] at hop hk
    exact bn_f hop (hk σ (FrX.refl σ))
  | some v =>
    rw [hT] at hop hk
    obtain ⟨q, q1, q2⟩ := hop
    refine bn_t (by omega) ⟨t0, l1, l2, q, q1, cb_sum2 h ht hm q2 (fun _ => 0) fun s1 f1 => U_min2 (U_max2 ?_)⟩
    rw [clip_I (lo := 1) (by omega) (by decide)]
    exact hk s1 f1
theorem cb_fine {K : Int32 → CS → Prop} (h : EvB σ ob I fl s) (ht : t < iC I 0) (hm : m < iC I 1) (hk : ∀ σ', FrX P12 σ σ' → K (nI (spFine I fl s t m)) σ') : U_X5_fine σ ob (nI t) (nI m) K := by
  obtain ⟨t0, l1, l2, -, -, -, hop, -⟩ := cb_lw h.1
  refine ⟨t0, l1, l2, ?_⟩
  unfold spFine at hk
  cases hT : iV I 3 with
  | none =>
    rw [hT] at hop hk
    refine bn_f hop (cb_menderOf h.1 hm fun r r1 r2 r3 => ⟨r, rfl, r1, ?_⟩)
    rw [r2]
    exact hk σ (FrX.refl σ)
  | some v =>
    rw [hT] at hop hk
    obtain ⟨q, q1, q2⟩ := hop
    refine bn_t (by omega) ⟨t0, l1, l2, q, q1, cb_sum2 h ht hm q2 (fun _ => 0) fun s1 f1 => U_min2 (U_max2 ?_)⟩
    rw [clip_I (lo := 0) (by omega) (by decide)]
    exact hk s1 f1
theorem cb_first {K : Int64 → CS → Prop} (h : EvB σ ob I fl s) (ht : t < iC I 0) (hk : ∀ σ', FrX P12 σ σ' → K (spFirst I fl s t) σ') : U_X5_first σ ob (nI t) K := by
  obtain ⟨t0, l1, l2, -, -, -, -, hop, -⟩ := cb_lw h.1
  refine ⟨t0, l1, l2, ?_⟩
  unfold spFirst at hk
  cases hT : iV I 4 with
  | none =>
    rw [hT] at hop hk
    refine bn_f hop (cb_thingOf h.1 ht fun r r1 r2 r3 r4 => ⟨r, rfl, r1, ?_⟩)
    rw [r3]
    exact hk σ (FrX.refl σ)
  | some v =>
    rw [hT] at hop hk
    obtain ⟨q, q1, q2⟩ := hop
    exact bn_t (by omega) ⟨t0, l1, l2, q, q1, cb_sum0 h ht q2 0 (fun _ => 0) fun s1 f1 => hk s1 f1⟩
theorem cb_trial {K : Int32 → CS → Prop} (h : EvB σ 16 I (-1, 0) s) (hr : m < iC I 2) (ht : t < iC I 0) (hk : ∀ σ', FrX P12 σ σ' → K (b1 (spTrial I s m t)) σ') : U_X0_holdsFor (U_ev 100).1 (U_ev 100).2 σ (nI m) (nI t) K := by
  obtain ⟨t0, h1, -, h2, h3, -⟩ := h.1
  obtain ⟨l, el, l1, l2, l3⟩ := h3 2 (by omega)
  obtain ⟨-, -, -, -, e⟩ := l3 m hr
  obtain ⟨e1, tq, v, e2, e3, e4⟩ := e rfl
  unfold spTrial at hk
  rw [e3] at hk
  exact ⟨t0, h1, h2, l, l1, l2.2.1, U_get l2 hr ⟨_, rfl, isC_of e1 rfl (Or.inl rfl), e1, tq, e2, cb_holds h ht (Or.inr rfl) e4 0 (fun _ => 0) fun s1 f1 => ⟨nar_z _, hk s1 f1⟩⟩⟩
end CV
