/-! COMPONENT, PURE SIDE: what is kept of a state; breaking, mending. -/
def RwC (σ : CS) (ob m : Nat) (r : Nat → Nat) : Prop := ∃ p : Nat → Nat, (∀ k, k < 50 → gR σ (ob + 6) k = ob + 7 + p k + 1 ∧ p k < 50) ∧ (∀ k k', k < 50 → k' < 50 → p k = p k' → k = k') ∧ ∀ k i, k < m → i < 3 → gI σ (ob + 7 + p k) i = nI (r (3 * k + i))
def StC (σ : CS) (ob : Nat) (s : St) : Prop := StA σ ob s.1 ∧ gI σ ob 1 = nI s.2.1 ∧ s.2.1 ≤ 50 ∧ RwC σ ob s.2.1 s.2.2
/-- the static cells -/
def StaC (σ : CS) : Prop := ∀ i, i < 1296 → gK σ i = sLay i
def stP (ob : Nat) : Nat → Prop := fun i => i = 12 ∨ (ob ≤ i ∧ i < ob + 58)
/-- where what is kept lies -/
def rwP (ob : Nat) : Nat → Prop := fun i => i = ob ∨ (ob + 6 ≤ i ∧ i < ob + 57)
section CRw
variable {σ0 σ σ' σ'' : CS} {i j k n q ob t m tk c v what : Nat} {P Q : Nat → Prop} {I : Isl} {fl : Int32 × Int32} {s : St}
theorem row_lt (h : stOK ob) : 16 ≤ ob ∧ ob + 58 ≤ 1296 := by
  rcases h with rfl | rfl | ⟨k, hk, rfl⟩ <;> omega
theorem row_kind (hs : StaC σ) (h : stOK ob) (hj : j < 50) : gK σ (ob + 7 + j) = some (.inr (0, 3)) := by
  have hl := row_lt h
  rw [hs _ (by omega), show ob + 7 + j = ob + (7 + j) by omega, st_lay h (by omega)]
  unfold stSub
  split <;> first | omega | skip
  rw [if_neg (by omega), if_pos (by omega)]
theorem StaC.fr (h : StaC σ) (f : ∀ i, gK σ' i = gK σ i) : StaC σ' := fun i hi => (f i).trans (h i hi)
theorem i3_ (k : Nat) (h : k < 3) : vp_in (nI k) 3 := vi_ h (by omega)
/-- the last row is written -/
theorem cb_tells66 {K : Unit → CS → Prop} {x1 x2 : Int32} (e1 : x1 = nI t) (e2 : x2 = nI what) (hsta : StaC σ) (hob : stOK ob) {d m : Nat} {r : Nat → Nat} (hd : gI σ ob 0 = nI d) (hm : gI σ ob 1 = nI m) (hm50 : m < 50) (hr : RwC σ ob m r)
    (hk : ∀ σ', FrX (rwP ob) σ σ' → (∀ j, j ≠ 1 → gI σ' ob j = gI σ ob j) → gI σ' ob 1 = nI (m + 1) → RwC σ' ob (m + 1) (fun j => if j = 3 * m then d else if j = 3 * m + 1 then t else if j = 3 * m + 2 then what else r j) → K () σ') : U_X5_tells_66 K ob x1 x2 σ := by
  subst e1 e2
  obtain ⟨p, p1, p2, p3⟩ := hr
  have hl := row_lt hob
  obtain ⟨r1, r2⟩ := p1 m hm50
  have kk := row_kind hsta hob r2
  have gn : ∀ {σ1 : CS}, (∀ i, gK σ1 i = gK σ i) → gN σ1 (ob + 7 + p m) = 3 := fun h => gN_of ((h _).trans kk)
  have v0 := i3_ 0 (by omega)
  have v1 := i3_ 1 (by omega)
  have v2 := i3_ 2 (by omega)
  have c1 : Int32.toNatClampNeg 1 = 1 := by decide
  have c2 : Int32.toNatClampNeg 2 = 2 := by decide
  have hne : ob ≠ ob + 7 + p m := by omega
  have hq : ob + 7 + p m < CB := by rw [CBv]; omega
  unfold U_X5_tells_66
  rw [hm, nI_clamp (by omega), hd]
  refine ⟨vi_ hm50 (by omega), ob + 7 + p m, r1, hq, gKN kk, ?_, st_ ?_⟩
  · rw [gN_of kk]; exact v0
  rw [cl_0, gI_wn (by omega), hm, nI_clamp (by omega)]
  refine ⟨vi_ hm50 (by omega), ob + 7 + p m, r1, hq, gKN (σ := wI σ (ob + 7 + p m) 0 (nI d)) kk, ?_, st_ ?_⟩
  · rw [gN_of (σ := wI σ (ob + 7 + p m) 0 (nI d)) kk]; exact v1
  rw [c1, gI_wn (by omega), gI_wn (by omega), hm, nI_clamp (by omega)]
  refine ⟨vi_ hm50 (by omega), ob + 7 + p m, r1, hq, gKN (σ := wI (wI σ (ob + 7 + p m) 0 (nI d)) (ob + 7 + p m) 1 (nI t)) kk, ?_, st_ (st_ ?_)⟩
  · rw [gN_of (σ := wI (wI σ (ob + 7 + p m) 0 (nI d)) (ob + 7 + p m) 1 (nI t)) kk]; exact v2
  rw [c2, gI_wn (by omega), gI_wn (by omega), gI_wn (by omega), hm, nI_1]
  have pr : rwP ob (ob + 7 + p m) := Or.inr ⟨by omega, by omega⟩
  refine hk _ (((((FrX.refl σ).wI pr).wI pr).wI pr).wI (Or.inl rfl)) (fun j hj => ?_) gI_ws ⟨p, p1, p2, fun k i hk' hi => ?_⟩
  · rw [gI_wn (by omega), gI_wn (by omega), gI_wn (by omega), gI_wn (by omega)]
  · rw [gI_wn (by omega)]
    dsimp only
    by_cases e : k = m
    · subst e
      rcases (show i = 0 ∨ i = 1 ∨ i = 2 by omega) with rfl | rfl | rfl
      · rw [gI_wn (by omega), gI_wn (by omega), gI_ws, if_pos (by omega)]
      · rw [gI_wn (by omega), gI_ws, if_neg (by omega), if_pos (by omega)]
      · rw [gI_ws, if_neg (by omega), if_neg (by omega), if_pos (by omega)]
    · have hpk : p k ≠ p m := fun z => e (p2 k m (by omega) hm50 z)
      rw [gI_wn (by omega), gI_wn (by omega), gI_wn (by omega), if_neg (by omega), if_neg (by omega), if_neg (by omega)]
      exact p3 k i (by omega) hi
theorem cb_tells19 {K : Unit → CS → Prop} {x1 x2 : Int32} (hsta : StaC σ) (hob : stOK ob) {p : Nat → Nat} (p1 : ∀ k, k < 50 → gR σ (ob + 6) k = ob + 7 + p k + 1 ∧ p k < 50) (h1 : gI σ ob 1 = nI 50)
    (hk : ∀ σ', FrX (rwP ob) σ σ' → gI σ' ob 1 = nI 49 → (∀ i, i ≠ ob → gI σ' i = gI σ i) → (∀ j, j ≠ 1 → gI σ' ob j = gI σ ob j) → (∀ k, k < 50 → gR σ' (ob + 6) k = ob + 7 + p (if k = 49 then 0 else k + 1) + 1) → U_X5_tells_66 K ob x1 x2 σ') :
    ∀ (d f k : Nat) (σ1 : CS), 50 - k = d → d < f → 1 ≤ k → k ≤ 50 → FrX (rwP ob) σ σ1 → (∀ i, gI σ1 i = gI σ i) → (∀ j, j < 50 → gR σ1 (ob + 6) j = ob + 7 + p (if j + 1 < k then j + 1 else j) + 1) → U_X5_tells_19 K ob x1 x2 (ob + 7 + p 0 + 1) f (nI k) σ1 := by
  have hl := row_lt hob
  have pr6 : rwP ob (ob + 6) := Or.inr ⟨by omega, by omega⟩
  intro d
  induction d with
  | zero =>
    intro f k σ1 hd hf hk1 hk2 f1 e1 e2
    obtain ⟨f, rfl⟩ : ∃ f', f = f' + 1 := ⟨f - 1, by omega⟩
    obtain rfl : k = 50 := by omega
    have kk : gK σ1 (ob + 7 + p 0) = some (.inr (0, 3)) := (f1.2.1 _).trans (row_kind hsta hob (p1 0 (by omega)).2)
    unfold U_X5_tells_19
    refine br_t (by decide) ⟨ob + 7 + p 0, rfl, gKN kk, vi_ (i := 49) (by omega) (by omega), st_ (st_ ?_)⟩
    have c49 : Int32.toNatClampNeg 49 = 49 := by decide
    have h1' : gI σ1 ob 1 = nI 50 := by rw [e1]; exact h1
    have h2' : gI (wR σ1 (ob + 6) (Int32.toNatClampNeg 49) (ob + 7 + p 0 + 1)) ob 1 - 1 = nI 49 := by
      show gI σ1 ob 1 - 1 = _
      rw [h1']; exact nI_pred 49
    rw [h2', c49]
    refine hk _ ((f1.wR pr6).wI (Or.inl rfl)) gI_ws (fun i hi => ?_) (fun j hj => ?_) (fun k hk => ?_)
    · rw [gI_wi hi]; exact e1 i
    · rw [gI_wn (by omega)]; show gI σ1 ob j = _; rw [e1]
    · show gR (wR σ1 (ob + 6) 49 (ob + 7 + p 0 + 1)) (ob + 6) k = _
      by_cases e : k = 49
      · subst e; rw [if_pos rfl]; exact gR_ws
      · rw [if_neg e, gR_wn (by omega), e2 k hk, if_pos (by omega)]
  | succ d ih =>
    intro f k σ1 hd hf hk1 hk2 f1 e1 e2
    obtain ⟨f, rfl⟩ : ∃ f', f = f' + 1 := ⟨f - 1, by omega⟩
    have e2k := e2 k (by omega)
    rw [if_neg (by omega)] at e2k
    have kk : gK σ1 (ob + 7 + p k) = some (.inr (0, 3)) := (f1.2.1 _).trans (row_kind hsta hob (p1 k (by omega)).2)
    unfold U_X5_tells_19
    refine br_f (nI_ge (a := k) (b := 50) (by omega) (by omega)) ⟨vi_ (by omega) (by omega), ob + 7 + p k, ?_, gKN kk, ?_, st_ ?_⟩
    · rw [nI_clamp (by omega)]; exact e2k
    · rw [show nI k - 1 = nI (k - 1) from nI_sub (b := 1) hk1]; exact vi_ (by omega) (by omega)
    rw [show nI k - 1 = nI (k - 1) from nI_sub (b := 1) hk1, nI_clamp (by omega), nI_1]
    refine ih f (k + 1) _ (by omega) (by omega) (by omega) (by omega) (f1.wR pr6) (fun i => e1 i) (fun j hj => ?_)
    by_cases e : j = k - 1
    · subst e
      rw [if_pos (by omega), show k - 1 + 1 = k by omega]; exact gR_ws
    · rw [gR_wn (by omega), e2 j hj]
      by_cases c : j + 1 < k
      · rw [if_pos c, if_pos (by omega)]
      · rw [if_neg c, if_neg (by omega)]
theorem cb_tells {K : Unit → CS → Prop} {x1 x2 : Int32} (e1 : x1 = nI t) (e2 : x2 = nI what) (hsta : StaC σ) (hob : stOK ob) (h : StC σ ob s)
    (hk : ∀ σ', FrX (rwP ob) σ σ' → (∀ j, j ≠ 1 → gI σ' ob j = gI σ ob j) → StC σ' ob (spKeep s t what) → K () σ') : U_X5_tells σ ob x1 x2 K := by
  obtain ⟨h1, h2, h3, h4⟩ := h
  have hl := row_lt hob
  have sta : ∀ {σ' : CS}, FrX (rwP ob) σ σ' → (∀ j, j ≠ 1 → gI σ' ob j = gI σ ob j) → StA σ' ob s.1 := fun {σ'} f g => by
    refine ⟨by rw [g 0 (by omega)]; exact h1.1, fun t ht => ?_⟩
    have hh := h1.2 t ht
    have ne : ∀ a, 1 ≤ a → a ≤ 5 → gI σ' (ob + a) = gI σ (ob + a) := fun a ha1 ha2 => (f.2.2 _ (fun z => by unfold rwP at z; omega)).2.1
    rw [ne 1 (by omega) (by omega), ne 2 (by omega) (by omega), ne 3 (by omega) (by omega), ne 4 (by omega) (by omega), ne 5 (by omega) (by omega)]
    exact hh
  unfold U_X5_tells
  rw [h2]
  by_cases e : s.2.1 = 50
  · obtain ⟨p, p1, p2, p3⟩ := h4
    refine bn_f (by rw [e]; rfl) ⟨vi_ (i := 0) (by omega) (by omega), 50, ?_⟩
    rw [cl_0, (p1 0 (by omega)).1]
    refine cb_tells19 hsta hob p1 (by rw [h2, e]) (fun σ1 f1 k1 k2 k3 k4 => ?_) 49 50 1 σ (by omega) (by omega) (by omega) (by omega) (FrX.refl σ) (fun _ => rfl) (fun j hj => by rw [if_neg (by omega)]; exact (p1 j hj).1)
    have hr1 : RwC σ1 ob 49 (fun j => s.2.2 (j + 3)) := by
      refine ⟨fun k => p (if k = 49 then 0 else k + 1), fun k hk => ⟨k4 k hk, (p1 _ (by split <;> omega)).2⟩, fun k k' hk1 hk2 hp => ?_, fun k i hk hi => ?_⟩
      · have := p2 _ _ (by split <;> omega) (by split <;> omega) hp
        split at this <;> split at this <;> omega
      · show gI σ1 (ob + 7 + p (if k = 49 then 0 else k + 1)) i = nI (s.2.2 (3 * k + i + 3))
        rw [if_neg (by omega), k2 _ (by have := (p1 (k + 1) (by omega)).2; omega), p3 (k + 1) i (by omega) hi, show 3 * (k + 1) + i = 3 * k + i + 3 by omega]
    refine cb_tells66 e1 e2 (hsta.fr f1.2.1) hob (by rw [k3 0 (by omega)]; exact h1.1) k1 (by omega) hr1 (fun σ2 f2 l1 l2 l3 => ?_)
    have ff := f1.trans f2
    have gg : ∀ j, j ≠ 1 → gI σ2 ob j = gI σ ob j := fun j hj => (l1 j hj).trans (k3 j hj)
    refine hk σ2 ff gg ?_
    unfold spKeep
    rw [if_pos e]
    refine ⟨sta ff gg, l2, Nat.le_refl _, ?_⟩
    obtain ⟨p', a1, a2, a3⟩ := l3
    refine ⟨p', a1, a2, fun k i hk hi => ?_⟩
    have hk : k < 50 := hk
    rw [a3 k i hk hi]
    show nI (if 3 * k + i = 3 * 49 then s.1 0 else if 3 * k + i = 3 * 49 + 1 then t else if 3 * k + i = 3 * 49 + 2 then what else s.2.2 (3 * k + i + 3)) = nI (if 3 * k + i < 147 then s.2.2 (3 * k + i + 3) else if 3 * k + i = 147 then s.1 0 else if 3 * k + i = 148 then t else what)
    by_cases c : k < 49
    · rw [if_neg (by omega), if_neg (by omega), if_neg (by omega), if_pos (by omega)]
    · obtain rfl : k = 49 := by omega
      rcases (show i = 0 ∨ i = 1 ∨ i = 2 by omega) with rfl | rfl | rfl
      · rw [if_pos (by omega), if_neg (by omega), if_pos (by omega)]
      · rw [if_neg (by omega), if_pos (by omega), if_neg (by omega), if_neg (by omega), if_pos (by omega)]
      · rw [if_neg (by omega), if_neg (by omega), if_pos (by omega), if_neg (by omega), if_neg (by omega), if_neg (by omega)]
  · refine bn_t (fun z => e ((nI_eq (b := 50) (by omega) (by omega)).mp z)) (cb_tells66 e1 e2 hsta hob h1.1 h2 (by omega) h4 (fun σ2 f2 l1 l2 l3 => ?_))
    refine hk σ2 f2 l1 ?_
    unfold spKeep
    rw [if_neg e]
    exact ⟨sta f2 l1, l2, by show s.2.1 + 1 ≤ 50; omega, l3⟩
/-- a state over which a day may come -/
def DyB (σ : CS) (ob : Nat) (I : Isl) (fl : Int32 × Int32) (s : St) : Prop := EvB σ ob I fl s.1 ∧ StC σ ob s ∧ bdS s.1 ∧ StaC σ ∧ stOK ob
theorem stP_not (h : stOK ob) (hi : stP ob i) : 8 ≤ i ∧ i < 1296 := by
  have := row_lt h
  unfold stP at hi
  omega
theorem DyB.mv {s' : St} (h : DyB σ ob I fl s) (f : FrX (stP ob) σ σ') (h9 : gI σ' ob 9 = gI σ ob 9) (h10 : gI σ' ob 10 = gI σ ob 10) (hs : StC σ' ob s') (hb : bdS s'.1) : DyB σ' ob I fl s' := by
  obtain ⟨⟨a1, a2, a3, a4, a5, a6⟩, b1, b2, b3, b4⟩ := h
  exact ⟨⟨a1.frX f (fun i hi => stP_not b4 hi), a2, a3, hs.1, by rw [h9]; exact a5, fun z => by rw [h10]; exact a6 z⟩, hs, hb, b3.fr f.2.1, b4⟩
theorem RwC.fr {r : Nat → Nat} (h : RwC σ ob m r) (hm : m ≤ 50) (f : ∀ i, ob + 6 ≤ i → i < ob + 57 → agr σ σ' i) : RwC σ' ob m r := by
  obtain ⟨p, p1, p2, p3⟩ := h
  refine ⟨p, fun k hk => ?_, p2, fun k i hk hi => ?_⟩
  · rw [(f _ (by omega) (by omega)).2.2.2]; exact p1 k hk
  · rw [(f _ (by omega) (by have := (p1 k (by omega)).2; omega)).2.1]; exact p3 k i hk hi
theorem DyB.fr (h : DyB σ ob I fl s) (f : FrX P12 σ σ') : DyB σ' ob I fl s := by
  obtain ⟨a, b1, b2, b3, b4⟩ := h
  have hl := row_lt b4
  have ag : ∀ i, ob ≤ i → agr σ σ' i := fun i hi => f.2.2 i (fun z => by have : i = 12 := z; omega)
  refine ⟨a.fr f, ⟨b1.1.fr (fun i hi _ => (ag i hi).2.1), by rw [(ag ob (Nat.le_refl _)).2.1]; exact b1.2.1, b1.2.2.1, b1.2.2.2.fr b1.2.2.1 (fun i hi _ => ag i (by omega))⟩, b2, b3.fr f.2.1, b4⟩
theorem U_min1 {K : Int32 → CS → Prop} {a : Nat} (h : a ≤ 99) (hk : K (nI (min 99 (a + 1))) σ) : U_J12_min σ 99 (nI a + 1) K := by
  rw [nI_1]
  unfold U_J12_min
  by_cases c : a + 1 < 99
  · rw [Nat.min_eq_right (by omega)] at hk
    exact br_t (nI_lt (b := 99) c (by omega)) hk
  · rw [Nat.min_eq_left (by omega)] at hk
    exact br_f (nI_nlt (b := 99) (by omega) (by omega)) hk
theorem cb_breaks {K : Unit → CS → Prop} (h : DyB σ ob I fl s) (ht : t < 8) (hk : ∀ σ', FrX (stP ob) σ σ' → DyB σ' ob I fl (spBreak s t) → gI σ' ob 8 = gI σ ob 8 → agr σ σ' (ob + 57) → K () σ') : U_X5_breaks σ ob (nI t) K := by
  have hD := h
  obtain ⟨a, b1, b2, b3, b4⟩ := h
  have hl := row_lt b4
  obtain ⟨s1, s2, s3, s4, s5⟩ := b1.1.2 t ht
  have bd2 := b2.2.1 (2 + 5 * t) (by omega) (by omega)
  have v8 : vp_in (nI t) 8 := vi_ ht (by omega)
  refine ⟨v8, ?_⟩
  rw [nI_clamp (by omega), s2]
  refine U_min1 bd2 ⟨v8, st_ ⟨v8, st_ ⟨v8, st_ ?_⟩⟩⟩
  rw [nar_b0]
  obtain ⟨u, hu⟩ : ∃ u, u = wI (wI (wI σ (ob + 2) t (nI (min 99 (s.1 (2 + 5 * t) + 1)))) (ob + 1) t 1) (ob + 5) t 0 := ⟨_, rfl⟩
  rw [← hu]
  have fu : FrX (stP ob) σ u := by
    rw [hu]
    exact (((FrX.refl σ).wI (Or.inr ⟨by omega, by omega⟩)).wI (Or.inr ⟨by omega, by omega⟩)).wI (Or.inr ⟨by omega, by omega⟩)
  have gu : ∀ i, i ≠ ob + 1 → i ≠ ob + 2 → i ≠ ob + 5 → agr σ u i := fun i h1 h2 h5 => by rw [hu]; exact (((agr.refl σ i).wI h2).wI h1).wI h5
  have su : StC u ob (brS s.1 t, s.2) := by
    refine ⟨⟨?_, fun t' ht' => ?_⟩, ?_, b1.2.2.1, b1.2.2.2.fr b1.2.2.1 (fun i h1 _ => gu i (by omega) (by omega) (by omega))⟩
    · rw [(gu ob (by omega) (by omega) (by omega)).2.1]
      show _ = nI (fu_ (fu_ (fu_ s.1 _ _) _ _) _ _ 0)
      rw [fu_ne (by omega), fu_ne (by omega), fu_ne (by omega)]; exact b1.1.1
    · obtain ⟨q1, q2, q3, q4, q5⟩ := b1.1.2 t' ht'
      show _ = nI (fu_ (fu_ (fu_ s.1 (1 + 5 * t) 1) (2 + 5 * t) _) (5 + 5 * t) 0 (1 + 5 * t')) ∧ _ = nI (fu_ (fu_ (fu_ s.1 (1 + 5 * t) 1) (2 + 5 * t) _) (5 + 5 * t) 0 (2 + 5 * t')) ∧ _ = nI (fu_ (fu_ (fu_ s.1 (1 + 5 * t) 1) (2 + 5 * t) _) (5 + 5 * t) 0 (3 + 5 * t')) ∧ _ = nI (fu_ (fu_ (fu_ s.1 (1 + 5 * t) 1) (2 + 5 * t) _) (5 + 5 * t) 0 (4 + 5 * t')) ∧ _ = nI (fu_ (fu_ (fu_ s.1 (1 + 5 * t) 1) (2 + 5 * t) _) (5 + 5 * t) 0 (5 + 5 * t'))
      by_cases e : t' = t
      · subst e
        refine ⟨?_, ?_, ?_, ?_, ?_⟩
        · rw [fu_ne (by omega), fu_ne (by omega), fu_same, hu, gI_wn (by omega)]; exact gI_ws
        · rw [fu_ne (by omega), fu_same, hu, gI_wn (by omega), gI_wn (by omega)]; exact gI_ws
        · rw [fu_ne (by omega), fu_ne (by omega), fu_ne (by omega), (gu _ (by omega) (by omega) (by omega)).2.1]; exact q3
        · rw [fu_ne (by omega), fu_ne (by omega), fu_ne (by omega), (gu _ (by omega) (by omega) (by omega)).2.1]; exact q4
        · rw [fu_same, hu]; exact gI_ws
      · refine ⟨?_, ?_, ?_, ?_, ?_⟩
        · rw [fu_ne (by omega), fu_ne (by omega), fu_ne (by omega), hu, gI_wn (by omega), gI_wn (by omega), gI_wn (by omega)]; exact q1
        · rw [fu_ne (by omega), fu_ne (by omega), fu_ne (by omega), hu, gI_wn (by omega), gI_wn (by omega), gI_wn (by omega)]; exact q2
        · rw [fu_ne (by omega), fu_ne (by omega), fu_ne (by omega), hu, gI_wn (by omega), gI_wn (by omega), gI_wn (by omega)]; exact q3
        · rw [fu_ne (by omega), fu_ne (by omega), fu_ne (by omega), hu, gI_wn (by omega), gI_wn (by omega), gI_wn (by omega)]; exact q4
        · rw [fu_ne (by omega), fu_ne (by omega), fu_ne (by omega), hu, gI_wn (by omega), gI_wn (by omega), gI_wn (by omega)]; exact q5
    · rw [(gu ob (by omega) (by omega) (by omega)).2.1]; exact b1.2.1
  refine cb_tells (what := 0) rfl rfl (b3.fr fu.2.1) b4 su fun σ2 f2 g2 s2' => ?_
  have gob := (gu ob (by omega) (by omega) (by omega)).2.1
  have f2' : FrX (stP ob) u σ2 := f2.mono (fun i hi => Or.inr (by unfold rwP at hi; omega))
  have hbs : bdS (spKeep (brS s.1 t, s.2) t 0).1 := by rw [spKeep_1]; exact brS_bd b2 ht
  refine hk σ2 (fu.trans f2') (hD.mv (fu.trans f2') ?_ ?_ s2' hbs) ?_ ((gu _ (by omega) (by omega) (by omega)).trans (f2.2.2 _ (fun z => by unfold rwP at z; omega)))
  · rw [g2 9 (by omega), gob]
  · rw [g2 10 (by omega), gob]
  · rw [g2 8 (by omega), gob]
theorem cb_isMended {K : Unit → CS → Prop} (h : DyB σ ob I fl s) (hI : IslOK I) (ht : t < iC I 0) (hm : m < iC I 1) (hk : ∀ σ', FrX (stP ob) σ σ' → DyB σ' ob I fl (spMend I fl s t m) → gI σ' ob 8 = gI σ ob 8 → agr σ σ' (ob + 57) → K () σ') : U_X5_isMended σ ob (nI t) (nI m) K := by
  have h8 := h.1.2.1.1
  refine cb_fine h.1 ht hm fun σ0 f0 => ?_
  have hD := h.fr f0
  have f0' : FrX (stP ob) σ σ0 := f0.mono (fun i hi => Or.inl hi)
  obtain ⟨a, b1, b2, b3, b4⟩ := hD
  have hl := row_lt b4
  obtain ⟨s1, s2, s3, s4, s5⟩ := b1.1.2 t (by omega)
  have bd3 := b2.2.1 (3 + 5 * t) (by omega) (by omega)
  have v8 : vp_in (nI t) 8 := vi_ (by omega) (by omega)
  have hfi := spFine_le (fr := fl) (t := t) hI (s := s.1) hm
  refine ⟨v8, ?_⟩
  rw [nI_clamp (by omega), s3]
  refine U_min1 bd3 ⟨v8, st_ ⟨v8, st_ ⟨v8, st_ ?_⟩⟩⟩
  rw [nI_1]
  obtain ⟨fi, hfe⟩ : ∃ fi, fi = spFine I fl s.1 t m := ⟨_, rfl⟩
  rw [← hfe]
  rw [← hfe] at hfi
  obtain ⟨u, hu⟩ : ∃ u, u = wI (wI (wI σ0 (ob + 3) t (nI (min 99 (s.1 (3 + 5 * t) + 1)))) (ob + 4) t (nI fi)) (ob + 1) t 2 := ⟨_, rfl⟩
  rw [← hu]
  have fu : FrX (stP ob) σ0 u := by
    rw [hu]
    exact (((FrX.refl σ0).wI (Or.inr ⟨by omega, by omega⟩)).wI (Or.inr ⟨by omega, by omega⟩)).wI (Or.inr ⟨by omega, by omega⟩)
  have gu : ∀ i, i ≠ ob + 1 → i ≠ ob + 3 → i ≠ ob + 4 → agr σ0 u i := fun i h1 h2 h5 => by rw [hu]; exact (((agr.refl σ0 i).wI h2).wI h5).wI h1
  have su : StC u ob (meS s.1 t fi, s.2) := by
    refine ⟨⟨?_, fun t' ht' => ?_⟩, ?_, b1.2.2.1, b1.2.2.2.fr b1.2.2.1 (fun i h1 _ => gu i (by omega) (by omega) (by omega))⟩
    · rw [(gu ob (by omega) (by omega) (by omega)).2.1]
      show _ = nI (fu_ (fu_ (fu_ s.1 _ _) _ _) _ _ 0)
      rw [fu_ne (by omega), fu_ne (by omega), fu_ne (by omega)]; exact b1.1.1
    · obtain ⟨q1, q2, q3, q4, q5⟩ := b1.1.2 t' ht'
      show _ = nI (fu_ (fu_ (fu_ s.1 (1 + 5 * t) 2) (3 + 5 * t) _) (4 + 5 * t) fi (1 + 5 * t')) ∧ _ = nI (fu_ (fu_ (fu_ s.1 (1 + 5 * t) 2) (3 + 5 * t) _) (4 + 5 * t) fi (2 + 5 * t')) ∧ _ = nI (fu_ (fu_ (fu_ s.1 (1 + 5 * t) 2) (3 + 5 * t) _) (4 + 5 * t) fi (3 + 5 * t')) ∧ _ = nI (fu_ (fu_ (fu_ s.1 (1 + 5 * t) 2) (3 + 5 * t) _) (4 + 5 * t) fi (4 + 5 * t')) ∧ _ = nI (fu_ (fu_ (fu_ s.1 (1 + 5 * t) 2) (3 + 5 * t) _) (4 + 5 * t) fi (5 + 5 * t'))
      by_cases e : t' = t
      · subst e
        refine ⟨?_, ?_, ?_, ?_, ?_⟩
        · rw [fu_ne (by omega), fu_ne (by omega), fu_same, hu]; exact gI_ws
        · rw [fu_ne (by omega), fu_ne (by omega), fu_ne (by omega), (gu _ (by omega) (by omega) (by omega)).2.1]; exact q2
        · rw [fu_ne (by omega), fu_same, hu, gI_wn (by omega), gI_wn (by omega)]; exact gI_ws
        · rw [fu_same, hu, gI_wn (by omega)]; exact gI_ws
        · rw [fu_ne (by omega), fu_ne (by omega), fu_ne (by omega), (gu _ (by omega) (by omega) (by omega)).2.1]; exact q5
      · refine ⟨?_, ?_, ?_, ?_, ?_⟩
        · rw [fu_ne (by omega), fu_ne (by omega), fu_ne (by omega), hu, gI_wn (by omega), gI_wn (by omega), gI_wn (by omega)]; exact q1
        · rw [fu_ne (by omega), fu_ne (by omega), fu_ne (by omega), hu, gI_wn (by omega), gI_wn (by omega), gI_wn (by omega)]; exact q2
        · rw [fu_ne (by omega), fu_ne (by omega), fu_ne (by omega), hu, gI_wn (by omega), gI_wn (by omega), gI_wn (by omega)]; exact q3
        · rw [fu_ne (by omega), fu_ne (by omega), fu_ne (by omega), hu, gI_wn (by omega), gI_wn (by omega), gI_wn (by omega)]; exact q4
        · rw [fu_ne (by omega), fu_ne (by omega), fu_ne (by omega), hu, gI_wn (by omega), gI_wn (by omega), gI_wn (by omega)]; exact q5
    · rw [(gu ob (by omega) (by omega) (by omega)).2.1]; exact b1.2.1
  refine cb_tells (what := m + 1) rfl rfl (b3.fr fu.2.1) b4 su fun σ2 f2 g2 s2' => ?_
  have gob := (gu ob (by omega) (by omega) (by omega)).2.1
  have g0 : gI σ0 ob = gI σ ob := (f0.2.2 ob (fun z => by have : ob = 12 := z; omega)).2.1
  have f2' : FrX (stP ob) u σ2 := f2.mono (fun i hi => Or.inr (by unfold rwP at hi; omega))
  have hbs : bdS (spKeep (meS s.1 t fi, s.2) t (m + 1)).1 := by rw [spKeep_1]; exact meS_bd b2 (by omega) hfi
  have ff := (f0'.trans fu).trans f2'
  have hsp : spMend I fl s t m = spKeep (meS s.1 t fi, s.2) t (m + 1) := by rw [hfe]; rfl
  rw [hsp] at hk
  refine hk σ2 ff (h.mv ff ?_ ?_ s2' hbs) ?_ (((f0.2.2 _ (fun z => by have : ob + 57 = 12 := z; omega)).trans (gu _ (by omega) (by omega) (by omega))).trans (f2.2.2 _ (fun z => by unfold rwP at z; omega)))
  · rw [g2 9 (by omega), gob, g0]
  · rw [g2 10 (by omega), gob, g0]
  · rw [g2 8 (by omega), gob, g0]
end CRw
