/-! COMPONENT, PURE SIDE: undo, strike, mend, forge, days. -/
section CA2
variable {σ σ' σ'' : CS} {a : AS} {I : Isl} {K : Int32 → CS → Prop} {x y : Int32} {fl : Int32 × Int32} {i j n ob : Nat} {s : St} {U : List St}
theorem RC.act (h : RC a σ) (f : FrX (stP 16) σ σ') (d : DyB σ' 16 I fl s) (hfl : fl.1 = -1) : RC (aSetS a s (aU a)) σ' := h.now f ⟨d.2.1, d.1.2.2.2.2.1.trans hfl⟩
theorem AOK.keep (ha : AOK a) : AOK (aKeep a) := by
  refine ⟨ha.1, ha.2.1, fun j s hj => ?_, ha.2.2.2⟩
  have hj' : ((aS a :: aU a).take 20)[j]? = some s := hj
  rw [List.getElem?_take] at hj'
  split at hj'
  · cases j with
    | zero =>
      have e : aS a = s := by simpa using hj'
      rw [← e]; exact ha.2.1
    | succ j =>
      have e : (aU a)[j]? = some s := by simpa using hj'
      exact ha.2.2.1 j s e
  · cases hj'
theorem co_undo (h : RC a σ) (ha : AOK a) (hk : ∀ σ', RC (sp_undo a).2 σ' → K (sp_undo a).1 σ') : U_X0_undo σ K := by
  obtain ⟨k1, k2, k3, p, p1, p2, p3⟩ := h.2.2.2.2.2.2.1
  unfold U_X0_undo
  rw [k2]
  unfold sp_undo at hk
  cases hU : aU a with
  | nil =>
    rw [hU] at hk
    exact bn_f rfl (co_0 (k := 4) h (by omega) hk)
  | cons s U =>
    rw [hU] at hk k1 k2 p3
    rw [List.length_cons] at k1 k2
    rw [List.length_cons]
    refine bn_t (fun z => by have := (nI_eq (a := U.length + 1) (b := 0) (by omega) (by omega)).mp z; omega) (st_ ?_)
    rw [nI_pred, gI_ws, nI_clamp (by omega)]
    obtain ⟨q1, q2⟩ := p1 U.length (by omega)
    have s0 := p3 0 s rfl
    rw [List.length_cons, show U.length + 1 - 1 - 0 = U.length by omega] at s0
    obtain ⟨u, hu⟩ : ∃ u, u = wI σ 0 15 (nI U.length) := ⟨_, rfl⟩
    rw [← hu]
    have au : ∀ i, i ≠ 0 → agr σ u i := fun i hi => by rw [hu]; exact (agr.refl σ i).wI hi
    have fu : FrO kpP kpJ σ u := by
      rw [hu]
      refine FrO.wI (FrO.refl h.z) ?_
      exact Or.inr ⟨rfl, rfl⟩
    have r1 : RC (aSetS a (aS a) U) u := by
      refine h.kp fu ⟨by omega, by rw [hu]; exact gI_ws, fun k hk' => (k3 k hk').fr (by omega) (fun i h1 h2 => au i (by omega)), p, fun k hk' => ?_, p2, fun j s' hj => ?_⟩
      · rw [(au 134 (by omega)).2.2.2]; exact p1 k hk'
      · have hj1 := getU hj
        have := p3 (j + 1) s' (by simpa using hj)
        rw [List.length_cons, show U.length + 1 - 1 - (j + 1) = U.length - 1 - j by omega] at this
        exact this.mv (fun i h1 h2 => au i (by omega))
    have sOK : StOK s := ha.2.2.1 0 s (by rw [hU]; rfl)
    refine ⟨vi_ (by omega) (by omega), _, by rw [(au 134 (by omega)).2.2.2]; exact q1, kp_ok q2, cb_copy r1.sta (Or.inl rfl) (kp_ok q2) (Or.inl (by omega)) (s0.mv (fun i h1 h2 => au i (by omega))) (fun t ht => (sOK.2.1 t ht).2.2.2.2) r1.2.2.2.2.1.1.rw0 fun σ1 f1 s1 e1 => hk σ1 ?_⟩
    exact r1.now (f1.mono (fun i z => Or.inr z)) ⟨s1, e1⟩
theorem RC.isv (h : RC a σ) {t : Nat} (ht : t < 8) : gI σ 17 t = nI ((aS a).1 (1 + 5 * t)) := (h.2.2.2.2.1.1.1.2 t ht).1
theorem co_strike (h : RC a σ) (ha : AOK a) (hk : ∀ σ', RC (sp_strike a x).2 σ' → K (sp_strike a x).1 σ') : U_X0_strike σ x K := by
  have hb := ha.ib
  have hb0 := hb.1
  unfold sp_strike isTh at hk
  refine co_isThing h.is hb (br_b _ (fun e => ?_) (fun e => ?_))
  · rw [e] at hk; exact co_0 (k := 2) h (by omega) hk
  obtain ⟨q1, q2⟩ := inR_ix e (by omega)
  have hb1 := (ha.2.1.2.1 (ix x) (by omega)).1
  rw [e, Bool.true_and] at hk
  have hx : x = nI (ix x) := q1
  generalize ix x = t at *
  subst hx
  rw [nI_clamp (by omega), h.isv (by omega)]
  refine ⟨vi_ (by omega) (by omega), ?_⟩
  by_cases c : (aS a).1 (1 + 5 * t) = 1
  · rw [decide_eq_false (by omega)] at hk
    exact bn_f (by rw [c]; rfl) (co_0 (k := 2) h (by omega) hk)
  · rw [decide_eq_true c] at hk
    refine bn_t (fun z => c ((nI_eq (b := 1) (by omega) (by omega)).mp z)) (co_keeps h ha fun σ1 h1 => cb_breaks (h1.dy ha.keep) (by omega) fun σ2 f2 d2 _ _ => hk σ2 (h1.act f2 d2 rfl))
theorem co_mend (h : RC a σ) (ha : AOK a) (hk : ∀ σ', RC (sp_mend a x y).2 σ' → K (sp_mend a x y).1 σ') : U_X0_mend σ x y K := by
  have hb := ha.ib
  have hb0 := hb.1
  have hb1 := hb.2.1
  unfold sp_mend isTh isMe at hk
  refine co_isThing h.is hb (br_b _ (fun e => ?_) (fun e => ?_))
  · rw [e] at hk; exact co_refuses (k := 2) h (by omega) hk
  refine co_isMender h.is hb (br_b _ (fun e2 => ?_) (fun e2 => ?_))
  · rw [e, e2] at hk; exact co_refuses (k := 2) h (by omega) hk
  obtain ⟨q1, q2⟩ := inR_ix e (by omega)
  obtain ⟨r1, r2⟩ := inR_ix e2 (by omega)
  have hbt := (ha.2.1.2.1 (ix x) (by omega)).1
  rw [e, e2, Bool.true_and, Bool.true_and] at hk
  generalize ix x = t at *
  generalize ix y = m at *
  subst q1 r1
  rw [nI_clamp (by omega), h.isv (by omega)]
  refine ⟨vi_ (by omega) (by omega), ?_⟩
  by_cases c : (aS a).1 (1 + 5 * t) = 1
  · rw [decide_eq_true c] at hk
    refine br_t (by rw [c]; rfl) (co_keeps h ha fun σ1 h1 => cb_isMended (h1.dy ha.keep) ha.1 q2 r2 fun σ2 f2 d2 _ _ => ⟨vi_ (by omega) (by omega), ?_⟩)
    have := (d2.2.1.1.2 t (by omega)).2.2.2.1
    rw [show gI σ2 20 t = gI σ2 (16 + 4) t from rfl, this]
    exact hk σ2 (h1.act f2 d2 rfl)
  · rw [decide_eq_false c] at hk
    exact br_f (fun z => c ((nI_eq (b := 1) (by omega) (by omega)).mp z)) (co_refuses (k := 2) h (by omega) hk)
theorem co_forge (h : RC a σ) (ha : AOK a) (hk : ∀ σ', RC (sp_forge a x).2 σ' → K (sp_forge a x).1 σ') : U_X0_forge σ x K := by
  have hb := ha.ib
  have hb0 := hb.1
  unfold sp_forge isTh at hk
  refine co_isThing h.is hb (br_b _ (fun e => ?_) (fun e => ?_))
  · rw [e] at hk; exact co_0 (k := 2) h (by omega) hk
  obtain ⟨q1, q2⟩ := inR_ix e (by omega)
  have hb1 := (ha.2.1.2.1 (ix x) (by omega)).1
  rw [e, Bool.true_and] at hk
  generalize ix x = t at *
  subst q1
  have v8 : vp_in (nI t) 8 := vi_ (by omega) (by omega)
  rw [nI_clamp (by omega), h.isv (by omega)]
  refine ⟨v8, ?_⟩
  by_cases c : (aS a).1 (1 + 5 * t) = 0
  · rw [decide_eq_true c] at hk
    refine br_t (by rw [c]; rfl) (co_keeps h ha fun σ1 h1 => ⟨v8, st_ ⟨v8, st_ ⟨v8, st_ (hk _ ?_)⟩⟩⟩)
    rw [nar_b1]
    have p17 : stP 16 17 := Or.inr (by omega)
    have p20 : stP 16 20 := Or.inr (by omega)
    have p21 : stP 16 21 := Or.inr (by omega)
    obtain ⟨⟨⟨n1, n2⟩, n3, n4, n5⟩, n6⟩ := h1.2.2.2.2.1
    refine h1.now ((((FrX.refl σ1).wI p17).wI p20).wI p21) ⟨⟨⟨?_, fun t' ht' => ?_⟩, ?_, n4, n5.fr n4 (fun i h1 h2 => (((agr.refl σ1 i).wI (by omega)).wI (by omega)).wI (by omega))⟩, ?_⟩
    · rw [gI_wn (by omega), gI_wn (by omega), gI_wn (by omega), n1]
      show _ = nI (foS (aS a).1 t 0)
      unfold foS
      rw [fu_ne (by omega), fu_ne (by omega), fu_ne (by omega)]; rfl
    · obtain ⟨s1, s2, s3, s4, s5⟩ := n2 t' ht'
      show _ = nI (foS (aS a).1 t (1 + 5 * t')) ∧ _ = nI (foS (aS a).1 t (2 + 5 * t')) ∧ _ = nI (foS (aS a).1 t (3 + 5 * t')) ∧ _ = nI (foS (aS a).1 t (4 + 5 * t')) ∧ _ = nI (foS (aS a).1 t (5 + 5 * t'))
      unfold foS
      refine ⟨?_, ?_, ?_, ?_, ?_⟩
      · rw [gI_wn (by omega), gI_wn (by omega), fu_ne (by omega), fu_ne (by omega)]
        by_cases e : t' = t
        · rw [e, fu_same]; exact gI_ws
        · rw [fu_ne (by omega), gI_wn (by omega)]; exact s1
      · rw [gI_wn (by omega), gI_wn (by omega), gI_wn (by omega), fu_ne (by omega), fu_ne (by omega), fu_ne (by omega)]; exact s2
      · rw [gI_wn (by omega), gI_wn (by omega), gI_wn (by omega), fu_ne (by omega), fu_ne (by omega), fu_ne (by omega)]; exact s3
      · rw [gI_wn (by omega), fu_ne (by omega)]
        by_cases e : t' = t
        · rw [e, fu_same]; exact gI_ws
        · rw [fu_ne (by omega), fu_ne (by omega), gI_wn (by omega), gI_wn (by omega)]; exact s4
      · by_cases e : t' = t
        · rw [e, fu_same]; exact gI_ws
        · rw [fu_ne (by omega), fu_ne (by omega), fu_ne (by omega), gI_wn (by omega), gI_wn (by omega), gI_wn (by omega)]; exact s5
    · rw [gI_wn (by omega), gI_wn (by omega), gI_wn (by omega)]; exact n3
    · rw [gI_wn (by omega), gI_wn (by omega), gI_wn (by omega)]; exact n6
  · rw [decide_eq_false c] at hk
    exact br_f (fun z => c ((nI_eq (b := 0) (by omega) (by omega)).mp z)) (co_0 (k := 2) h (by omega) hk)
theorem co_isAhead {x2 x3 : Int32} {lo hi : Int} (h : RC a σ) (ha : AOK a) (h2 : x2.toInt = lo) (h3 : x3.toInt = hi) (hlo : 0 ≤ lo) (hhi : hi ≤ 1000) (hk : K (b1 (ahd ((aS a).1 0) x lo hi)) σ) : U_X0_isAhead σ x x2 x3 K := by
  have hd := ha.2.1.1
  unfold ahd at hk
  refine co_is h2 h3 (br_b _ (fun e => ?_) (fun e => ?_))
  · rw [e, Bool.false_and] at hk; exact hk
  rw [e, Bool.true_and] at hk
  unfold inR at e
  rw [decide_eq_true_eq] at e
  rw [h.2.2.2.2.1.1.1.1]
  have hs : (nI ((aS a).1 0) + x).toInt = ((aS a).1 0 : Int) + x.toInt := by
    rw [Int32.toInt_add, nI_toInt (by omega), Int.bmod_eq_of_le_mul_two (by omega) (by omega)]
  by_cases c : ((aS a).1 0 : Int) + x.toInt ≤ 999
  · rw [decide_eq_true c] at hk
    refine br_f ?_ hk
    rw [Int32.lt_iff_toInt_lt, hs]; show ¬ (999 : Int) < _; omega
  · rw [decide_eq_false c] at hk
    refine br_t ?_ hk
    rw [Int32.lt_iff_toInt_lt, hs]; show (999 : Int) < _; omega
theorem ahd_ix {d : Nat} {lo hi : Int} (hlo : 0 ≤ lo) (hhi : hi ≤ 1000) (h : ahd d x lo hi = true) : x = nI (ix x) ∧ (lo ≤ ix x ∧ (ix x : Int) ≤ hi) ∧ d + ix x ≤ 999 := by
  unfold ahd inR at h
  rw [Bool.and_eq_true, decide_eq_true_eq, decide_eq_true_eq] at h
  have e : inR x 0 (((1001 : Nat) : Int) - 1) = true := by unfold inR; rw [decide_eq_true_eq]; omega
  obtain ⟨q1, q2⟩ := inR_ix e (by omega)
  have q3 : x.toInt = (ix x : Int) := by unfold ix; omega
  exact ⟨q1, by omega, by omega⟩
theorem spDays_s (I : Isl) (fl : Int32 × Int32) (k : Nat) (s : St) : spDays I fl (k + 1) s = ((spDays I fl k s).1 + bcN (spDay I fl (spDays I fl k s).2).1, (spDay I fl (spDays I fl k s).2).2) := rfl
theorem co_days (h : RC a σ) (ha : AOK a) (hk : ∀ σ', RC (sp_days a x).2 σ' → K (sp_days a x).1 σ') : U_X0_days σ x K := by
  unfold sp_days at hk
  refine co_isAhead h ha (lo := 1) (hi := 100) rfl rfl (by omega) (by omega) (bn_b _ (fun e => ?_) (fun e => ?_))
  · rw [e] at hk; exact co_refuses (k := 3) h (by omega) hk
  rw [e] at hk
  obtain ⟨q1, ⟨q2, q3⟩, q4⟩ := ahd_ix (by omega) (by omega) e
  have hinv := fun n => spDays_inv (fr := (-1, 0)) ha.1 ha.2.1.w n
  generalize ix x = n at *
  subst q1
  refine co_keeps h ha fun σ1 h1 => ⟨n + 1, ?_⟩
  have lp : ∀ (d f k : Nat) (σ2 : CS), n - k = d → d < f → k ≤ n → FrX (stP 16) σ1 σ2 → DyB σ2 16 (aI a) (-1, 0) (spDays (aI a) (-1, 0) k (aS a)).2 → U_X0_days_25 K (nI n) f (nI (spDays (aI a) (-1, 0) k (aS a)).1) (nI k) σ2 := by
    intro d
    induction d with
    | zero =>
      intro f k σ2 hd hf hkn f2 d2
      obtain ⟨f, rfl⟩ : ∃ f', f = f' + 1 := ⟨f - 1, by omega⟩
      obtain rfl : k = n := by omega
      unfold U_X0_days_25
      exact br_t (nI_le (by omega) (by omega)) (hk σ2 (h1.act f2 d2 rfl))
    | succ d ih =>
      intro f k σ2 hd hf hkn f2 d2
      obtain ⟨f, rfl⟩ : ∃ f', f = f' + 1 := ⟨f - 1, by omega⟩
      unfold U_X0_days_25
      have hday := (hinv k).2
      refine br_f (nI_ge (by omega) (by omega)) (cb_day ha.1 (ha.2.2.2.1 _) (by omega) d2 fun σ3 d3 f3 _ => ?_)
      rw [nI_add, nI_1]
      have := ih f (k + 1) σ3 (by omega) (by omega) (by omega) (f2.trans f3)
      rw [spDays_s] at this
      exact this d3
  exact lp n _ 0 σ1 rfl (by omega) (by omega) (FrX.refl σ1) (h1.dy ha.keep)
end CA2
