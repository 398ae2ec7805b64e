/-! COMPONENT, PURE SIDE: house, chance. -/
section CHo
variable {σ σ' σ'' : CS} {a : AS} {I : Isl} {K : Int32 → CS → Prop} {x y : Int32} {i j n ob v : Nat} {s : St}
theorem co_struck {k34 : Int32 → Int32 → CS → Prop} {x2 x3 : Int32} {v use : Nat} (h : RC a σ) (ha : AOK a) (d0 : DyB σ 74 (aI a) (-1, 0) (aS a)) (hv : v < 256) (hm : 0 < iC (aI a) 1) (hu : use < 1000)
    (hk : ∀ σ', RC a σ' → k34 (if use ≤ useS (aI a) (stS a (spStr (aI a) v (iC (aI a) 0) (aS a)).1) (iC (aI a) 0) then nI v else x3) (nI v + 1) σ') : ∃ n, U_X0_house_137 K k34 (nI use) x2 x3 (nI v) n 0 σ := by
  have hb := ha.ib
  have hc := hb.1
  refine ⟨iC (aI a) 0 + 1, ?_⟩
  have lp : ∀ (d f t : Nat) (σ' : CS), iC (aI a) 0 - t = d → d < f → t ≤ iC (aI a) 0 → RC a σ' → DyB σ' 74 (aI a) (-1, 0) (spStr (aI a) v t (aS a)) → U_X0_house_137 K k34 (nI use) x2 x3 (nI v) f (nI t) σ' := by
    intro d
    induction d with
    | zero =>
      intro f t σ' hd hf ht h1 d1
      obtain ⟨f, rfl⟩ : ∃ f', f = f' + 1 := ⟨f - 1, by omega⟩
      obtain rfl : t = iC (aI a) 0 := by omega
      unfold U_X0_house_137
      refine cb_things h1.is (br_t (nI_le (by omega) (by omega)) (cb_standing d1.1 d1.2.2.1 fun σ2 f2 => cb_useOf (h1.p12 f2).is hb (setN_256 _ hc) ?_))
      have hul := useS_le ha.1 (setN (spStands (aI a) (-1, 0) (spStr (aI a) v (iC (aI a) 0) (aS a)).1) (iC (aI a) 0)) (Nat.le_refl (iC (aI a) 0))
      have hk2 := hk σ2 (h1.p12 f2)
      rw [nI_ltI (by omega) (by omega)]
      by_cases c : use ≤ useS (aI a) (stS a (spStr (aI a) v (iC (aI a) 0) (aS a)).1) (iC (aI a) 0)
      · rw [if_pos c] at hk2
        have c' : ¬ useS (aI a) (setN (spStands (aI a) (-1, 0) (spStr (aI a) v (iC (aI a) 0) (aS a)).1) (iC (aI a) 0)) (iC (aI a) 0) < use := Nat.not_lt.mpr c
        exact br_f c' hk2
      · rw [if_neg c] at hk2
        have c' : useS (aI a) (setN (spStands (aI a) (-1, 0) (spStr (aI a) v (iC (aI a) 0) (aS a)).1) (iC (aI a) 0)) (iC (aI a) 0) < use := Nat.not_le.mp c
        exact br_t c' hk2
    | succ d ih =>
      intro f t σ' hd hf ht h1 d1
      obtain ⟨f, rfl⟩ : ∃ f', f = f' + 1 := ⟨f - 1, by omega⟩
      unfold U_X0_house_137
      have es : spStr (aI a) v (t + 1) (aS a) = if v.testBit t then spMend (aI a) (-1, 0) (spBreak (spStr (aI a) v t (aS a)) t) t 0 else spStr (aI a) v t (aS a) := rfl
      refine cb_things h1.is (br_f (nI_ge (by omega) (by omega)) (cb_hasS hv (by omega) (bn_b _ (fun e => ?_) (fun e => ?_))))
      · rw [e, if_neg (by decide)] at es
        rw [nI_1]
        exact ih f (t + 1) σ' (by omega) (by omega) (by omega) h1 (by rw [es]; exact d1)
      · rw [e, if_pos rfl] at es
        refine cb_breaks d1 (by omega) fun σ2 f2 d2 _ _ => cb_isMended (m := 0) d2 ha.1 (by omega) hm fun σ3 f3 d3 _ _ => ?_
        rw [nI_1]
        exact ih f (t + 1) σ3 (by omega) (by omega) (by omega) ((h1.t74 f2 d2).t74 f3 d3) (by rw [es]; exact d3)
  exact lp (iC (aI a) 0) _ 0 σ rfl (by omega) (by omega) h d0
theorem co_house (h : RC a σ) (ha : AOK a) (hk : ∀ σ', RC a σ' → K (sp_house a x y) σ') : U_X0_house σ x y K := by
  have hb := ha.ib
  have hc := hb.1
  have hB := ha.2.1.bd
  unfold sp_house at hk
  refine cb_menders h.is ?_
  by_cases hm : iC (aI a) 1 = 0
  · rw [decide_eq_false (by simpa using hm), Bool.false_and] at hk
    exact br_t (by rw [hm]; rfl) (hk σ h)
  have hm4 := hb.2.1
  rw [decide_eq_true (by simpa using hm), Bool.true_and] at hk
  refine br_f (nI_ne0 (by omega) (by omega)) (co_is (lo := 0) (hi := 999) rfl rfl (br_b _ (fun e => ?_) (fun e => ?_)))
  · rw [e] at hk; exact hk σ h
  rw [e, Bool.true_and] at hk
  obtain ⟨q1, q2⟩ := inR_ix (n := 1000) e (by omega)
  generalize ix x = use at q1 q2 hk
  subst q1
  refine co_is (lo := 0) (hi := 1) rfl rfl (bn_b _ (fun e2 => ?_) (fun e2 => ?_))
  · rw [e2] at hk; exact hk σ h
  rw [e2, if_pos rfl] at hk
  refine ⟨2 ^ iC (aI a) 0 + 1, ?_⟩
  have hp8 : 2 ^ iC (aI a) 0 ≤ 256 := Nat.pow_le_pow_right (n := 2) (by omega) hc
  have hbr : areN a 1 < 256 := setN_256 _ hc
  have lp : ∀ (d f v : Nat) (σ' : CS), 2 ^ iC (aI a) 0 - v = d → d < f → v ≤ 2 ^ iC (aI a) 0 → RC a σ' → U_X0_house_34 K (nI use) y f (ixI (lpN (hoS a use) v none)) (nI v) σ' := by
    intro d
    induction d with
    | zero =>
      intro f v σ' hd hf hv h1
      obtain ⟨f, rfl⟩ : ∃ f', f = f' + 1 := ⟨f - 1, by omega⟩
      obtain rfl : v = 2 ^ iC (aI a) 0 := by omega
      unfold U_X0_house_34
      refine cb_things h1.is ?_
      rw [pow_I _ (by omega)]
      refine br_t (nI_le (Nat.le_refl _) (by omega)) ?_
      have hkk := hk σ' h1
      unfold spHo at hkk
      cases eb : lpN (hoS a use) (2 ^ iC (aI a) 0) none with
      | none => rw [eb] at hkk; exact br_t rfl hkk
      | some b =>
        rw [eb] at hkk
        have hlt := hoS_lt _ b eb
        show ((nI b = -1 → _) ∧ _)
        refine br_f (fun z => nI_m1 (by omega) z.symm) ?_
        by_cases y0 : y = 0
        · simp only [y0, if_true] at hkk; exact bn_f y0 hkk
        · simp only [y0, if_false] at hkk
          exact bn_t y0 (cb_worthOf h1.is hb (by omega) hkk)
    | succ d ih =>
      intro f v σ' hd hf hv h1
      obtain ⟨f, rfl⟩ : ∃ f', f = f' + 1 := ⟨f - 1, by omega⟩
      have es : lpN (hoS a use) (v + 1) none = hoS a use v (lpN (hoS a use) v none) := rfl
      unfold U_X0_house_34
      refine cb_things h1.is ?_
      rw [pow_I _ (by omega)]
      refine br_f (nI_ge (by omega) (by omega)) (cb_are (x := 1) rfl (by omega) (h1.ev ha) hB ?_)
      have ea : setN (fun t => decide ((aS a).1 (1 + 5 * t) = 1)) (iC (aI a) 0) = areN a 1 := rfl
      rw [ea, and_0 v (by omega) _ hbr]
      by_cases c1 : v &&& areN a 1 = 0
      · refine br_t c1 (cb_worthOf h1.is hb (by omega) ?_)
        have go : ((lpN (hoS a use) v none) = none ∨ spLess (aI a) v ((lpN (hoS a use) v none).getD 0) = true) → U_X0_house_112 K (U_X0_house_34 K (nI use) y f) (nI use) y (ixI (lpN (hoS a use) v none)) (nI v) 0 σ' := by
          intro hl
          unfold U_X0_house_112
          refine br_t rfl (co_try h1 ha fun σ2 h2 d2 => co_struck h2 ha d2 (by omega) (by omega) (by omega) fun σ3 h3 => ?_)
          rw [nI_1]
          have hq := ih f (v + 1) σ3 (by omega) (by omega) (by omega) h3
          rw [es, hoS] at hq
          by_cases c2 : use ≤ useS (aI a) (stS a (spStr (aI a) v (iC (aI a) 0) (aS a)).1) (iC (aI a) 0)
          · rw [if_pos ⟨c1, hl, c2⟩] at hq; rw [if_pos c2]; exact hq
          · rw [if_neg (fun z => c2 z.2.2)] at hq; rw [if_neg c2]; exact hq
        have skip : ∀ b, lpN (hoS a use) v none = some b → spLess (aI a) v b = false → U_X0_house_112 K (U_X0_house_34 K (nI use) y f) (nI use) y (ixI (lpN (hoS a use) v none)) (nI v) 1 σ' := by
          intro b eb el
          unfold U_X0_house_112
          refine br_f (by decide) ?_
          rw [nI_1]
          have hq := ih f (v + 1) σ' (by omega) (by omega) (by omega) h1
          rw [es, hoS, if_neg (by
            rintro ⟨-, z, -⟩
            rcases z with z | z
            · rw [eb] at z; cases z
            · rw [eb] at z
              have z : spLess (aI a) v b = true := z
              rw [el] at z; cases z)] at hq
          exact hq
        cases eb : lpN (hoS a use) v none with
        | none => rw [eb] at go; exact br_t rfl (go (Or.inl rfl))
        | some b =>
          rw [eb] at go
          have sk := skip b eb
          rw [eb] at sk
          have hlt := hoS_lt _ b eb
          have w1 := worS_le ha.1 v (Nat.le_refl (iC (aI a) 0))
          have w2 := worS_le ha.1 b (Nat.le_refl (iC (aI a) 0))
          have b1' := bcN_le v
          have b2' := bcN_le b
          show ((nI b = -1 → _) ∧ _)
          refine br_f (fun z => nI_m1 (by omega) z.symm) ?_
          show U_X0_worthOf σ' (nI b) _
          refine cb_worthOf h1.is hb (by omega) ?_
          by_cases c2 : worS (aI a) b (iC (aI a) 0) < worS (aI a) v (iC (aI a) 0)
          · refine br_t (nI_lt c2 (by omega)) (sk ?_)
            unfold spLess; rw [if_neg (by omega), decide_eq_false (by omega)]
          · refine br_f (nI_nlt (by omega) (by omega)) (cb_worthOf h1.is hb (by omega) ?_)
            by_cases c3 : worS (aI a) v (iC (aI a) 0) = worS (aI a) b (iC (aI a) 0)
            · refine bn_f (by rw [c3]) (cb_bits (by omega) (cb_bits (by omega) ?_))
              by_cases c4 : bcN v < bcN b
              · exact br_t (nI_lt c4 (by omega)) (go (Or.inr (by show spLess (aI a) v b = true; unfold spLess; rw [if_pos c3, decide_eq_true c4])))
              · exact br_f (nI_nlt (by omega) (by omega)) (sk (by unfold spLess; rw [if_pos c3, decide_eq_false c4]))
            · exact bn_t (fun z => c3 ((nI_eq (by omega) (by omega)).mp z)) (go (Or.inr (by show spLess (aI a) v b = true; unfold spLess; rw [if_neg c3, decide_eq_true (by omega)])))
      · have hq := ih f (v + 1) σ' (by omega) (by omega) (by omega) h1
        rw [es, hoS, if_neg (fun z => c1 z.1)] at hq
        rw [nI_1]
        exact br_f c1 hq
  exact lp (2 ^ iC (aI a) 0) _ 0 σ rfl (Nat.lt_succ_self _) (Nat.zero_le _) h
theorem RC.sdS (h : RC a σ) {v : Int64} : RC (aSdS a v) (wL σ 0 16 v) := by
  obtain ⟨b, t, fl, is, nw, tr, kp, sd, ou⟩ := h
  have ag : ∀ i, i ≠ 0 → agr σ (wL σ 0 16 v) i := fun i hi => (agr.refl σ i).wL hi
  have hcb := CBv
  exact ⟨b.mv (Nat.le_refl _) b.1.2 (fun i _ => rfl) (fun i hi => ag i (by omega)), t, fl, is.fr rfl (fun i hi => ag i (by have := dyn_not hi; omega)) (Nat.le_refl _), nw.mv (fun i h1 h2 => ag i (by omega)), tr.fr (by omega) (fun i h1 h2 => ag i (by omega)), kp.mv rfl (fun i h1 h2 => ag i (by omega)), gL_ws, ou⟩
theorem co_draw {b : AS} {sd : Int64} {m : Nat} {x : Int32} (ex : x = nI m) (h : RC (aSdS b sd) σ) (hm : 0 < m) (hm2 : m ≤ 100) (hk : ∀ σ', RC (aSdS b (lcgL sd)) σ' → K (drL (lcgL sd) x) σ') : U_X0_draw σ x K := by
  subst ex
  have g1 : gL σ 0 16 = sd := by
    have := h.2.2.2.2.2.2.2.1
    rw [aSd_S] at this; exact this
  have hr := h.sdS (v := lcgL sd)
  rw [aSdS_S] at hr
  have hk1 := hk _ hr
  unfold U_X0_draw
  rw [g1]
  refine st_ ⟨?_, ?_⟩
  · intro z
    have := congrArg Int64.toInt z
    rw [Int32.toInt_toInt64, nI_toInt (by omega)] at this
    have : (m : Int) = 0 := this
    omega
  · rw [gL_ws]; exact hk1
theorem ch_dy {sd : Int64} (h : RC (aSdS (aAct a s) sd) σ) (ha : AOK a) (hs : StOK s) : DyB σ 16 (aI a) (-1, 0) s := by
  have h1 := h.2.2.2.2.1
  have h2 := h.2.2.2.1
  rw [aAct_aS] at h1
  rw [aAct_aI] at h2
  exact ⟨⟨h2, ha.ib, by omega, h1.1.1, h1.2, fun z => absurd rfl z⟩, h1.1, hs.bd, h.sta, Or.inl rfl⟩
theorem ch_act {sd : Int64} {s2 : St} {fl : Int32 × Int32} (h : RC (aSdS (aAct a s) sd) σ) (f : FrX (stP 16) σ σ') (d : DyB σ' 16 I fl s2) (hfl : fl.1 = -1) : RC (aSdS (aAct a s2) sd) σ' := by
  have := h.act f d hfl
  rw [aAct_set] at this
  exact this
theorem co_chance (h : RC a σ) (ha : AOK a) (hk : ∀ σ', RC (sp_chance a x).2 σ' → K (sp_chance a x).1 σ') : U_X0_chance σ x K := by
  have hb := ha.ib
  have hc := hb.1
  have hI := ha.1
  unfold sp_chance at hk
  refine co_isAhead h ha (lo := 1) (hi := 100) rfl rfl (by omega) (by omega) (bn_b _ (fun e => ?_) (fun e => ?_))
  · rw [e, if_neg (by decide)] at hk
    exact co_refuses (k := 3) h (by omega) hk
  rw [e, if_pos rfl] at hk
  obtain ⟨q1, ⟨q2, q3⟩, q4⟩ := ahd_ix (by omega) (by omega) e
  generalize ix x = n at q1 q2 q3 q4 hk
  subst q1
  refine co_keeps h ha fun σ1 h1 => ⟨n + 1, ?_⟩
  have lp : ∀ (d g k : Nat) (σ' : CS), n - k = d → d < g → k ≤ n → RC (aSdS (aAct a (spCh a k).2.1) (spCh a k).2.2) σ' → StW (spCh a k).2.1 → (0 ≤ (spCh a k).2.2 ∧ (spCh a k).2.2 < 2147483648) → (spCh a k).2.1.1 0 = (aS a).1 0 + k → (spCh a k).1 ≤ k → U_X0_chance_25 K (nI n) g (nI (spCh a k).1) (nI k) σ' := by
    intro d
    induction d with
    | zero =>
      intro g k σ' hd hg hkn hR hso hsd hday hcat
      obtain ⟨g, rfl⟩ : ∃ f', g = f' + 1 := ⟨g - 1, by omega⟩
      obtain rfl : k = n := by omega
      unfold U_X0_chance_25
      exact br_t (nI_le (by omega) (by omega)) (hk σ' hR)
    | succ d ih =>
      intro g k σ' hd hg hkn hR hso hsd hday hcat
      obtain ⟨g, rfl⟩ : ∃ f', g = f' + 1 := ⟨g - 1, by omega⟩
      unfold U_X0_chance_25
      have nx := ih g (k + 1)
      have es : spCh a (k + 1) = chS (aI a) (spCh a k) := rfl
      rw [es] at nx
      generalize spCh a k = P at hR hso hsd hday hcat nx
      obtain ⟨ct, s, sd⟩ := P
      have hR : RC (aSdS (aAct a s) sd) σ' := hR
      have hday : s.1 0 = (aS a).1 0 + k := hday
      have hcat : ct ≤ k := hcat
      have hsd : 0 ≤ sd ∧ sd < 2147483648 := hsd
      have hso : StW s := hso
      rw [nI_1]
      have day : ∀ (s2 : St) (ct2 : Nat) (sd2 : Int64) (σ2 : CS), chS (aI a) (ct, s, sd) = (ct2, (spDay (aI a) (-1, 0) s2).2, sd2) → s2.1 0 = s.1 0 → ct2 ≤ k + 1 → StW s2 → (0 ≤ sd2 ∧ sd2 < 2147483648) → RC (aSdS (aAct a s2) sd2) σ2 → U_X5_passes σ2 16 (fun _ σ3 => U_X0_chance_25 K (nI n) g (nI ct2) (nI (k + 1)) σ3) := by
        intro s2 ct2 sd2 σ2 e1 e2 e3 hw2 hsd2 h2
        rw [e1] at nx
        have hwd := hw2.day (fr := (-1, 0)) hI
        refine cb_day hI (ha.2.2.2.1 _) (by omega) (ch_dy h2 ha ⟨by omega, hw2⟩) fun σ3 d3 f3 _ => nx σ3 (by omega) (by omega) (by omega) (ch_act h2 f3 d3 rfl) hwd.1 hsd2 ?_ e3
        show (spDay (aI a) (-1, 0) s2).2.1 0 = _
        rw [hwd.2]; omega
      have hl := lcg_bd hsd
      have hl2 := lcg_bd hl
      refine br_f (nI_ge (by omega) (by omega)) (co_draw (m := 100) rfl hR (by omega) (by omega) fun σ2 h2 => ?_)
      have his := h2.2.2.2.1
      rw [aAct_aI] at his
      obtain ⟨t0, w1, w2, w3⟩ := cb_lw his
      have w4 : gI σ2 t0 1 = nI (iX (aI a) 40) := w3.2.2.2.2.2
      refine ⟨t0, w1, w2, ?_⟩
      rw [w4]
      by_cases c1 : drL (lcgL sd) 100 < nI (iX (aI a) 40)
      · refine br_f (fun z => absurd c1 (Int32.not_lt.mpr z)) (cb_things his ?_)
        by_cases c2 : 0 < iC (aI a) 0
        · refine br_f (show ¬ nI (iC (aI a) 0) ≤ nI 0 from nI_ge c2 (by omega)) (cb_things his (co_draw (m := iC (aI a) 0) rfl h2 c2 (by omega) fun σ3 h3 => ?_))
          obtain ⟨t1, t2⟩ := drL_bd hl2 (m := iC (aI a) 0) c2 (by omega)
          have ech : chS (aI a) (ct, s, sd) = (ct + 1, (spDay (aI a) (-1, 0) (if s.1 (1 + 5 * ix (drL (lcgL (lcgL sd)) (nI (iC (aI a) 0)))) = 1 then s else spBreak s (ix (drL (lcgL (lcgL sd)) (nI (iC (aI a) 0)))))).2, lcgL (lcgL sd)) := by
            unfold chS; rw [if_pos ⟨c1, c2⟩]
          generalize ix (drL (lcgL (lcgL sd)) (nI (iC (aI a) 0))) = t at t1 t2 ech
          rw [t1, nI_clamp (by omega)]
          have d3 := ch_dy h3 ha ⟨by omega, hso⟩
          obtain ⟨i1, -⟩ := d3.2.1.1.2 t (by omega)
          have bt := (hso.1 t (by omega)).1
          rw [show gI σ3 17 t = _ from i1]
          refine ⟨vi_ (by omega) (by omega), ?_⟩
          unfold U_X0_chance_86
          rw [nI_1, nI_1]
          by_cases c3 : s.1 (1 + 5 * t) = 1
          · rw [if_pos c3] at ech
            exact br_t (by rw [c3]; rfl) (day s (ct + 1) _ σ3 ech rfl (by omega) hso hl2 h3)
          · rw [if_neg c3] at ech
            refine br_f (fun z => c3 ((nI_eq (b := 1) (by omega) (by omega)).mp z)) (cb_breaks d3 (by omega) fun σ4 f4 d4 _ _ => day (spBreak s t) (ct + 1) _ σ4 ech (brk_day ..) (by omega) (hso.brk (by omega)) hl2 (ch_act h3 f4 d4 rfl))
        · have ech : chS (aI a) (ct, s, sd) = (ct, (spDay (aI a) (-1, 0) s).2, lcgL sd) := by
            unfold chS; rw [if_neg (fun z => c2 z.2)]
          exact br_t (show nI (iC (aI a) 0) ≤ nI 0 from nI_le (by omega) (by omega)) (day s ct _ σ2 ech rfl (by omega) hso hl h2)
      · have ech : chS (aI a) (ct, s, sd) = (ct, (spDay (aI a) (-1, 0) s).2, lcgL sd) := by
          unfold chS; rw [if_neg (fun z => c1 z.1)]
        exact br_t (Int32.not_lt.mp c1) (day s ct _ σ2 ech rfl (by omega) hso hl h2)
  refine lp n _ 0 σ1 rfl (by omega) (by omega) ?_ ha.2.1.w ha.2.2.2.2 rfl (Nat.le_refl _)
  exact h1
end CHo
