/-! PURE SIDE: chance; the model's. -/
def lcgL (v : Int64) : Int64 := ((1103515245 * v) + 12345) - ((1103515245 * v) + 12345) / 2147483648 * 2147483648
def drL (v : Int64) (m : Int32) : Int32 := Int64.toInt32 ((v / 64) - (v / 64) / (Int32.toInt64 m) * (Int32.toInt64 m))
def chS (I : Isl) (p : Nat × St × Int64) : Nat × St × Int64 :=
  if drL (lcgL p.2.2) 100 < nI (iX I 40) ∧ 0 < iC I 0 then
    (p.1 + 1, (spDay I (-1, 0) (if p.2.1.1 (1 + 5 * ix (drL (lcgL (lcgL p.2.2)) (nI (iC I 0)))) = 1 then p.2.1 else spBreak p.2.1 (ix (drL (lcgL (lcgL p.2.2)) (nI (iC I 0)))))).2, lcgL (lcgL p.2.2))
  else (p.1, (spDay I (-1, 0) p.2.1).2, lcgL p.2.2)
def spCh (a : AS) (n : Nat) : Nat × St × Int64 := lpN (fun _ => chS (aI a)) n (0, aS a, aSd a)
def aSdS (a : AS) (v : Int64) : AS := (aTp a, aTn a, aFk a, aFp a, aRf a, aI a, aS a, aU a, v, aOu a, aOn a)
def sp_chance (a : AS) (x : Int32) : Int32 × AS := if ahd ((aS a).1 0) x 1 100 then (nI (spCh a (ix x)).1, aSdS (aAct a (spCh a (ix x)).2.1) (spCh a (ix x)).2.2) else (-1, aRef a 3)
section TCh
theorem aSd_S (a : AS) (v : Int64) : aSd (aSdS a v) = v := rfl
theorem aSdS_S (a : AS) (v w : Int64) : aSdS (aSdS a v) w = aSdS a w := rfl
variable {a : AS} {τ τ' : Sto} {K : Int32 → Sto → Prop}
theorem mod64 {x c : Int64} (hx : 0 ≤ x.toInt) (hc : 0 < c.toInt) : (x - x / c * c).toInt = x.toInt % c.toInt := by
  have hb := Int64.toInt_lt x
  have h1 : 0 ≤ x.toInt / c.toInt := Int.ediv_nonneg hx (by omega)
  have h2 : x.toInt / c.toInt ≤ x.toInt := Int.ediv_le_self _ hx
  have h3 : x.toInt / c.toInt * c.toInt ≤ x.toInt := Int.ediv_mul_le _ (by omega)
  have h4 : 0 ≤ x.toInt / c.toInt * c.toInt := Int.mul_nonneg h1 (by omega)
  have h5 := Int.emod_def x.toInt c.toInt
  rw [Int.mul_comm] at h5
  rw [Int64.toInt_sub, Int64.toInt_mul, Int64.toInt_div, Int.tdiv_eq_ediv_of_nonneg hx, bm64 (x := x.toInt / c.toInt) (by omega) (by omega), bm64 (x := x.toInt / c.toInt * c.toInt) (by omega) (by omega), bm64 (by omega) (by omega)]
  omega
theorem lcg_bd {v : Int64} (h : 0 ≤ v ∧ v < 2147483648) : 0 ≤ lcgL v ∧ lcgL v < 2147483648 := by
  obtain ⟨h1, h2⟩ := h
  rw [Int64.le_iff_toInt_le, show (0 : Int64).toInt = 0 from rfl] at h1
  rw [Int64.lt_iff_toInt_lt, show (2147483648 : Int64).toInt = 2147483648 from rfl] at h2
  have e : (1103515245 * v + 12345).toInt = 1103515245 * v.toInt + 12345 := by
    rw [Int64.toInt_add, Int64.toInt_mul, show (1103515245 : Int64).toInt = 1103515245 from rfl, show (12345 : Int64).toInt = 12345 from rfl, bm64 (x := 1103515245 * v.toInt) (by omega) (by omega), bm64 (by omega) (by omega)]
  have : (lcgL v).toInt = (1103515245 * v.toInt + 12345) % 2147483648 := by
    unfold lcgL
    rw [mod64 (by rw [e]; omega) (by decide), e]; rfl
  rw [Int64.le_iff_toInt_le, Int64.lt_iff_toInt_lt, this, show (0 : Int64).toInt = 0 from rfl, show (2147483648 : Int64).toInt = 2147483648 from rfl]
  omega
theorem drL_bd {v : Int64} (h : 0 ≤ v ∧ v < 2147483648) {m : Nat} (hm : 0 < m) (hm2 : m ≤ 100) : drL v (nI m) = nI (ix (drL v (nI m))) ∧ ix (drL v (nI m)) < m := by
  obtain ⟨h1, h2⟩ := h
  rw [Int64.le_iff_toInt_le, show (0 : Int64).toInt = 0 from rfl] at h1
  rw [Int64.lt_iff_toInt_lt, show (2147483648 : Int64).toInt = 2147483648 from rfl] at h2
  have e : (v / 64).toInt = v.toInt / 64 := by
    rw [Int64.toInt_div, Int.tdiv_eq_ediv_of_nonneg h1, show (64 : Int64).toInt = 64 from rfl, bm64 (by omega) (by omega)]
  have em : (nI m).toInt64.toInt = m := by rw [Int32.toInt_toInt64, nI_toInt (by omega)]
  have h3 : (drL v (nI m)).toInt = (v.toInt / 64) % m := by
    unfold drL
    rw [Int64.toInt_toInt32, mod64 (by rw [e]; omega) (by rw [em]; omega), e, em]
    have b1 := Int.emod_nonneg (v.toInt / 64) (b := (m : Int)) (by omega)
    have b2 := Int.emod_lt_of_pos (v.toInt / 64) (b := (m : Int)) (by omega)
    apply Int.bmod_eq_of_le <;> omega
  have b1 := Int.emod_nonneg (v.toInt / 64) (b := (m : Int)) (by omega)
  have b2 := Int.emod_lt_of_pos (v.toInt / 64) (b := (m : Int)) (by omega)
  exact inR_ix (n := m) (by unfold inR; rw [h3, decide_eq_true_eq]; omega) (by omega)
theorem RT.sdS (h : RT a τ) {v : Int64} (hv : 0 ≤ v ∧ v < 2147483648) : RT (aSdS a v) (sL τ 0 67 v) := by
  obtain ⟨h1, h2, h3, ⟨d1, d2, d3⟩, h5, h6, -, h8, h9⟩ := h
  exact ⟨h1, h2, h3, ⟨d1, d2.congr (fun _ _ _ => rfl) (fun j => sL_ne (by omega)), d3⟩, h5, h6, ⟨sL_same .., hv⟩, h8, h9⟩
theorem T_drawOf_law {m : Nat} {x : Int32} (ex : x = nI m) (h : RT a τ) (hm : 0 < m) (hm2 : m ≤ 100) (hk : ∀ τ', RT (aSdS a (lcgL (aSd a))) τ' → K (drL (lcgL (aSd a)) (nI m)) τ') : T_drawOf τ x K := by
  subst ex
  obtain ⟨g1, g2⟩ := h.2.2.2.2.2.2.1
  have hk1 := hk _ (h.sdS (lcg_bd g2))
  unfold T_drawOf
  rw [g1]
  refine st_ ⟨?_, ?_⟩
  · intro z
    have := congrArg Int64.toInt z
    rw [Int32.toInt_toInt64, nI_toInt (by omega)] at this
    have : (m : Int) = 0 := this
    omega
  · rw [sL_same]; exact hk1
theorem T_drawS_law {b : AS} {sd : Int64} {m : Nat} {x : Int32} (ex : x = nI m) (h : RT (aSdS b sd) τ) (hm : 0 < m) (hm2 : m ≤ 100) (hk : ∀ τ', RT (aSdS b (lcgL sd)) τ' → K (drL (lcgL sd) x) τ') : T_drawOf τ x K := by
  subst ex
  refine T_drawOf_law rfl h hm hm2 (fun τ' h' => ?_)
  rw [aSd_S, aSdS_S] at h'
  rw [aSd_S]
  exact hk τ' h'
theorem aAct_aS (a : AS) (s : St) (v : Int64) : aS (aSdS (aAct a s) v) = s := rfl
theorem aAct_aI (a : AS) (s : St) (v : Int64) : aI (aSdS (aAct a s) v) = aI a := rfl
theorem aAct_set (a : AS) (s s2 : St) (v : Int64) : aSetS (aSdS (aAct a s) v) s2 (aU (aSdS (aAct a s) v)) = aSdS (aAct a s2) v := rfl
theorem ch_dayL {s : St} {sd : Int64} {K : Sto → Prop} (h : RT (aSdS (aAct a s) sd) τ) (hd : s.1 0 < 999) (hk : ∀ τ', RT (aSdS (aAct a (spDay (aI a) (-1, 0) s).2) sd) τ' → K τ') : T_dayGoes τ K := by
  have hso := h.2.2.2.2.1.1
  have hdc := h.dc
  have hI := h.ev.1
  rw [aAct_aS] at hso hdc
  rw [aAct_aI] at hdc hI
  have hwd := hso.w.day (fr := (-1, 0)) hI
  refine T_dayGoes_law hdc (by omega) fun τ3 d3 f3 _ _ => hk τ3 ?_
  have := h.day (s := (spDay (aI a) (-1, 0) s).2) ⟨by rw [hwd.2]; omega, hwd.1⟩ (by rw [aAct_aI]; exact d3) f3
  rw [aAct_set] at this
  exact this
theorem ch_brkL {s : St} {sd : Int64} {t : Nat} {K : Sto → Prop} (h : RT (aSdS (aAct a s) sd) τ) (ht : t < 8) (hk : ∀ τ', RT (aSdS (aAct a (spBreak s t)) sd) τ' → K τ') : T_isBreaking τ (nI t) K := by
  have hso := h.2.2.2.2.1.1
  have hdc := h.dc
  rw [aAct_aS] at hso hdc
  rw [aAct_aI] at hdc
  refine T_isBreaking_law hdc ht fun τ3 d3 f3 _ => hk τ3 ?_
  have := h.day (s := spBreak s t) ⟨by rw [brk_day]; exact hso.1, hso.w.brk ht⟩ (by rw [aAct_aI]; exact d3) (FrD.ofK f3)
  rw [aAct_set] at this
  exact this
theorem T_chance_law {x : Int32} (h : RT a τ) (hk : ∀ τ', RT (sp_chance a x).2 τ' → K (sp_chance a x).1 τ') : T_chance τ x K := by
  have hs1 := h.2.2.2.2.1.1
  have hI := h.ev.1
  have hc := h.ev.c
  unfold sp_chance at hk
  refine T_isAhead_law h.ev (lo := 1) (hi := 100) rfl rfl (by omega) (by omega) ?_
  cases e : ahd ((aS a).1 0) x 1 100 with
  | false =>
    rw [e, if_neg (by decide)] at hk
    exact bn_f rfl (T_refuses_law (k := 3) rfl (by omega) h hk)
  | true =>
    rw [e, if_pos rfl] at hk
    unfold ahd inR at e
    rw [Bool.and_eq_true, decide_eq_true_eq, decide_eq_true_eq] at e
    obtain ⟨q1, q2⟩ := inR_ix (x := x) (n := 101) (by unfold inR; rw [decide_eq_true_eq]; omega) (by omega)
    have q3 : (aS a).1 0 + ix x ≤ 999 := by unfold ix; omega
    generalize ix x = n at q1 q2 q3 hk
    subst q1
    refine bn_t (by decide) (T_keeps_law h fun τ1 h1 => ⟨n + 1, ?_⟩)
    have lp : ∀ (d g k : Nat) (τ' : Sto), n - k = d → d < g → k ≤ n → RT (aSdS (aAct a (spCh a k).2.1) (spCh a k).2.2) τ' → (spCh a k).2.1.1 0 = (aS a).1 0 + k → (spCh a k).1 ≤ k → T_chance_25 K (nI n) g (nI (spCh a k).1) (nI k) τ' := by
      intro d
      induction d with
      | zero =>
        intro g k τ' hd hg hkn hR hday hcat
        obtain ⟨g, rfl⟩ : ∃ f', g = f' + 1 := ⟨g - 1, by omega⟩
        obtain rfl : k = n := by omega
        unfold T_chance_25
        exact br_t (nI_le (by omega) (by omega)) (hk τ' hR)
      | succ d ih =>
        intro g k τ' hd hg hkn hR hday hcat
        obtain ⟨g, rfl⟩ : ∃ f', g = f' + 1 := ⟨g - 1, by omega⟩
        unfold T_chance_25
        have nx := ih g (k + 1)
        have es : spCh a (k + 1) = chS (aI a) (spCh a k) := rfl
        rw [es] at nx
        generalize spCh a k = P at hR hday hcat nx
        obtain ⟨ct, s, sd⟩ := P
        have hR : RT (aSdS (aAct a s) sd) τ' := hR
        have hday : s.1 0 = (aS a).1 0 + k := hday
        have hcat : ct ≤ k := hcat
        have hsd : 0 ≤ sd ∧ sd < 2147483648 := hR.2.2.2.2.2.2.1.2
        have hso : StOK s := hR.2.2.2.2.1.1
        rw [nI_1, nI_1]
        have hE := hR.ev
        have day : ∀ (s2 : St) (ct2 : Nat) (sd2 : Int64) (τ2 : Sto), chS (aI a) (ct, s, sd) = (ct2, (spDay (aI a) (-1, 0) s2).2, sd2) → s2.1 0 = s.1 0 → ct2 ≤ k + 1 → StW s2 → RT (aSdS (aAct a s2) sd2) τ2 → T_dayGoes τ2 (fun τ3 => T_chance_25 K (nI n) g (nI ct2) (nI (k + 1)) τ3) := by
          intro s2 ct2 sd2 τ2 e1 e2 e3 hw2 h2
          rw [e1] at nx
          refine ch_dayL h2 (by omega) fun τ3 h3 => nx τ3 (by omega) (by omega) (by omega) h3 ?_ e3
          have hwd := hw2.day (fr := (-1, 0)) hI
          show (spDay (aI a) (-1, 0) s2).2.1 0 = _
          rw [hwd.2]; omega
        have hl := lcg_bd hsd
        have hl2 := lcg_bd hl
        refine br_f (nI_ge (by omega) (by omega)) (T_drawS_law (m := 100) rfl hR (by omega) (by omega) fun τ2 h2 => ?_)
        have h44 := h2.2.2.2.1.2.2
        have hE2 := h2.ev
        rw [aAct_aI] at h44 hE2
        rw [aAct_aS] at hE2
        rw [h44]
        by_cases c1 : drL (lcgL sd) 100 < nI (iX (aI a) 40)
        · refine br_f (fun z => absurd c1 (Int32.not_lt.mpr z)) (T_thingMany_law hE2 ?_)
          by_cases c2 : 0 < iC (aI a) 0
          · refine br_f (show ¬ nI (iC (aI a) 0) ≤ nI 0 from nI_ge c2 (by omega)) (T_thingMany_law hE2 (T_drawS_law (m := iC (aI a) 0) rfl h2 c2 (by omega) fun τ3 h3 => ?_))
            have hE3 := h3.ev
            rw [aAct_aI, aAct_aS] at hE3
            obtain ⟨t1, t2⟩ := drL_bd hl2 (m := iC (aI a) 0) c2 (by omega)
            have ech : chS (aI a) (ct, s, sd) = (ct + 1, (spDay (aI a) (-1, 0) (if s.1 (1 + 5 * ix (drL (lcgL (lcgL sd)) (nI (iC (aI a) 0)))) = 1 then s else spBreak s (ix (drL (lcgL (lcgL sd)) (nI (iC (aI a) 0)))))).2, lcgL (lcgL sd)) := by
              unfold chS; rw [if_pos ⟨c1, c2⟩]
            generalize ix (drL (lcgL (lcgL sd)) (nI (iC (aI a) 0))) = t at t1 t2 ech
            rw [t1]
            refine T_isBroken_law hE3 (by omega) ?_
            by_cases c3 : s.1 (1 + 5 * t) = 1
            · rw [if_pos c3] at ech
              rw [decide_eq_true c3]
              exact bn_t (by decide) (day s (ct + 1) _ τ3 ech rfl (by omega) hso.w h3)
            · rw [if_neg c3] at ech
              rw [decide_eq_false c3]
              exact bn_f rfl (ch_brkL h3 (by omega) fun τ4 h4 => day (spBreak s t) (ct + 1) _ τ4 ech (brk_day ..) (by omega) (hso.w.brk (by omega)) h4)
          · have ech : chS (aI a) (ct, s, sd) = (ct, (spDay (aI a) (-1, 0) s).2, lcgL sd) := by
              unfold chS; rw [if_neg (fun z => c2 z.2)]
            exact br_t (show nI (iC (aI a) 0) ≤ nI 0 from nI_le (by omega) (by omega)) (day s ct _ τ2 ech rfl (by omega) hso.w h2)
        · have ech : chS (aI a) (ct, s, sd) = (ct, (spDay (aI a) (-1, 0) s).2, lcgL sd) := by
            unfold chS; rw [if_neg (fun z => c1 z.1)]
          exact br_t (Int32.not_lt.mp c1) (day s ct _ τ2 ech rfl (by omega) hso.w h2)
    refine lp n _ 0 τ1 rfl (by omega) (by omega) ?_ rfl (Nat.le_refl _)
    exact h1
end TCh
