/-! PURE SIDE: strike, mend, forge, days, chance; the model's. -/
def ahd (d : Nat) (x : Int32) (lo hi : Int) : Bool := inR x lo hi && decide ((d : Int) + x.toInt ≤ 999)
def aAct (a : AS) (s : St) : AS := aSetS (aKeep a) s (aU (aKeep a))
def sp_strike (a : AS) (x : Int32) : Int32 × AS := if isTh a x && decide ((aS a).1 (1 + 5 * ix x) ≠ 1) then (1, aAct a (spBreak (aS a) (ix x))) else (0, aRef a 2)
def sp_mend (a : AS) (x y : Int32) : Int32 × AS := if isTh a x && (isMe a y && decide ((aS a).1 (1 + 5 * ix x) = 1)) then (nI ((spMend (aI a) (-1, 0) (aS a) (ix x) (ix y)).1 (4 + 5 * ix x)), aAct a (spMend (aI a) (-1, 0) (aS a) (ix x) (ix y))) else (-1, aRef a 2)
def foS (s : Nat → Nat) (t : Nat) : Nat → Nat := fu_ (fu_ (fu_ s (1 + 5 * t) 2) (4 + 5 * t) 50) (5 + 5 * t) 1
def sp_forge (a : AS) (x : Int32) : Int32 × AS := if isTh a x && decide ((aS a).1 (1 + 5 * ix x) = 0) then (1, aAct a (foS (aS a).1 (ix x), (aS a).2)) else (0, aRef a 2)
def spDays (I : Isl) (fr : Int32 × Int32) (n : Nat) (s : St) : Nat × St := lpN (fun _ p => (p.1 + bcN (spDay I fr p.2).1, (spDay I fr p.2).2)) n (0, s)
def sp_days (a : AS) (x : Int32) : Int32 × AS := if ahd ((aS a).1 0) x 1 100 then (nI (spDays (aI a) (-1, 0) (ix x) (aS a)).1, aAct a (spDays (aI a) (-1, 0) (ix x) (aS a)).2) else (-1, aRef a 3)
section TA2
variable {a : AS} {τ τ' : Sto} {K : Int32 → Sto → Prop} {I : Isl} {fr : Int32 × Int32} {th : Bool}
theorem T_isAhead_law {s : Nat → Nat} {x x2 x3 : Int32} {lo hi : Int} (h : EvC I fr s τ) (h2 : x2.toInt = lo) (h3 : x3.toInt = hi) (hlo : 0 ≤ lo) (hhi : hi ≤ 1000) (hk : K (b1 (ahd (s 0) x lo hi)) τ) : T_isAhead τ x x2 x3 K := by
  have hd := h.2.2.2.1.1
  unfold ahd at hk
  refine T_isInI (lo := lo) (hi := hi) (by rw [Int32.toInt_toInt64]; exact h2) (by rw [Int32.toInt_toInt64]; exact h3) ?_
  cases e : inR x lo hi with
  | false => rw [e, Bool.false_and] at hk; exact br_t rfl hk
  | true =>
    rw [e, Bool.true_and] at hk
    unfold inR at e
    rw [decide_eq_true_eq] at e
    refine br_f (by decide) ⟨vi_ (i := 0) (by omega) (by omega), ?_⟩
    rw [show τ.1 52 (Int32.toNatClampNeg 0) = nI (s 0) from h.st_ (i := 0) (by omega)]
    have hs : (nI (s 0) + x).toInt = (s 0 : Int) + x.toInt := by
      rw [Int32.toInt_add, nI_toInt (by omega), Int.bmod_eq_of_le_mul_two (by omega) (by omega)]
    by_cases c : (s 0 : Int) + x.toInt ≤ 999
    · rw [decide_eq_true c] at hk
      refine br_f ?_ hk
      rw [Int32.lt_iff_toInt_lt, hs]; show ¬ (999 : Int) < _; omega
    · rw [decide_eq_false c] at hk
      refine br_t ?_ hk
      rw [Int32.lt_iff_toInt_lt, hs]; show (999 : Int) < _; omega
theorem T_isRefused_law (h : RT a τ) (hk : ∀ τ', RT (aRef a 2) τ' → K 0 τ') : T_isRefused τ K := ⟨vi_ (i := 2) (by omega) (by omega), vi_ (i := 2) (by omega) (by omega), st_ (hk _ (h.ref (k := 2) (by omega)))⟩
theorem T_refuses_law {k : Nat} {x : Int32} (e : x = nI k) (hk6 : k < 6) (h : RT a τ) (hk : ∀ τ', RT (aRef a k) τ' → K (-1) τ') : T_refuses τ x K := by
  subst e
  unfold T_refuses
  rw [nI_clamp (by omega)]
  exact ⟨vi_ hk6 (by omega), vi_ hk6 (by omega), st_ (hk _ (h.ref hk6))⟩
theorem T_isBroken_law {s : Nat → Nat} {t : Nat} (h : EvC I fr s τ) (ht : t < 8) (hk : K (b1 (decide (s (1 + 5 * t) = 1))) τ) : T_isBroken τ (nI t) K := by
  have hb := h.2.2.2.1.2.1 (1 + 5 * t) (by omega) (by omega)
  refine T_stateOf_law h ht ?_
  by_cases e : s (1 + 5 * t) = 1
  · rw [decide_eq_true e] at hk; exact bn_f (by rw [e]; rfl) hk
  · rw [decide_eq_false e] at hk; exact bn_t (fun z => e ((nI_eq (b := 1) (by omega) (by omega)).mp z)) hk
theorem T_strike_law {x : Int32} (h : RT a τ) (hk : ∀ τ', RT (sp_strike a x).2 τ' → K (sp_strike a x).1 τ') : T_strike τ x K := by
  have hc := h.ev.c
  have hs1 := h.2.2.2.2.1.1
  unfold sp_strike isTh at hk
  refine T_isThing_law h ?_
  cases e : inR x 0 ((iC (aI a) 0 : Int) - 1) with
  | false => rw [e] at hk; exact br_t rfl (T_isRefused_law h fun τ' h' => ⟨Or.inl rfl, hk τ' h'⟩)
  | true =>
    rw [e, Bool.true_and] at hk
    obtain ⟨q1, q2⟩ := inR_ix e (by omega)
    refine br_f (by decide) ?_
    generalize ix x = t at q1 q2 hk
    subst q1
    refine T_isBroken_law h.ev (by omega) ?_
    by_cases c : (aS a).1 (1 + 5 * t) = 1
    · rw [decide_eq_false (by simpa using c), if_neg (by decide)] at hk
      rw [decide_eq_true c]
      exact br_f (by decide) (T_isRefused_law h fun τ' h' => ⟨Or.inl rfl, hk τ' h'⟩)
    · rw [decide_eq_true (by simpa using c), if_pos rfl] at hk
      rw [decide_eq_false c]
      refine br_t rfl (T_keeps_law h fun τ1 h1 => T_isBreaking_law h1.dc (by omega) fun τ2 d2 f2 _ => hk τ2 (h1.day ⟨?_, (hs1.w.brk (by omega))⟩ d2 (FrD.ofK f2)))
      show (spBreak (aS a) t).1 0 ≤ 999
      rw [brk_day]; exact hs1.1
theorem T_mend_law {x y : Int32} (h : RT a τ) (hk : ∀ τ', RT (sp_mend a x y).2 τ' → K (sp_mend a x y).1 τ') : T_mend τ x y K := by
  have hc := h.ev.c
  have hs1 := h.2.2.2.2.1.1
  unfold sp_mend isTh isMe at hk
  refine T_isThing_law h ?_
  cases e : inR x 0 ((iC (aI a) 0 : Int) - 1) with
  | false => rw [e] at hk; exact br_t rfl (T_refuses_law (k := 2) rfl (by omega) h hk)
  | true =>
    rw [e, Bool.true_and] at hk
    obtain ⟨q1, q2⟩ := inR_ix e (by omega)
    refine br_f (by decide) (T_isMender_law h ?_)
    cases e2 : inR y 0 ((iC (aI a) 1 : Int) - 1) with
    | false => rw [e2] at hk; exact br_t rfl (T_refuses_law (k := 2) rfl (by omega) h hk)
    | true =>
      rw [e2, Bool.true_and] at hk
      obtain ⟨p1, p2⟩ := inR_ix e2 (by omega)
      refine br_f (by decide) ?_
      generalize ix x = t at q1 q2 hk
      generalize ix y = m at p1 p2 hk
      subst q1 p1
      refine T_isBroken_law h.ev (by omega) ?_
      by_cases c : (aS a).1 (1 + 5 * t) = 1
      · rw [decide_eq_true c, if_pos rfl] at hk
        rw [decide_eq_true c]
        refine bn_t (by decide) (T_keeps_law h fun τ1 h1 => T_isMending_law h1.dc q2 p2 fun τ2 d2 f2 _ => T_glueOf_law d2.1 (by omega) ?_)
        refine hk τ2 (h1.day ⟨?_, hs1.w.mnd h.ev.1 (by omega) p2⟩ d2 (FrD.ofK f2))
        show (spMend (aI a) (-1, 0) (aS a) t m).1 0 ≤ 999
        rw [mnd_day]; exact hs1.1
      · rw [decide_eq_false c, if_neg (by decide)] at hk
        rw [decide_eq_false c]
        exact bn_f rfl (T_refuses_law (k := 2) rfl (by omega) h hk)
theorem foS_bd {s : Nat → Nat} {t : Nat} (h : bdS s) (ht : t < 8) : bdS (foS s t) := by
  obtain ⟨h1, h2, h3⟩ := h
  unfold foS
  refine ⟨?_, fun i hi0 hi => ?_, fun u hu => ?_⟩
  · rw [fu_ne (by omega), fu_ne (by omega), fu_ne (by omega)]; exact h1
  · by_cases a : i = 5 + 5 * t
    · subst a; rw [fu_same]; omega
    · rw [fu_ne a]
      by_cases b : i = 4 + 5 * t
      · subst b; rw [fu_same]; omega
      · rw [fu_ne b]
        by_cases c : i = 1 + 5 * t
        · subst c; rw [fu_same]; omega
        · rw [fu_ne c]; exact h2 i hi0 hi
  · by_cases a : 5 + 5 * u = 5 + 5 * t
    · rw [a, fu_same]; omega
    · rw [fu_ne a, fu_ne (by omega), fu_ne (by omega)]; exact h3 u hu
theorem foS_ok {s : St} {t : Nat} (h : StOK s) (ht : t < 8) : StOK (foS s.1 t, s.2) := by
  obtain ⟨h1, h2, h3⟩ := h
  refine ⟨?_, fun u hu => ?_, h3⟩
  · show foS s.1 t 0 ≤ 999; unfold foS; rw [fu_ne (by omega), fu_ne (by omega), fu_ne (by omega)]; exact h1
  · have hu' := h2 u hu
    show foS s.1 t (1 + 5 * u) ≤ 2 ∧ foS s.1 t (2 + 5 * u) ≤ 99 ∧ foS s.1 t (3 + 5 * u) ≤ 99 ∧ foS s.1 t (4 + 5 * u) ≤ 99 ∧ foS s.1 t (5 + 5 * u) ≤ 1
    unfold foS
    by_cases e : u = t
    · subst e
      rw [fu_ne (by omega), fu_ne (by omega), fu_same, fu_ne (by omega), fu_ne (by omega), fu_ne (by omega), fu_ne (by omega), fu_ne (by omega), fu_ne (by omega), fu_ne (by omega), fu_same, fu_same]
      omega
    · rw [fu_ne (by omega), fu_ne (by omega), fu_ne (by omega), fu_ne (by omega), fu_ne (by omega), fu_ne (by omega), fu_ne (by omega), fu_ne (by omega), fu_ne (by omega), fu_ne (by omega), fu_ne (by omega), fu_ne (by omega), fu_ne (by omega), fu_ne (by omega), fu_ne (by omega)]
      exact hu'
theorem T_forge_law {x : Int32} (h : RT a τ) (hk : ∀ τ', RT (sp_forge a x).2 τ' → K (sp_forge a x).1 τ') : T_forge τ x K := by
  have hc := h.ev.c
  have hs1 := h.2.2.2.2.1.1
  unfold sp_forge isTh at hk
  refine T_isThing_law h ?_
  cases e : inR x 0 ((iC (aI a) 0 : Int) - 1) with
  | false => rw [e] at hk; exact br_t rfl (T_isRefused_law h fun τ' h' => ⟨Or.inl rfl, hk τ' h'⟩)
  | true =>
    rw [e, Bool.true_and] at hk
    obtain ⟨q1, q2⟩ := inR_ix e (by omega)
    refine br_f (by decide) ?_
    generalize ix x = t at q1 q2 hk
    subst q1
    have hb := h.ev.2.2.2.1.2.1 (1 + 5 * t) (by omega) (by omega)
    refine T_stateOf_law h.ev (by omega) ?_
    by_cases c : (aS a).1 (1 + 5 * t) = 0
    · rw [decide_eq_true c, if_pos rfl] at hk
      refine br_t (by rw [c]; rfl) (T_keeps_law h fun τ1 h1 => ?_)
      rw [show (1 : Int32) + 5 * nI t = nI (1 + 5 * t) from i5 t 1, show (4 : Int32) + 5 * nI t = nI (4 + 5 * t) from i5 t 4, show (5 : Int32) + 5 * nI t = nI (5 + 5 * t) from i5 t 5, nI_clamp (by omega), nI_clamp (by omega), nI_clamp (by omega)]
      refine ⟨vi_ (by omega) (by omega), st_ ⟨vi_ (by omega) (by omega), st_ ⟨vi_ (by omega) (by omega), st_ ?_⟩⟩⟩
      have f : FrK true τ1 (sI (sI (sI τ1 52 (1 + 5 * t) 2) 52 (4 + 5 * t) 50) 52 (5 + 5 * t) 1) := (((FrK.refl _ τ1).w (Or.inl (by omega))).w (Or.inl (by omega))).w (Or.inl (by omega))
      refine hk _ (h1.day (foS_ok hs1 (by omega)) (h1.dc.num f (fun i hi => ?_) (foS_bd h1.ev.2.2.2.1 (by omega))) (FrD.ofK f.up))
      show _ = nI (foS (aS a).1 t i)
      unfold foS
      by_cases c5 : i = 5 + 5 * t
      · subst c5; rw [sI_same, fu_same]; rfl
      rw [sI_ne (by omega), fu_ne c5]
      by_cases c4 : i = 4 + 5 * t
      · subst c4; rw [sI_same, fu_same]; rfl
      rw [sI_ne (by omega), fu_ne c4]
      by_cases c1 : i = 1 + 5 * t
      · subst c1; rw [sI_same, fu_same]; rfl
      rw [sI_ne (by omega), fu_ne c1]
      exact h1.ev.st_ hi
    · rw [decide_eq_false c, if_neg (by decide)] at hk
      exact br_f (fun z => c ((nI_eq (b := 0) (by omega) (by omega)).mp z)) (T_isRefused_law h fun τ' h' => ⟨Or.inl rfl, hk τ' h'⟩)
theorem spDays_inv (hI : IslOK I) {s : St} (h : StW s) : ∀ n, StW (spDays I fr n s).2 ∧ (spDays I fr n s).2.1 0 = s.1 0 + n
  | 0 => ⟨h, rfl⟩
  | n + 1 => by
    obtain ⟨h1, h2⟩ := spDays_inv hI h n
    obtain ⟨h3, h4⟩ := h1.day (fr := fr) hI
    refine ⟨h3, ?_⟩
    show (spDay I fr (spDays I fr n s).2).2.1 0 = _
    rw [h4, h2]; omega
theorem T_daysGo_law {K : Sto → Prop} {s : St} {n : Nat} (h : DC I fr th s τ) (hw : StW s) (hn : n ≤ 100) (hd : s.1 0 ≤ 2000)
    (hk : ∀ τ', DC I fr th (spDays I fr n s).2 τ' → FrD th τ τ' → τ'.1 0 58 = τ.1 0 58 + nI (spDays I fr n s).1 → K τ') : T_daysGo τ (nI n) K := by
  refine ⟨n + 1, ?_⟩
  have lp : ∀ (d f k : Nat) (τ' : Sto), n - k = d → d < f → k ≤ n → DC I fr th (spDays I fr k s).2 τ' → FrD th τ τ' → τ'.1 0 58 = τ.1 0 58 + nI (spDays I fr k s).1 → T_daysGo_2 K (nI n) f (nI k) τ' := by
    intro d
    induction d with
    | zero =>
      intro f k τ' hd hf hk' d1 f1 e1
      obtain ⟨f, rfl⟩ : ∃ f', f = f' + 1 := ⟨f - 1, by omega⟩
      obtain rfl : k = n := by omega
      unfold T_daysGo_2
      exact br_t (nI_le (Nat.le_refl _) (by omega)) (hk τ' d1 f1 e1)
    | succ d ih =>
      intro f k τ' hd' hf hk' d1 f1 e1
      obtain ⟨f, rfl⟩ : ∃ f', f = f' + 1 := ⟨f - 1, by omega⟩
      have hiv := spDays_inv (fr := fr) h.1.1 hw k
      unfold T_daysGo_2
      rw [nI_1]
      refine br_f (nI_ge (by omega) (by omega)) (T_dayGoes_law d1 (by omega) fun τ2 d2 f2 _ e2 => ih f (k + 1) τ2 (by omega) (by omega) (by omega) d2 (f1.trans f2) ?_)
      rw [e2, e1, Int32.add_assoc, nI_add]
      rfl
  exact lp n _ 0 τ rfl (by omega) (by omega) h (FrD.refl _ τ) (by show _ = _ + 0; rw [Int32.add_zero])
theorem DC.w58 {s : St} (h : DC I fr th s τ) {v : Int32} : DC I fr th s (sI τ 0 58 v) := by
  obtain ⟨hE, h57, hkp, hrow⟩ := h
  exact ⟨hE.mv (fun a b _ => sI_neI (by omega)) (fun _ => rfl) (sI_ne (by omega)) (sI_ne (by omega)) (fun a ha => by rw [sI_neI (by omega)]; exact hE.st_ ha) hE.2.2.2.1, by rw [sI_ne (by omega)]; exact h57, hkp, fun hth => ⟨by rw [sI_neI (by omega)]; exact (hrow hth).1, fun j hj => by rw [sI_neI (by omega)]; exact (hrow hth).2 j hj⟩⟩
theorem FrD.w58 (h : FrD th τ τ') {v : Int32} : FrD th τ (sI τ' 0 58 v) := ⟨fun a b h1 h2 h3 h4 => by rw [sI_ne (by omega)]; exact h.1 a b h1 h2 h3 h4, h.2⟩
theorem T_days_law {x : Int32} (h : RT a τ) (hk : ∀ τ', RT (sp_days a x).2 τ' → K (sp_days a x).1 τ') : T_days τ x K := by
  have hs1 := h.2.2.2.2.1.1
  unfold sp_days at hk
  refine T_isAhead_law h.ev (lo := 1) (hi := 100) rfl rfl (by omega) (by omega) ?_
  cases e : ahd ((aS a).1 0) x 1 100 with
  | false =>
    rw [e, if_neg (by decide)] at hk
    exact bn_f rfl (T_refuses_law (k := 3) rfl (by omega) h hk)
  | true =>
    rw [e, if_pos rfl] at hk
    unfold ahd inR at e
    rw [Bool.and_eq_true, decide_eq_true_eq, decide_eq_true_eq] at e
    obtain ⟨q1, q2⟩ := inR_ix (x := x) (n := 101) (by unfold inR; rw [decide_eq_true_eq]; omega) (by omega)
    have q3 : (aS a).1 0 + ix x ≤ 999 := by unfold ix; omega
    generalize ix x = n at q1 q2 q3 hk
    subst q1
    refine bn_t (by decide) (T_keeps_law h fun τ1 h1 => st_ (T_daysGo_law h1.dc.w58 hs1.w (by omega) (by have := hs1.1; show (aS a).1 0 ≤ 2000; omega) fun τ2 d2 f2 e2 => ?_))
    have hiv := spDays_inv (fr := (-1, 0)) h.ev.1 hs1.w n
    rw [e2, sI_same, Int32.zero_add]
    exact hk τ2 (h1.day ⟨by show (spDays (aI a) (-1, 0) n (aS a)).2.1 0 ≤ 999; omega, hiv.1⟩ d2 ((FrD.w58 (FrD.refl _ τ1)).trans f2))
end TA2
