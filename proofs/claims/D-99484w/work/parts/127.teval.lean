/-! PURE SIDE, the model: what codes tell. -/
def evE (I : Isl) (fr : Int32 × Int32) (s : Nat → Nat) (t : Nat) (sk : Int32) (lk : Int64 → Int64) : Env :=
  (fun k => if k = 0 then (nI (iX I (3 * t))).toInt64 else if k = 1 then (nI (iX I (3 * t + 1))).toInt64 else if k = 2 then (if nI t = fr.1 then fr.2 else nI (iX I (3 * t + 2))).toInt64
    else if k = 3 then (nI (s (2 + 5 * t))).toInt64 else if k = 4 then (nI (s (3 + 5 * t))).toInt64 else if k = 5 then (nI (s 0)).toInt64 else if k = 6 then (nI (s (4 + 5 * t))).toInt64
    else if k = 7 then sk.toInt64 else if k = 8 then (nI t).toInt64 else (nI (s (5 + 5 * t))).toInt64, lk)
theorem okC_60 {tk : Nat} {x : Int32} (h : okC tk x = true) (c1 : ¬ 1000 ≤ x) (c2 : 60 ≤ x) : tk = 3 := by
  unfold okC at h
  rw [decide_eq_false c1, decide_eq_false (show ¬ x < 60 from Int32.not_lt.mpr c2), decide_eq_false (show ¬ x < 40 from Int32.not_lt.mpr (Int32.le_trans (show (40 : Int32) ≤ 60 by decide) c2)), Bool.false_or, Bool.false_and, Bool.false_or, Bool.false_or, Bool.and_eq_true, decide_eq_true_eq, decide_eq_true_eq] at h
  exact h.2
theorem okC_40 {tk : Nat} {x : Int32} (h : okC tk x = true) (c1 : ¬ 1000 ≤ x) (c2 : ¬ 60 ≤ x) (c3 : 40 ≤ x) : alw tk (x - 40).toNatClampNeg = true := by
  unfold okC at h
  have c60 : x ≠ 60 := fun z => c2 (by rw [z]; decide)
  rw [decide_eq_false c1, decide_eq_false (show ¬ x < 40 from Int32.not_lt.mpr c3), decide_eq_false c60, Bool.false_or, Bool.false_or, Bool.false_and, Bool.or_false, Bool.and_eq_true] at h
  exact h.2
theorem stC_agree {tk : Nat} {e e' : Env} (h1 : ∀ k, alw tk k = true → hdL (e.1 k) = hdL (e'.1 k)) (h2 : tk = 3 → e.2 = e'.2) {x : Int32} (hx : okC tk x = true) (p : List Int64) : stC e x p = stC e' x p := by
  unfold stC
  by_cases c1 : 1000 ≤ x
  · rw [if_pos c1, if_pos c1]
  rw [if_neg c1, if_neg c1]
  by_cases c2 : 60 ≤ x
  · rw [if_pos c2, if_pos c2, h2 (okC_60 hx c1 c2)]
  rw [if_neg c2, if_neg c2]
  by_cases c3 : 40 ≤ x
  · rw [if_pos c3, if_pos c3, h1 _ (okC_40 hx c1 c2 c3)]
  rw [if_neg c3, if_neg c3]
theorem runC_cons (e : Env) (x : Int32) (c : List Int32) (p : List Int64) : runC e (x :: c) p = (stC e x p).bind (runC e c) := by rw [runC]
theorem runC_agree {tk : Nat} {e e' : Env} (h1 : ∀ k, alw tk k = true → hdL (e.1 k) = hdL (e'.1 k)) (h2 : tk = 3 → e.2 = e'.2) (c : List Int32) : ∀ (p : List Int64), NoL tk c → runC e c p = runC e' c p := by
  induction c with
  | nil => intro p _; rfl
  | cons x c ih =>
    intro p hc
    rw [runC_cons, runC_cons, stC_agree h1 h2 (hc x (List.mem_cons_self ..))]
    have hc' : NoL tk c := fun y hy => hc y (List.mem_cons_of_mem _ hy)
    generalize stC e' x p = o
    cases o with
    | none => rw [Option.bind_none, Option.bind_none]
    | some q => rw [Option.bind_some, Option.bind_some]; exact ih q hc'
theorem DnV.agree {tk : Nat} {c : List Int32} {v : VV} (h : DnV tk c v) {e e' : Env} (h1 : ∀ k, alw tk k = true → hdL (e.1 k) = hdL (e'.1 k)) (h2 : tk = 3 → e.2 = e'.2) : v e = v e' := by
  have := runC_agree h1 h2 c [] h.2
  rw [h.1.1 e [], h.1.1 e' []] at this
  exact (List.cons.inj (Option.some.inj this)).1
theorem b1L_inj {a b : Bool} (h : b1L a = b1L b) : a = b := by
  cases a <;> cases b <;> first | rfl | exact absurd h (by decide)
theorem DnT.agree {tk : Nat} {c : List Int32} {v : TT} (h : DnT tk c v) {e e' : Env} (h1 : ∀ k, alw tk k = true → hdL (e.1 k) = hdL (e'.1 k)) (h2 : tk = 3 → e.2 = e'.2) : v e = v e' := by
  have := runC_agree h1 h2 c [] h.2
  rw [h.1 e [], h.1 e' []] at this
  exact b1L_inj (List.cons.inj (Option.some.inj this)).1
/-- the cells that telling codes writes -/
def FrE (τ τ' : Sto) : Prop := (∀ i j, ¬ (i = 0 ∧ (j = 50 ∨ j = 55 ∨ j = 98)) → τ'.1 i j = τ.1 i j) ∧ ∀ i j, i ≠ 98 → τ'.2.1 i j = τ.2.1 i j
theorem FrE.refl (τ : Sto) : FrE τ τ := ⟨fun _ _ _ => rfl, fun _ _ _ => rfl⟩
theorem FrE.trans {τ τ' τ'' : Sto} (h : FrE τ τ') (h' : FrE τ' τ'') : FrE τ τ'' := ⟨fun i j hij => by rw [h'.1 i j hij, h.1 i j hij], fun i j hij => by rw [h'.2 i j hij, h.2 i j hij]⟩
theorem FrE.w {τ τ' : Sto} (h : FrE τ τ') {j : Nat} {v : Int32} (hj : j = 50 ∨ j = 55 ∨ j = 98) : FrE τ (sI τ' 0 j v) := ⟨fun a b hab => by rw [sI_ne (by omega)]; exact h.1 a b hab, h.2⟩
theorem FrE.l {τ τ' : Sto} (h : FrE τ τ') {j : Nat} {v : Int64} : FrE τ (sL τ' 98 j v) := ⟨h.1, fun a b hab => by rw [sL_2, if_neg (by omega)]; exact h.2 a b hab⟩
/-- an island stands, these numbers are, one thing may be otherwise frail -/
def EvC (I : Isl) (fr : Int32 × Int32) (s : Nat → Nat) (τ : Sto) : Prop := IslOK I ∧ IslR τ 3 24 24 8 10 1600 1600 I ∧ (∀ i, i < 41 → τ.1 52 i = nI (s i)) ∧ (s 0 ≤ 99999 ∧ (∀ i, 0 < i → i < 41 → s i ≤ 99) ∧ ∀ t, t < 8 → s (5 + 5 * t) ≤ 1) ∧ τ.1 0 53 = fr.1 ∧ (fr.1 ≠ -1 → τ.1 0 54 = fr.2 ∧ ∃ f, f ≤ 9 ∧ fr.2 = nI f)
section TEv
variable {I : Isl} {fr : Int32 × Int32} {s : Nat → Nat} {τ τ' : Sto} {t w : Nat}
theorem EvC.fr_ (h : EvC I fr s τ) (f : FrE τ τ') : EvC I fr s τ' := by
  obtain ⟨h1, h2, h3, h4, h5, h6⟩ := h
  refine ⟨h1, h2.congr (fun i j hi => f.1 i j (by omega)) (fun j => f.2 41 j (by omega)), fun i hi => by rw [f.1 52 i (by omega)]; exact h3 i hi, h4, by rw [f.1 0 53 (by omega)]; exact h5, fun hne => ⟨by rw [f.1 0 54 (by omega)]; exact (h6 hne).1, (h6 hne).2⟩⟩
theorem nIb {x : Nat} (h : x ≤ 99999) : BdL (nI x).toInt64 := by
  rw [BdL.int, Int32.toInt_toInt64, nI_toInt (by omega)]; omega
theorem i5 (t a : Nat) : nI a + 5 * nI t = nI (a + 5 * t) := by
  show nI a + nI 5 * nI t = _
  rw [nI_mul, nI_add]
theorem i3 (t a : Nat) : nI a + 3 * nI t = nI (a + 3 * t) := by
  show nI a + nI 3 * nI t = _
  rw [nI_mul, nI_add]
theorem i2 (t a : Nat) : nI a + 2 * nI t = nI (a + 2 * t) := by
  show nI a + nI 2 * nI t = _
  rw [nI_mul, nI_add]
theorem EvC.thg (h : EvC I fr s τ) {j : Nat} (hj : j < 3 * iC I 0) : τ.1 42 (24 + j) = nI (iX I j) := h.2.1.2.2.1 j hj
theorem EvC.st_ (h : EvC I fr s τ) {i : Nat} (hi : i < 41) : τ.1 52 i = nI (s i) := h.2.2.1 i hi
theorem EvC.n0 (h : EvC I fr s τ) : τ.1 40 3 = nI (iC I 0) := h.2.1.1 0 (by omega)
theorem EvC.n1 (h : EvC I fr s τ) : τ.1 40 4 = nI (iC I 1) := h.2.1.1 1 (by omega)
theorem EvC.n2 (h : EvC I fr s τ) : τ.1 40 5 = nI (iC I 2) := h.2.1.1 2 (by omega)
theorem EvC.c (h : EvC I fr s τ) : iC I 0 ≤ 8 ∧ iC I 1 ≤ 4 ∧ iC I 2 ≤ 5 := h.1.1
theorem T_useOf_law {K : Int32 → Sto → Prop} (h : EvC I fr s τ) (ht : t < iC I 0) (hk : K (nI (iX I (3 * t + 1))) τ) : T_useOf τ (nI t) K := by
  have hc := h.c
  unfold T_useOf
  rw [show (25 : Int32) + 3 * nI t = nI (25 + 3 * t) from i3 t 25, nI_clamp (by omega), show 25 + 3 * t = 24 + (3 * t + 1) by omega, h.thg (by omega)]
  exact ⟨vi_ (by omega) (by omega), hk⟩
theorem T_st5_law {K : Int32 → Sto → Prop} (h : EvC I fr s τ) (ht : t < 8) (a : Nat) (ha : 1 ≤ a ∧ a ≤ 5) (hk : K (nI (s (a + 5 * t))) τ) : vp_in (nI a + 5 * nI t) 192 ∧ K (τ.1 52 (Int32.toNatClampNeg (nI a + 5 * nI t))) τ := by
  rw [i5, nI_clamp (by omega), h.st_ (by omega)]
  exact ⟨vi_ (by omega) (by omega), hk⟩
theorem T_stateOf_law {K : Int32 → Sto → Prop} (h : EvC I fr s τ) (ht : t < 8) (hk : K (nI (s (1 + 5 * t))) τ) : T_stateOf τ (nI t) K := T_st5_law h ht 1 (by omega) hk
theorem T_brokeOf_law {K : Int32 → Sto → Prop} (h : EvC I fr s τ) (ht : t < 8) (hk : K (nI (s (2 + 5 * t))) τ) : T_brokeOf τ (nI t) K := T_st5_law h ht 2 (by omega) hk
theorem T_mendsOf_law {K : Int32 → Sto → Prop} (h : EvC I fr s τ) (ht : t < 8) (hk : K (nI (s (3 + 5 * t))) τ) : T_mendsOf τ (nI t) K := T_st5_law h ht 3 (by omega) hk
theorem T_glueOf_law {K : Int32 → Sto → Prop} (h : EvC I fr s τ) (ht : t < 8) (hk : K (nI (s (4 + 5 * t))) τ) : T_glueOf τ (nI t) K := T_st5_law h ht 4 (by omega) hk
theorem T_isForged_law {K : Int32 → Sto → Prop} (h : EvC I fr s τ) (ht : t < 8) (hk : K (nI (s (5 + 5 * t))) τ) : T_isForged τ (nI t) K := by
  have hb := h.2.2.2.1.2.2 t ht
  unfold T_isForged
  rw [show (5 : Int32) + 5 * nI t = nI (5 + 5 * t) from i5 t 5, nI_clamp (by omega), h.st_ (by omega)]
  refine ⟨vi_ (by omega) (by omega), ?_⟩
  have : s (5 + 5 * t) = 0 ∨ s (5 + 5 * t) = 1 := by omega
  rcases this with e | e
  · rw [e] at hk ⊢; exact bn_t (by decide) hk
  · rw [e] at hk ⊢; exact bn_f rfl hk
theorem T_qPartOf_law {K : Int64 → Sto → Prop} {k : Nat} (h : EvC I fr s τ) (hk10 : k < 10) (ht : t < iC I 0) (lk : Int64 → Int64) (hk : K ((evE I fr s t (τ.1 0 55) lk).1 k) τ) : T_qPartOf τ (nI k) (nI t) K := by
  have hc := h.c
  obtain ⟨o1, o2, o3, o4, o5, o6⟩ := h
  unfold T_qPartOf
  have hd : k = 0 ∨ k = 1 ∨ k = 2 ∨ k = 3 ∨ k = 4 ∨ k = 5 ∨ k = 6 ∨ k = 7 ∨ k = 8 ∨ k = 9 := by omega
  have h : EvC I fr s τ := ⟨o1, o2, o3, o4, o5, o6⟩
  rcases hd with rfl | rfl | rfl | rfl | rfl | rfl | rfl | rfl | rfl | rfl
  · refine br_t rfl ?_
    rw [show (24 : Int32) + 3 * nI t = nI (24 + 3 * t) from i3 t 24, nI_clamp (by omega), h.thg (by omega)]
    exact ⟨vi_ (by omega) (by omega), hk⟩
  · exact br_f (by decide) (br_t rfl (T_useOf_law h ht hk))
  · refine br_f (by decide) (br_f (by decide) (br_t rfl ?_))
    rw [o5]
    by_cases e : nI t = fr.1
    · have hne : fr.1 ≠ -1 := by rw [← e]; exact fun z => nI_m1 (by omega) z.symm
      refine bn_f e ?_
      rw [(o6 hne).1]
      have : (evE I fr s t (τ.1 0 55) lk).1 2 = fr.2.toInt64 := by show (if nI t = fr.1 then fr.2 else _).toInt64 = _; rw [if_pos e]
      rw [this] at hk
      exact hk
    · refine bn_t e ?_
      rw [show (26 : Int32) + 3 * nI t = nI (26 + 3 * t) from i3 t 26, nI_clamp (by omega), show 26 + 3 * t = 24 + (3 * t + 2) by omega, h.thg (by omega)]
      have : (evE I fr s t (τ.1 0 55) lk).1 2 = (nI (iX I (3 * t + 2))).toInt64 := by show (if nI t = fr.1 then fr.2 else _).toInt64 = _; rw [if_neg e]
      rw [this] at hk
      exact ⟨vi_ (by omega) (by omega), hk⟩
  · exact br_f (by decide) (br_f (by decide) (br_f (by decide) (br_t rfl (T_brokeOf_law h (by omega) hk))))
  · exact br_f (by decide) (br_f (by decide) (br_f (by decide) (br_f (by decide) (br_t rfl (T_mendsOf_law h (by omega) hk)))))
  · refine br_f (by decide) (br_f (by decide) (br_f (by decide) (br_f (by decide) (br_f (by decide) (br_t rfl ⟨vi_ (i := 0) (by omega) (by omega), ?_⟩)))))
    rw [show Int32.toNatClampNeg 0 = 0 from rfl, h.st_ (by omega)]
    exact hk
  · exact br_f (by decide) (br_f (by decide) (br_f (by decide) (br_f (by decide) (br_f (by decide) (br_f (by decide) (br_t rfl (T_glueOf_law h (by omega) hk)))))))
  · exact br_f (by decide) (br_f (by decide) (br_f (by decide) (br_f (by decide) (br_f (by decide) (br_f (by decide) (br_f (by decide) (br_t rfl hk)))))))
  · exact br_f (by decide) (br_f (by decide) (br_f (by decide) (br_f (by decide) (br_f (by decide) (br_f (by decide) (br_f (by decide) (br_f (by decide) (br_t rfl hk))))))))
  · refine br_f (by decide) (br_f (by decide) (br_f (by decide) (br_f (by decide) (br_f (by decide) (br_f (by decide) (br_f (by decide) (br_f (by decide) (br_f (by decide) ?_))))))))
    have hb := o4.2.2 t (by omega)
    refine T_isForged_law h (by omega) ?_
    have e9 : (evE I fr s t (τ.1 0 55) lk).1 9 = (nI (s (5 + 5 * t))).toInt64 := rfl
    rw [e9] at hk
    have : s (5 + 5 * t) = 0 ∨ s (5 + 5 * t) = 1 := by omega
    rcases this with e | e
    · rw [e] at hk ⊢; exact br_t rfl hk
    · rw [e] at hk ⊢; exact br_f (by decide) hk
end TEv
