/-! PURE SIDE: what is only thought; later, breaks, gain; the model's. -/
def FrH (τ0 τ : Sto) : Prop := (∀ i j, ¬ scrT i j → ¬ (i = 52 ∧ j < 41) → ¬ (i = 0 ∧ (j = 57 ∨ j = 53)) → τ.1 i j = τ0.1 i j) ∧ (∀ i j, ¬ scrTL i j → τ.2.1 i j = τ0.2.1 i j) ∧ ∃ c, c ≤ 1602 ∧ τ.1 0 92 = nI c
/-- days are thought: s is, a will be again -/
def TH (a : AS) (fr : Int32 × Int32) (s : St) (τ : Sto) : Prop := (∃ τ0, RT a τ0 ∧ FrH τ0 τ) ∧ DC (aI a) fr true s τ ∧ ∀ i, i < 41 → τ.1 53 i = nI ((aS a).1 i)
section TTh
variable {a : AS} {τ τ' : Sto} {K : Int32 → Sto → Prop} {fr : Int32 × Int32} {s s' : St}
theorem scr_D {i j : Nat} (h : (i = 0 ∧ (j = 50 ∨ j = 55 ∨ j = 98 ∨ j = 58)) ∨ i = 60 ∨ i = 61) : scrT i j := by
  rcases h with ⟨rfl, h | h | h | h⟩ | h | h
  · subst h; simp [scrT]
  · subst h; simp [scrT]
  · subst h; simp [scrT]
  · subst h; simp [scrT]
  · simp [scrT, h]
  · simp [scrT, h]
theorem FrH.d {τ0 : Sto} (h : FrH τ0 τ) (f : FrD true τ τ') : FrH τ0 τ' := by
  obtain ⟨h1, h2, c, h3, h4⟩ := h
  refine ⟨fun i j q1 q2 q3 => ?_, fun i j q1 => ?_, c, h3, ?_⟩
  · rw [f.1 i j (fun z => q1 (scr_D (Or.inl z))) (fun z => q2 ⟨z.1, by have := z.2; simp at this; exact this⟩) (fun z => q1 (scr_D (Or.inr (Or.inl z)))) (fun z => q1 (scr_D (Or.inr (Or.inr z))))]
    exact h1 i j q1 q2 q3
  · rw [f.2 i j (fun z => q1 (Or.inr (Or.inl z)))]; exact h2 i j q1
  · rw [f.1 0 92 (by omega) (by omega) (by omega) (by omega)]; exact h4
theorem TH.go (h : TH a fr s τ) (d : DC (aI a) fr true s' τ') (f : FrD true τ τ') : TH a fr s' τ' := by
  obtain ⟨⟨τ0, r, g⟩, -, h3⟩ := h
  exact ⟨⟨τ0, r, g.d f⟩, d, fun i hi => by rw [f.1 53 i (by omega) (by omega) (by omega) (by omega)]; exact h3 i hi⟩
theorem TH.frE (h : TH a fr s τ) (f : FrE τ τ') : TH a fr s τ' := h.go (h.2.1.frE f) (FrD.ofE f)
/-- thinking begins -/
theorem T_putsAside_law {K : Sto → Prop} (h : RT a τ) (hk : ∀ τ', TH a (-1, 0) (aS a) τ' → τ'.1 0 58 = 0 → K τ') : T_putsAside τ K := by
  have hE := h.ev
  have hkp := h.2.2.2.2.1.1.2.2
  obtain ⟨cc, hc1, hc2⟩ := h.2.2.2.2.2.2.2.2.2.2
  refine st_ ⟨42, ?_⟩
  have lp : ∀ (d f x : Nat) (τ' : Sto), 41 - x = d → d < f → x ≤ 41 → (∀ i j, τ'.1 i j = if i = 0 ∧ j = 57 then 1 else if i = 53 ∧ j < x then τ.1 52 j else τ.1 i j) → τ'.2.1 = τ.2.1 → T_putsAside_7 K f (nI x) τ' := by
    intro d
    induction d with
    | zero =>
      intro f x τ' hd hf hx e el
      obtain ⟨f, rfl⟩ : ∃ f', f = f' + 1 := ⟨f - 1, by omega⟩
      obtain rfl : x = 41 := by omega
      unfold T_putsAside_7
      refine br_t (by decide) (st_ (hk _ ⟨⟨τ, h, ⟨fun i j q1 q2 q3 => ?_, fun i j q1 => ?_, cc, hc1, ?_⟩⟩, ⟨?_, ?_, hkp, fun z => by cases z⟩, fun i hi => ?_⟩ (sI_same ..)))
      · rw [sI_ne (by rintro ⟨rfl, rfl⟩; exact q1 (by simp [scrT])), e, if_neg (by omega), if_neg (by rintro ⟨rfl, -⟩; exact q1 (by simp [scrT]))]
      · show τ'.2.1 i j = _; rw [el]
      · rw [sI_ne (by omega), e, if_neg (by omega), if_neg (by omega)]; exact hc2
      · refine hE.mv (fun i j hi => ?_) (fun j => ?_) ?_ ?_ (fun i hi => ?_) hE.2.2.2.1
        · rw [sI_neI (by omega), e, if_neg (by omega), if_neg (by omega)]
        · show τ'.2.1 41 j = _; rw [el]
        · rw [sI_ne (by omega), e, if_neg (by omega), if_neg (by omega)]
        · rw [sI_ne (by omega), e, if_neg (by omega), if_neg (by omega)]
        · rw [sI_neI (by omega), e, if_neg (by omega), if_neg (by omega)]; exact hE.st_ hi
      · rw [sI_ne (by omega), e, if_pos ⟨rfl, rfl⟩]; rfl
      · rw [sI_neI (by omega), e, if_neg (by omega), if_pos ⟨rfl, hi⟩]; exact hE.st_ hi
    | succ d ih =>
      intro f x τ' hd hf hx e el
      obtain ⟨f, rfl⟩ : ∃ f', f = f' + 1 := ⟨f - 1, by omega⟩
      unfold T_putsAside_7
      rw [nI_clamp (by omega), nI_1]
      refine br_f (show ¬ nI 41 ≤ nI x from nI_ge (by omega) (by omega)) ⟨vi_ (by omega) (by omega), vi_ (by omega) (by omega), st_ (ih f (x + 1) _ (by omega) (by omega) (by omega) (fun i j => ?_) el)⟩
      rw [sI_1]
      by_cases c : i = 53 ∧ j = x
      · obtain ⟨rfl, rfl⟩ := c
        rw [if_pos ⟨rfl, rfl⟩, if_neg (by omega), if_pos ⟨rfl, by omega⟩, e, if_neg (by omega), if_neg (by omega)]
      · rw [if_neg c, e]
        by_cases c1 : i = 0 ∧ j = 57
        · rw [if_pos c1, if_pos c1]
        rw [if_neg c1, if_neg c1]
        by_cases c2 : i = 53 ∧ j < x
        · rw [if_pos c2, if_pos ⟨c2.1, by omega⟩]
        · rw [if_neg c2, if_neg (by omega)]
  exact lp 41 42 0 _ rfl (by omega) (by omega) (fun i j => by rw [sI_1, if_neg (show ¬ (i = 53 ∧ j < 0) by omega)]) rfl
/-- and ends -/
theorem T_takesBack_law64 {K : Sto → Prop} (h : TH a fr s τ) (hfr : fr.1 = -1) (hk : ∀ τ', RT a τ' → (∀ j, τ'.1 64 j = τ.1 64 j) → K τ') : T_takesBack τ K := by
  obtain ⟨⟨τ0, r, g1, g2, cc, g3, g4⟩, ⟨hE, -⟩, h3⟩ := h
  have h53 := hE.2.2.2.2.1
  rw [hfr] at h53
  have r0 := r
  obtain ⟨-, -, -, -, ⟨s1, s2⟩, -, -, -, ⟨f1, f2, -⟩⟩ := r
  refine ⟨42, ?_⟩
  have lp : ∀ (d f x : Nat) (τ' : Sto), 41 - x = d → d < f → x ≤ 41 → (∀ i j, τ'.1 i j = if i = 52 ∧ j < x then τ.1 53 j else τ.1 i j) → τ'.2.1 = τ.2.1 → T_takesBack_2 K f (nI x) τ' := by
    intro d
    induction d with
    | zero =>
      intro f x τ' hd hf hx e el
      obtain ⟨f, rfl⟩ : ∃ f', f = f' + 1 := ⟨f - 1, by omega⟩
      obtain rfl : x = 41 := by omega
      unfold T_takesBack_2
      refine br_t (by decide) (st_ (hk _ (r0.fr ⟨fun i j q1 => ?_, fun i j q1 => ?_, cc, g3, ?_⟩) (fun j => by rw [sI_neI (by omega), e, if_neg (by omega)])))
      · by_cases c57 : i = 0 ∧ j = 57
        · obtain ⟨rfl, rfl⟩ := c57; rw [sI_same]; exact f2.symm
        rw [sI_ne c57, e]
        by_cases c52 : i = 52 ∧ j < 41
        · obtain ⟨rfl, hj⟩ := c52
          rw [if_pos ⟨rfl, hj⟩, h3 j hj]
          have := s2.1 j hj
          rw [Nat.zero_add] at this
          exact this.symm
        · rw [if_neg c52]
          by_cases c53 : i = 0 ∧ j = 53
          · obtain ⟨rfl, rfl⟩ := c53; rw [h53]; exact f1.symm
          · exact g1 i j q1 c52 (by omega)
      · show τ'.2.1 i j = _; rw [el]; exact g2 i j q1
      · rw [sI_ne (by omega), e, if_neg (by omega)]; exact g4
    | succ d ih =>
      intro f x τ' hd hf hx e el
      obtain ⟨f, rfl⟩ : ∃ f', f = f' + 1 := ⟨f - 1, by omega⟩
      unfold T_takesBack_2
      rw [nI_clamp (by omega), nI_1]
      refine br_f (show ¬ nI 41 ≤ nI x from nI_ge (by omega) (by omega)) ⟨vi_ (by omega) (by omega), vi_ (by omega) (by omega), st_ (ih f (x + 1) _ (by omega) (by omega) (by omega) (fun i j => ?_) el)⟩
      rw [sI_1]
      by_cases c : i = 52 ∧ j = x
      · obtain ⟨rfl, rfl⟩ := c
        rw [if_pos ⟨rfl, rfl⟩, if_pos ⟨rfl, by omega⟩, e, if_neg (by omega)]
      · rw [if_neg c, e]
        by_cases c2 : i = 52 ∧ j < x
        · rw [if_pos c2, if_pos ⟨c2.1, by omega⟩]
        · rw [if_neg c2, if_neg (by omega)]
  exact lp 41 42 0 _ rfl (by omega) (by omega) (fun i j => by rw [if_neg (by omega)]) rfl
theorem T_takesBack_law {K : Sto → Prop} (h : TH a fr s τ) (hfr : fr.1 = -1) (hk : ∀ τ', RT a τ' → K τ') : T_takesBack τ K := T_takesBack_law64 h hfr fun τ' h' _ => hk τ' h'
/-- and begins anew -/
theorem T_triesAnew_law {K : Sto → Prop} (h : TH a fr s τ) (hk : ∀ τ', TH a fr (aS a) τ' → τ'.1 0 58 = 0 → (∀ j, τ'.1 64 j = τ.1 64 j) → K τ') : T_triesAnew τ K := by
  obtain ⟨⟨τ0, r, g1, g2, cc, g3, g4⟩, ⟨hE, h57, -⟩, h3⟩ := h
  have r0 := r
  obtain ⟨-, -, -, -, ⟨s1, s2⟩, -⟩ := r
  refine ⟨42, ?_⟩
  have lp : ∀ (d f x : Nat) (τ' : Sto), 41 - x = d → d < f → x ≤ 41 → (∀ i j, τ'.1 i j = if i = 52 ∧ j < x then τ.1 53 j else τ.1 i j) → τ'.2.1 = τ.2.1 → T_triesAnew_2 K f (nI x) τ' := by
    intro d
    induction d with
    | zero =>
      intro f x τ' hd hf hx e el
      obtain ⟨f, rfl⟩ : ∃ f', f = f' + 1 := ⟨f - 1, by omega⟩
      obtain rfl : x = 41 := by omega
      unfold T_triesAnew_2
      refine br_t (by decide) (st_ (hk _ ⟨⟨τ0, r0, fun i j q1 q2 q3 => ?_, fun i j q1 => ?_, cc, g3, ?_⟩, ⟨?_, ?_, s1.2.2, fun z => by cases z⟩, fun i hi => ?_⟩ (sI_same ..) (fun j => ?_)))
      · rw [sI_ne (by rintro ⟨rfl, rfl⟩; exact q1 (by simp [scrT])), e, if_neg q2]; exact g1 i j q1 q2 q3
      · show τ'.2.1 i j = _; rw [el]; exact g2 i j q1
      · rw [sI_ne (by omega), e, if_neg (by omega)]; exact g4
      · refine hE.mv (fun i j hi => ?_) (fun j => ?_) ?_ ?_ (fun i hi => ?_) s1.bd
        · rw [sI_neI (by omega), e, if_neg (by omega)]
        · show τ'.2.1 41 j = _; rw [el]
        · rw [sI_ne (by omega), e, if_neg (by omega)]
        · rw [sI_ne (by omega), e, if_neg (by omega)]
        · rw [sI_neI (by omega), e, if_pos ⟨rfl, hi⟩]; exact h3 i hi
      · rw [sI_ne (by omega), e, if_neg (by omega)]; exact h57
      · rw [sI_neI (by omega), e, if_neg (by omega)]; exact h3 i hi
      · rw [sI_neI (by omega), e, if_neg (by omega)]
    | succ d ih =>
      intro f x τ' hd hf hx e el
      obtain ⟨f, rfl⟩ : ∃ f', f = f' + 1 := ⟨f - 1, by omega⟩
      unfold T_triesAnew_2
      rw [nI_clamp (by omega), nI_1]
      refine br_f (show ¬ nI 41 ≤ nI x from nI_ge (by omega) (by omega)) ⟨vi_ (by omega) (by omega), vi_ (by omega) (by omega), st_ (ih f (x + 1) _ (by omega) (by omega) (by omega) (fun i j => ?_) el)⟩
      rw [sI_1]
      by_cases c : i = 52 ∧ j = x
      · obtain ⟨rfl, rfl⟩ := c
        rw [if_pos ⟨rfl, rfl⟩, if_pos ⟨rfl, by omega⟩, e, if_neg (by omega)]
      · rw [if_neg c, e]
        by_cases c2 : i = 52 ∧ j < x
        · rw [if_pos c2, if_pos ⟨c2.1, by omega⟩]
        · rw [if_neg c2, if_neg (by omega)]
  exact lp 41 42 0 _ rfl (by omega) (by omega) (fun i j => by rw [if_neg (by omega)]) rfl
def stS (a : AS) (s : Nat → Nat) : Nat := setN (spStands (aI a) (-1, 0) s) (iC (aI a) 0)
def sp_later (a : AS) (x y : Int32) : Int32 := if ahd ((aS a).1 0) x 0 60 && inR y 0 3 then
    (if y = 0 then nI (stS a (spDays (aI a) (-1, 0) (ix x) (aS a)).2.1) else if y = 1 then nI (setN (fun t => decide ((spDays (aI a) (-1, 0) (ix x) (aS a)).2.1 (1 + 5 * t) = 1)) (iC (aI a) 0))
     else if y = 2 then nI (useS (aI a) (stS a (spDays (aI a) (-1, 0) (ix x) (aS a)).2.1) (iC (aI a) 0)) else nI (spDays (aI a) (-1, 0) (ix x) (aS a)).1) else -1
theorem T_later_law {x y : Int32} (h : RT a τ) (hk : ∀ τ', RT a τ' → K (sp_later a x y) τ') : T_later τ x y K := by
  have hs1 := h.2.2.2.2.1.1
  have hc := h.ev.c
  unfold sp_later at hk
  refine T_isAhead_law h.ev (lo := 0) (hi := 60) rfl rfl (by omega) (by omega) ?_
  cases e : ahd ((aS a).1 0) x 0 60 with
  | false => rw [e] at hk; exact br_t rfl (hk τ h)
  | true =>
    rw [e, Bool.true_and] at hk
    unfold ahd inR at e
    rw [Bool.and_eq_true, decide_eq_true_eq, decide_eq_true_eq] at e
    obtain ⟨q1, q2⟩ := inR_ix (x := x) (n := 61) (by unfold inR; rw [decide_eq_true_eq]; omega) (by omega)
    generalize ix x = n at q1 q2 hk
    subst q1
    refine br_f (by decide) (T_isInI (lo := 0) (hi := 3) rfl rfl ?_)
    cases e2 : inR y 0 3 with
    | false => rw [e2] at hk; exact bn_f rfl (hk τ h)
    | true =>
      rw [e2, if_pos rfl] at hk
      refine bn_t (by decide) (T_putsAside_law h fun τ1 h1 e1 => T_daysGo_law h1.2.1 hs1.w (by omega) (by have := hs1.1; omega) fun τ2 d2 f2 e58 => ?_)
      have h2 := h1.go d2 f2
      by_cases y0 : y = 0
      · rw [if_pos y0] at hk
        exact bn_f y0 (T_standSet_law d2.1 fun τ3 f3 => T_takesBack_law (h2.frE f3) rfl hk)
      rw [if_neg y0] at hk
      refine bn_t y0 ?_
      by_cases y1 : y = 1
      · rw [if_pos y1] at hk
        exact bn_f y1 (T_setOf_law (x := 1) rfl (by omega) d2.1 (T_takesBack_law h2 rfl hk))
      rw [if_neg y1] at hk
      refine bn_t y1 ?_
      by_cases y2 : y = 2
      · rw [if_pos y2] at hk
        exact bn_f y2 (T_standSet_law d2.1 fun τ3 f3 => T_useBy_law (d2.1.fr_ f3) (setN_256 _ hc.1) (T_takesBack_law (h2.frE f3) rfl hk))
      rw [if_neg y2] at hk
      refine bn_t y2 (T_takesBack_law h2 rfl fun τ3 h3 => ?_)
      rw [e58, e1, Int32.zero_add]
      exact hk τ3 h3
def spBrk (I : Isl) (t : Nat) : Nat → Nat → St → Int32
  | 0, _, _ => -1
  | f + 1, k, s => if 60 < k ∨ 999 ≤ s.1 0 then -1 else if (spDay I (-1, 0) s).1.testBit t then nI k else spBrk I t f (k + 1) (spDay I (-1, 0) s).2
def sp_breaks (a : AS) (x : Int32) : Int32 := if isTh a x then spBrk (aI a) (ix x) 61 1 (aS a) else -1
theorem T_breaks_law {x : Int32} (h : RT a τ) (hk : ∀ τ', RT a τ' → K (sp_breaks a x) τ') : T_breaks τ x K := by
  have hs1 := h.2.2.2.2.1.1
  have hc := h.ev.c
  unfold sp_breaks isTh at hk
  refine T_isThing_law h ?_
  cases e : inR x 0 ((iC (aI a) 0 : Int) - 1) with
  | false => rw [e] at hk; exact bn_f rfl (hk τ h)
  | true =>
    rw [e, if_pos rfl] at hk
    obtain ⟨q1, q2⟩ := inR_ix e (by omega)
    generalize ix x = t at q1 q2 hk
    subst q1
    refine bn_t (by decide) (T_putsAside_law h fun τ1 h1 _ => ⟨63, ?_⟩)
    have lp : ∀ (d f k : Nat) (s : St) (τ' : Sto), 61 - k = d → d + 1 < f → 1 ≤ k → k ≤ 61 → StW s → s.1 0 ≤ 2000 → TH a (-1, 0) s τ' → spBrk (aI a) t (d + 1) k s = spBrk (aI a) t 61 1 (aS a) → T_breaks_18 K (nI t) f (-1) (nI k) τ' := by
      intro d
      induction d with
      | zero =>
        intro f k s τ' hd hf hk1 hk2 hw hday hT he
        obtain ⟨f, rfl⟩ : ∃ f', f = f' + 1 := ⟨f - 1, by omega⟩
        obtain rfl : k = 61 := by omega
        have he' : spBrk (aI a) t (0 + 1) 61 s = -1 := by show (if _ then _ else _) = _; rw [if_pos (by omega)]
        rw [← he, he'] at hk
        unfold T_breaks_18
        exact br_t (by decide) (T_takesBack_law hT rfl hk)
      | succ d ih =>
        intro f k s τ' hd hf hk1 hk2 hw hday hT he
        obtain ⟨f, rfl⟩ : ∃ f', f = f' + 1 := ⟨f - 1, by omega⟩
        unfold T_breaks_18
        refine br_f (show ¬ nI 60 < nI k from nI_nlt (by omega) (by omega)) (bn_f rfl ⟨vi_ (i := 0) (by omega) (by omega), ?_⟩)
        rw [show τ'.1 52 (Int32.toNatClampNeg 0) = nI (s.1 0) from hT.2.1.1.st_ (i := 0) (by omega)]
        have hun : spBrk (aI a) t (d + 1 + 1) k s = if 60 < k ∨ 999 ≤ s.1 0 then -1 else if (spDay (aI a) (-1, 0) s).1.testBit t then nI k else spBrk (aI a) t (d + 1) (k + 1) (spDay (aI a) (-1, 0) s).2 := rfl
        rw [hun] at he
        by_cases c9 : 999 ≤ s.1 0
        · rw [if_pos (Or.inr c9)] at he
          rw [← he] at hk
          exact br_t (show nI 999 ≤ nI _ from nI_le c9 (by omega)) (T_takesBack_law hT rfl hk)
        · rw [if_neg (by omega)] at he
          refine br_f (show ¬ nI 999 ≤ nI _ from nI_ge (by omega) (by omega)) (T_dayGoes_law hT.2.1 (by omega) fun τ2 d2 f2 h60 _ => ⟨vi_ (by omega) (by omega), ?_⟩)
          have hT2 := hT.go d2 f2
          have hwd := hw.day (fr := (-1, 0)) h.ev.1
          rw [nI_clamp (by omega), h60 t q2]
          cases eb : (spDay (aI a) (-1, 0) s).1.testBit t with
          | false =>
            rw [eb, if_neg (by decide)] at he
            rw [nI_1]
            exact br_t rfl (ih f (k + 1) _ τ2 (by omega) (by omega) (by omega) (by omega) hwd.1 (by rw [hwd.2]; omega) hT2 he)
          | true =>
            rw [eb, if_pos rfl] at he
            rw [← he] at hk
            obtain ⟨f, rfl⟩ : ∃ f', f = f' + 1 := ⟨f - 1, by omega⟩
            refine br_f (by decide) ?_
            unfold T_breaks_18
            rw [nI_1]
            have fin : T_takesBack τ2 (fun τ3 => K (nI k) τ3) := T_takesBack_law hT2 rfl hk
            by_cases c60 : 60 < k + 1
            · exact br_t (show nI 60 < nI _ from nI_lt c60 (by omega)) fin
            · exact br_f (show ¬ nI 60 < nI _ from nI_nlt (by omega) (by omega)) (bn_t (fun z => nI_m1 (by omega) z.symm) fin)
    exact lp 60 63 1 (aS a) τ1 rfl (by omega) (by omega) (by omega) hs1.w (by have := hs1.1; omega) h1 rfl
end TTh
