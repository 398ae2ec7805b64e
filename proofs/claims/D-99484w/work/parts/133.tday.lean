/-! PURE SIDE: the model's day. -/
section TDz
variable {I : Isl} {fr : Int32 × Int32} {th : Bool} {s : St} {left : Nat → Nat} {τ τ' : Sto} {t w m : Nat}
theorem spKeep_1 (s : St) (t what : Nat) : (spKeep s t what).1 = s.1 := by unfold spKeep; split <;> rfl
theorem cntB_le (s : Nat → Nat) (n : Nat) : cntB s n ≤ 1 * n := lpN_le (fun t a => by split <;> omega) n
theorem cntB_same {s s' : Nat → Nat} : ∀ n, (∀ u, u < n → (s' (1 + 5 * u) = 1 ↔ s (1 + 5 * u) = 1)) → cntB s' n = cntB s n
  | 0, _ => rfl
  | n + 1, h => by
    have ih := cntB_same n (fun u hu => h u (by omega))
    show cntB s' n + (if s' (1 + 5 * n) = 1 then 1 else 0) = cntB s n + (if s (1 + 5 * n) = 1 then 1 else 0)
    have := h n (by omega)
    rw [ih]
    by_cases c : s (1 + 5 * n) = 1
    · rw [if_pos c, if_pos (this.mpr c)]
    · rw [if_neg c, if_neg (fun z => c (this.mp z))]
theorem cntB_one {s s' : Nat → Nat} : ∀ n, t < n → s (1 + 5 * t) = 1 → s' (1 + 5 * t) ≠ 1 → (∀ u, u < n → u ≠ t → s' (1 + 5 * u) = s (1 + 5 * u)) → cntB s' n + 1 = cntB s n
  | 0, h, _, _, _ => by omega
  | n + 1, h, h1, h2, h3 => by
    show cntB s' n + (if s' (1 + 5 * n) = 1 then 1 else 0) + 1 = cntB s n + (if s (1 + 5 * n) = 1 then 1 else 0)
    by_cases e : t = n
    · subst e
      rw [if_neg h2, if_pos h1, cntB_same t (fun u hu => by rw [h3 u (by omega) (by omega)])]
    · have ih := cntB_one n (by omega) h1 h2 (fun u hu hne => h3 u (by omega) hne)
      rw [h3 n (by omega) (fun z => e z.symm)]
      omega
theorem meS_cnt {s : Nat → Nat} {fine n : Nat} (ht : t < n) (h1 : s (1 + 5 * t) = 1) : cntB (meS s t fine) n + 1 = cntB s n := by
  refine cntB_one n ht h1 ?_ (fun u hu hne => ?_)
  · unfold meS; rw [fu_ne (by omega), fu_ne (by omega), fu_same]; omega
  · unfold meS; rw [fu_ne (by omega), fu_ne (by omega), fu_ne (by omega)]
theorem day_119 {K : Sto → Prop} : ∀ (g f : Nat) (s : St) (left : Nat → Nat) (τ : Sto), cntB s.1 (iC I 0) < g → cntB s.1 (iC I 0) + 1 < f → s.1 0 < 99999 → DC I fr th s τ → HL I left τ →
    (∀ τ', DC I fr th (fu_ (spMe I fr g s left).1 0 ((spMe I fr g s left).1 0 + 1), (spMe I fr g s left).2) τ' → FrD th τ τ' → (∀ j, τ'.1 60 j = τ.1 60 j) → τ'.1 0 58 = τ.1 0 58 → K τ') → T_dayGoes_119 K f 1 τ := by
  intro g
  induction g with
  | zero => intro f s left τ h; omega
  | succ g ih =>
    intro f s left τ hg hf hday h hL hk
    obtain ⟨f, rfl⟩ : ∃ f', f = f' + 1 := ⟨f - 1, by omega⟩
    unfold T_dayGoes_119
    refine br_f (by decide) (T_doMend_law h hL (fun hn τ1 f1 => ?_) (fun t m hn hb τ1 d1 f1 h60 hL1 e58 => ?_))
    · -- none is left
      obtain ⟨f, rfl⟩ : ∃ f', f = f' + 1 := ⟨f - 1, by omega⟩
      have hme : spMe I fr (g + 1) s left = s := by show (match spNext I fr s.1 left with | none => s | some t => _) = s; rw [hn]
      rw [hme] at hk
      have d1 := h.frE f1
      unfold T_dayGoes_119
      refine br_t rfl ⟨vi_ (i := 0) (by omega) (by omega), vi_ (i := 0) (by omega) (by omega), st_ (hk _ ?_ ((FrD.ofE f1).w (Or.inr (Or.inr ⟨rfl, by decide⟩))) (fun j => ?_) ?_)⟩
      · rw [show Int32.toNatClampNeg 0 = 0 from rfl, d1.1.st_ (by omega), nI_1]
        refine d1.num ((FrK.refl _ τ1).w (Or.inl (by omega))) (fun i hi => ?_) ?_
        · by_cases e : i = 0
          · subst e; rw [sI_same, fu_same]
          · rw [sI_ne (by omega), fu_ne e]; exact d1.1.st_ hi
        · obtain ⟨b1, b2, b3⟩ := d1.1.2.2.2.1
          refine ⟨by rw [fu_same]; omega, fun i h1 h2 => by rw [fu_ne (by omega)]; exact b2 i h1 h2, fun u hu => by rw [fu_ne (by omega)]; exact b3 u hu⟩
      · rw [sI_neI (by omega)]; exact f1.1 60 j (by omega)
      · rw [sI_neI (by omega)]; exact f1.1 0 58 (by omega)
    · obtain ⟨q1, q2, -⟩ := nxS_inv _ t hn
      have hme : spMe I fr (g + 1) s left = spMe I fr g (spMend I fr s t m) (fu_ left m (left m - spTakes I fr s.1 t m)) := by
        show (match spNext I fr s.1 left with | none => s | some t => match spBy I fr s.1 left t with | none => s | some m => spMe I fr g (spMend I fr s t m) (fu_ left m (left m - spTakes I fr s.1 t m))) = _
        rw [hn]
        show (match spBy I fr s.1 left t with | none => s | some m => _) = _
        rw [hb]
      rw [hme] at hk
      have e1 : (spMend I fr s t m).1 = meS s.1 t (spFine I fr s.1 t m) := by unfold spMend; rw [spKeep_1]
      have hcnt := meS_cnt (fine := spFine I fr s.1 t m) q1 q2
      rw [← e1] at hcnt
      refine ih f _ _ τ1 (by omega) (by omega) ?_ d1 hL1 (fun τ2 d2 f2 h602 e582 => hk τ2 d2 (f1.trans f2) (fun j => by rw [h602, h60]) (by rw [e582, e58]))
      rw [e1]; unfold meS; rw [fu_ne (by omega), fu_ne (by omega), fu_ne (by omega)]; exact hday
theorem day_86 {K : Sto → Prop} (h : DC I fr th s τ) (hday : s.1 0 < 99999)
    (hk : ∀ τ', DC I fr th (fu_ (spMe I fr 9 s (fun m => iX I (24 + 2 * m + 1))).1 0 ((spMe I fr 9 s (fun m => iX I (24 + 2 * m + 1))).1 0 + 1), (spMe I fr 9 s (fun m => iX I (24 + 2 * m + 1))).2) τ' → FrD th τ τ' → (∀ j, τ'.1 60 j = τ.1 60 j) → τ'.1 0 58 = τ.1 0 58 → K τ') : ∃ n, T_dayGoes_86 K n 0 τ := by
  have hE := h.1
  have hc := hE.c
  refine ⟨iC I 1 + 1, ?_⟩
  have lp : ∀ (d f m : Nat) (τ' : Sto), iC I 1 - m = d → d < f → m ≤ iC I 1 → DC I fr th s τ' → FrD th τ τ' → (∀ j, τ'.1 60 j = τ.1 60 j) → τ'.1 0 58 = τ.1 0 58 → (∀ u, u < m → τ'.1 61 u = nI (iX I (24 + 2 * u + 1))) → T_dayGoes_86 K f (nI m) τ' := by
    intro d
    induction d with
    | zero =>
      intro f m τ' hd hf hm d1 f1 h60 h58 h61
      obtain ⟨f, rfl⟩ : ∃ f', f = f' + 1 := ⟨f - 1, by omega⟩
      obtain rfl : m = iC I 1 := by omega
      unfold T_dayGoes_86
      have hcl := cntB_le s.1 (iC I 0)
      refine T_menderMany_law d1.1 (br_t (nI_le (by omega) (by omega)) ⟨11, day_119 9 11 s _ τ' (by omega) (by omega) hday d1 (fun u hu => ⟨h61 u hu, (hE.1.2.2.2.1 u hu).2.2⟩) (fun τ2 d2 f2 h602 h582 => hk τ2 d2 (f1.trans f2) (fun j => by rw [h602, h60]) (by rw [h582, h58]))⟩)
    | succ d ih =>
      intro f m τ' hd hf hm d1 f1 h60 h58 h61
      obtain ⟨f, rfl⟩ : ∃ f', f = f' + 1 := ⟨f - 1, by omega⟩
      unfold T_dayGoes_86
      refine T_menderMany_law d1.1 (br_f (nI_ge (by omega) (by omega)) ?_)
      rw [show (9 : Int32) + 2 * nI m = nI (9 + 2 * m) from i2 m 9, nI_clamp (by omega), nI_clamp (by omega), nI_1, show 9 + 2 * m = 8 + (2 * m + 1) by omega, d1.1.2.1.2.2.2.1 (2 * m + 1) (by omega)]
      refine ⟨vi_ (by omega) (by omega), vi_ (by omega) (by omega), st_ (ih f (m + 1) _ (by omega) (by omega) (by omega) (d1.sc (by omega)) (f1.w (by omega)) (fun j => by rw [sI_neI (by omega)]; exact h60 j) (by rw [sI_neI (by omega)]; exact h58) (fun u hu => ?_))⟩
      by_cases e : u = m
      · subst e; rw [sI_same]; rfl
      · rw [sI_ne (by omega)]; exact h61 u (by omega)
  exact lp (iC I 1) _ 0 τ rfl (by omega) (by omega) h (FrD.refl _ τ) (fun _ => rfl) rfl (fun u hu => absurd hu (by omega))
theorem spBrs_0 (v : Nat) (s : St) : ∀ n, n ≤ 8 → (spBrs v n s).1 0 = s.1 0
  | 0, _ => rfl
  | n + 1, h => by
    have ih := spBrs_0 v s n (by omega)
    show (if v.testBit n then spBreak (spBrs v n s) n else spBrs v n s).1 0 = _
    split
    · unfold spBreak; rw [spKeep_1]; unfold brS; dsimp only
      rw [fu_ne (by omega), fu_ne (by omega), fu_ne (by omega)]; exact ih
    · exact ih
def cntT (v n : Nat) : Nat := lpN (fun t a => a + (if v.testBit t then 1 else 0)) n 0
theorem cntT_top {v : Nat} {n : Nat} (hv : ∀ t, n ≤ t → v.testBit t = false) : ∀ d, cntT v (n + d) = cntT v n
  | 0 => rfl
  | d + 1 => by
    show cntT v (n + d) + (if v.testBit (n + d) then 1 else 0) = _
    rw [hv (n + d) (by omega), if_neg (by decide), cntT_top hv d]; rfl
theorem cntT_bc {v n : Nat} (hn : n ≤ 8) (hv : ∀ t, n ≤ t → v.testBit t = false) : cntT v n = bcN v := by
  have := cntT_top hv (8 - n)
  rw [show n + (8 - n) = 8 by omega] at this
  exact this.symm
theorem day_56 {K : Sto → Prop} {v : Nat} (hv : v < 256) (hvb : ∀ t, iC I 0 ≤ t → v.testBit t = false) (h : DC I fr th s τ) (h60 : ∀ t, t < iC I 0 → τ.1 60 t = b1 (v.testBit t))
    (hk : ∀ τ', DC I fr th (spBrs v (iC I 0) s) τ' → FrD th τ τ' → (∀ j, τ'.1 60 j = τ.1 60 j) → τ'.1 0 58 = τ.1 0 58 + nI (bcN v) → ∃ n, T_dayGoes_86 K n 0 τ') : ∃ n, T_dayGoes_56 K n 0 τ := by
  have hc := h.1.c
  refine ⟨iC I 0 + 1, ?_⟩
  have lp : ∀ (d f t : Nat) (τ' : Sto), iC I 0 - t = d → d < f → t ≤ iC I 0 → DC I fr th (spBrs v t s) τ' → FrD th τ τ' → (∀ j, τ'.1 60 j = τ.1 60 j) → τ'.1 0 58 = τ.1 0 58 + nI (cntT v t) → T_dayGoes_56 K f (nI t) τ' := by
    intro d
    induction d with
    | zero =>
      intro f t τ' hd hf ht d1 f1 g60 g58
      obtain ⟨f, rfl⟩ : ∃ f', f = f' + 1 := ⟨f - 1, by omega⟩
      obtain rfl : t = iC I 0 := by omega
      unfold T_dayGoes_56
      exact T_thingMany_law d1.1 (br_t (nI_le (by omega) (by omega)) (hk τ' d1 f1 g60 (by rw [g58, cntT_bc hc.1 hvb])))
    | succ d ih =>
      intro f t τ' hd hf ht d1 f1 g60 g58
      obtain ⟨f, rfl⟩ : ∃ f', f = f' + 1 := ⟨f - 1, by omega⟩
      unfold T_dayGoes_56
      refine T_thingMany_law d1.1 (br_f (nI_ge (by omega) (by omega)) ⟨vi_ (by omega) (by omega), ?_⟩)
      rw [nI_clamp (by omega), g60 t, h60 t (by omega), nI_1]
      have es : spBrs v (t + 1) s = if v.testBit t then spBreak (spBrs v t s) t else spBrs v t s := rfl
      have ec : cntT v (t + 1) = cntT v t + (if v.testBit t then 1 else 0) := rfl
      cases e : v.testBit t with
      | false =>
        rw [e, if_neg (by decide)] at es ec
        refine br_t rfl (ih f (t + 1) τ' (by omega) (by omega) (by omega) (by rw [es]; exact d1) f1 g60 (by rw [ec]; exact g58))
      | true =>
        rw [e, if_pos rfl] at es ec
        refine br_f (by decide) (T_isBreaking_law d1 (by omega) fun τ2 d2 f2 e58 => ih f (t + 1) τ2 (by omega) (by omega) (by omega) (by rw [es]; exact d2) (f1.trans (FrD.ofK f2)) (fun j => by rw [f2.1 60 j (by omega) (by omega)]; exact g60 j) ?_)
        rw [ec, e58, g58, Int32.add_assoc, nI_1]
  exact lp (iC I 0) _ 0 τ rfl (by omega) (by omega) h (FrD.refl _ τ) (fun _ => rfl) (by rw [show cntT v 0 = 0 from rfl]; show _ = _ + 0; rw [Int32.add_zero])
theorem nar_b0 : vp_nar .boolean 0 = 0 := by decide
theorem nar_b1 : vp_nar .boolean 1 = 1 := by decide
/-- the model's day -/
theorem T_dayGoes_law {K : Sto → Prop} (h : DC I fr th s τ) (hday : s.1 0 < 99999)
    (hk : ∀ τ', DC I fr th (spDay I fr s).2 τ' → FrD th τ τ' → (∀ t, t < iC I 0 → τ'.1 60 t = b1 ((spDay I fr s).1.testBit t)) → τ'.1 0 58 = τ.1 0 58 + nI (bcN (spDay I fr s).1) → K τ') : T_dayGoes τ K := by
  have hE := h.1
  have hc := hE.c
  refine ⟨iC I 0 + 1, ?_⟩
  have hvlt : spBro I fr s.1 < 256 := setN_256 _ hc.1
  have hvb : ∀ t, iC I 0 ≤ t → (spBro I fr s.1).testBit t = false := fun t ht => by unfold spBro; rw [setN_bit, decide_eq_false (by omega), Bool.false_and]
  have hvt : ∀ t, t < iC I 0 → (spBro I fr s.1).testBit t = (decide (s.1 (1 + 5 * t) ≠ 1) && spFalls I fr s.1 t) := fun t ht => by unfold spBro; rw [setN_bit, decide_eq_true ht, Bool.true_and]
  have lp : ∀ (d f t : Nat) (τ' : Sto), iC I 0 - t = d → d < f → t ≤ iC I 0 → DC I fr th s τ' → FrD th τ τ' → τ'.1 0 58 = τ.1 0 58 → (∀ u, u < t → τ'.1 60 u = b1 ((spBro I fr s.1).testBit u)) → T_dayGoes_2 K f (nI t) τ' := by
    intro d
    induction d with
    | zero =>
      intro f t τ' hd hf ht d1 f1 g58 g60
      obtain ⟨f, rfl⟩ : ∃ f', f = f' + 1 := ⟨f - 1, by omega⟩
      obtain rfl : t = iC I 0 := by omega
      unfold T_dayGoes_2
      refine T_thingMany_law d1.1 (br_t (nI_le (by omega) (by omega)) (day_56 hvlt hvb d1 g60 fun τ2 d2 f2 h2 e2 => day_86 d2 (by rw [spBrs_0 _ _ _ hc.1]; exact hday) fun τ3 d3 f3 h3 e3 => hk τ3 d3 ((f1.trans f2).trans f3) (fun u hu => by rw [h3, h2]; exact g60 u hu) (by rw [e3, e2, g58]; rfl)))
    | succ d ih =>
      intro f t τ' hd hf ht d1 f1 g58 g60
      obtain ⟨f, rfl⟩ : ∃ f', f = f' + 1 := ⟨f - 1, by omega⟩
      have hb1 := hE.2.2.2.1.2.1 (1 + 5 * t) (by omega) (by omega)
      unfold T_dayGoes_2
      -- the flag is set
      have put : ∀ (τ2 : Sto) (b : Bool) (x : Int32), x = b1 b → (spBro I fr s.1).testBit t = b → FrE τ' τ2 → vp_in (nI t) 8 ∧ (∀ τ14 : Sto, τ14 = sI τ2 60 (Int32.toNatClampNeg (nI t)) x → T_dayGoes_2 K f (nI t + 1) τ14) := by
        intro τ2 b x hx hb f2
        refine ⟨vi_ (by omega) (by omega), st_ ?_⟩
        rw [nI_clamp (by omega), nI_1]
        refine ih f (t + 1) _ (by omega) (by omega) (by omega) ((d1.frE f2).sc (by omega)) ((f1.trans (FrD.ofE f2)).w (by omega)) (by rw [sI_neI (by omega), f2.1 0 58 (by omega)]; exact g58) (fun u hu => ?_)
        by_cases e : u = t
        · subst e; rw [sI_same, hb]; exact hx
        · rw [sI_ne (by omega), f2.1 60 u (by omega)]; exact g60 u (by omega)
      refine T_thingMany_law d1.1 (br_f (nI_ge (by omega) (by omega)) (T_stateOf_law d1.1 (by omega) ?_))
      by_cases e1 : s.1 (1 + 5 * t) = 1
      · exact bn_f (by rw [e1]; rfl) (bn_t (by decide) (put τ' false _ nar_b0 (by rw [hvt t (by omega), decide_eq_false (by simpa using e1), Bool.false_and]) (FrE.refl _)))
      · refine bn_t (fun z => e1 ((nI_eq (b := 1) (by omega) (by omega)).mp z)) (bn_f rfl (T_isTold_law (w := 1) d1.1 (by omega) (fun hT hV => br_t rfl (put τ' false _ nar_b0 ?_ (FrE.refl _))) (fun hs => br_f (by decide) ?_)))
        · rw [hvt t (by omega), show spFalls I fr s.1 t = false by unfold spFalls; rw [hT], Bool.and_false]
        · cases hT : iT I 1 with
          | none =>
            rw [hT, hE.1.2.2.2.2.2.2.2.2] at hs
            rcases hs with h | h <;> cases h
          | some v =>
            refine tell_T (w := 1) d1.1 (by omega) (by omega) (by omega) hT fun τ2 f2 => ?_
            have hs : (spBro I fr s.1).testBit t = v (evC I fr s.1 t 0) := by rw [hvt t (by omega), decide_eq_true (by simpa using e1), Bool.true_and]; unfold spFalls; rw [hT]
            cases hv : v (evC I fr s.1 t 0) with
            | true => exact bn_f rfl (put τ2 true _ nar_b1 (by rw [hs, hv]) f2)
            | false => exact bn_t (by decide) (put τ2 false _ nar_b0 (by rw [hs, hv]) f2)
  exact lp (iC I 0) _ 0 τ rfl (by omega) (by omega) h (FrD.refl _ τ) rfl (fun u hu => absurd hu (by omega))
end TDz
