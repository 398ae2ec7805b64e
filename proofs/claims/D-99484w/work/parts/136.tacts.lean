/-! PURE SIDE: acts and their undoing; the model's. -/
def StW (s : St) : Prop := (∀ t, t < 8 → s.1 (1 + 5 * t) ≤ 2 ∧ s.1 (2 + 5 * t) ≤ 99 ∧ s.1 (3 + 5 * t) ≤ 99 ∧ s.1 (4 + 5 * t) ≤ 99 ∧ s.1 (5 + 5 * t) ≤ 1) ∧ s.2.1 ≤ 50
theorem StOK.w {s : St} (h : StOK s) : StW s := h.2
theorem StW.keep {s : St} {t what : Nat} (h : StW s) : StW (spKeep s t what) := by
  unfold spKeep
  split
  · exact ⟨h.1, Nat.le_refl _⟩
  · refine ⟨h.1, ?_⟩
    have := h.2
    show s.2.1 + 1 ≤ 50
    omega
theorem StW.brk {s : St} {t : Nat} (h : StW s) (ht : t < 8) : StW (spBreak s t) := by
  refine StW.keep ⟨fun u hu => ?_, h.2⟩
  have hu' := h.1 u hu
  show brS s.1 t (1 + 5 * u) ≤ 2 ∧ brS s.1 t (2 + 5 * u) ≤ 99 ∧ brS s.1 t (3 + 5 * u) ≤ 99 ∧ brS s.1 t (4 + 5 * u) ≤ 99 ∧ brS s.1 t (5 + 5 * u) ≤ 1
  unfold brS
  by_cases e : u = t
  · subst e
    rw [fu_ne (by omega), fu_ne (by omega), fu_same, fu_ne (by omega), fu_same, fu_ne (by omega), fu_ne (by omega), fu_ne (by omega), fu_ne (by omega), fu_ne (by omega), fu_ne (by omega), fu_same]
    omega
  · rw [fu_ne (by omega), fu_ne (by omega), fu_ne (by omega), fu_ne (by omega), fu_ne (by omega), fu_ne (by omega), fu_ne (by omega), fu_ne (by omega), fu_ne (by omega), fu_ne (by omega), fu_ne (by omega), fu_ne (by omega), fu_ne (by omega), fu_ne (by omega), fu_ne (by omega)]
    exact hu'
theorem StW.mnd {I : Isl} {fr : Int32 × Int32} {s : St} {t m : Nat} (h : StW s) (hI : IslOK I) (ht : t < 8) (hm : m < iC I 1) : StW (spMend I fr s t m) := by
  have hf := spFine_le (fr := fr) (t := t) (s := s.1) hI hm
  refine StW.keep ⟨fun u hu => ?_, h.2⟩
  have hu' := h.1 u hu
  show meS s.1 t (spFine I fr s.1 t m) (1 + 5 * u) ≤ 2 ∧ meS s.1 t (spFine I fr s.1 t m) (2 + 5 * u) ≤ 99 ∧ meS s.1 t (spFine I fr s.1 t m) (3 + 5 * u) ≤ 99 ∧ meS s.1 t (spFine I fr s.1 t m) (4 + 5 * u) ≤ 99 ∧ meS s.1 t (spFine I fr s.1 t m) (5 + 5 * u) ≤ 1
  unfold meS
  by_cases e : u = t
  · subst e
    rw [fu_ne (by omega), fu_ne (by omega), fu_same, fu_ne (by omega), fu_ne (by omega), fu_ne (by omega), fu_ne (by omega), fu_same, fu_same, fu_ne (by omega), fu_ne (by omega), fu_ne (by omega)]
    omega
  · rw [fu_ne (by omega), fu_ne (by omega), fu_ne (by omega), fu_ne (by omega), fu_ne (by omega), fu_ne (by omega), fu_ne (by omega), fu_ne (by omega), fu_ne (by omega), fu_ne (by omega), fu_ne (by omega), fu_ne (by omega), fu_ne (by omega), fu_ne (by omega), fu_ne (by omega)]
    exact hu'
theorem brk_day {s : St} {t : Nat} : (spBreak s t).1 0 = s.1 0 := by
  unfold spBreak; rw [spKeep_1]; show brS s.1 t 0 = _; unfold brS; rw [fu_ne (by omega), fu_ne (by omega), fu_ne (by omega)]
theorem mnd_day {I : Isl} {fr : Int32 × Int32} {s : St} {t m : Nat} : (spMend I fr s t m).1 0 = s.1 0 := by
  unfold spMend; rw [spKeep_1]; show meS s.1 t _ 0 = _; unfold meS; rw [fu_ne (by omega), fu_ne (by omega), fu_ne (by omega)]
theorem StW.brs {v : Nat} {s : St} (h : StW s) : ∀ n, n ≤ 8 → StW (spBrs v n s)
  | 0, _ => h
  | n + 1, hn => by
    have ih := StW.brs (v := v) h n (by omega)
    show StW (if v.testBit n then spBreak (spBrs v n s) n else spBrs v n s)
    split
    · exact ih.brk (by omega)
    · exact ih
theorem StW.me {I : Isl} {fr : Int32 × Int32} (hI : IslOK I) : ∀ (g : Nat) (s : St) (left : Nat → Nat), StW s → StW (spMe I fr g s left) ∧ (spMe I fr g s left).1 0 = s.1 0
  | 0, s, _, h => ⟨h, rfl⟩
  | g + 1, s, left, h => by
    have hc := hI.1
    show StW (match spNext I fr s.1 left with | none => s | some t => match spBy I fr s.1 left t with | none => s | some m => spMe I fr g (spMend I fr s t m) (fu_ left m (left m - spTakes I fr s.1 t m))) ∧ (match spNext I fr s.1 left with | none => s | some t => match spBy I fr s.1 left t with | none => s | some m => spMe I fr g (spMend I fr s t m) (fu_ left m (left m - spTakes I fr s.1 t m))).1 0 = s.1 0
    cases hn : spNext I fr s.1 left with
    | none => exact ⟨h, rfl⟩
    | some t =>
      show StW (match spBy I fr s.1 left t with | none => s | some m => spMe I fr g (spMend I fr s t m) (fu_ left m (left m - spTakes I fr s.1 t m))) ∧ (match spBy I fr s.1 left t with | none => s | some m => spMe I fr g (spMend I fr s t m) (fu_ left m (left m - spTakes I fr s.1 t m))).1 0 = s.1 0
      cases hb : spBy I fr s.1 left t with
      | none => exact ⟨h, rfl⟩
      | some m =>
        have q := nxS_inv _ t hn
        have ih := StW.me (fr := fr) hI g (spMend I fr s t m) (fu_ left m (left m - spTakes I fr s.1 t m)) (h.mnd hI (by omega) (spBy_some hb).1)
        exact ⟨ih.1, by rw [← mnd_day (I := I) (fr := fr) (s := s) (t := t) (m := m)]; exact ih.2⟩
theorem StW.day {I : Isl} {fr : Int32 × Int32} {s : St} (hI : IslOK I) (h : StW s) : StW (spDay I fr s).2 ∧ (spDay I fr s).2.1 0 = s.1 0 + 1 := by
  have hc := hI.1
  have h1 := h.brs (v := spBro I fr s.1) (iC I 0) hc.1
  obtain ⟨h2, h3⟩ := StW.me (fr := fr) hI 9 _ (fun m => iX I (24 + 2 * m + 1)) h1
  refine ⟨⟨fun t ht => ?_, h2.2⟩, ?_⟩
  · have := h2.1 t ht
    unfold spDay
    dsimp only
    rw [fu_ne (by omega), fu_ne (by omega), fu_ne (by omega), fu_ne (by omega), fu_ne (by omega)]
    exact this
  · unfold spDay
    dsimp only
    rw [fu_same, h3, spBrs_0 _ _ _ hc.1]
def aSetS (a : AS) (s : St) (U : List St) : AS := (aTp a, aTn a, aFk a, aFp a, aRf a, aI a, s, U, aSd a, aOu a, aOn a)
def aKeep (a : AS) : AS := aSetS a (aS a) ((aS a :: aU a).take 20)
section TAc
variable {a : AS} {τ τ' : Sto} {K : Int32 → Sto → Prop}
/-- what is has changed, nothing else that counts -/
theorem RT.day (h : RT a τ) {s : St} (hs : StOK s) (d : DC (aI a) (-1, 0) false s τ') (f : FrD false τ τ') : RT (aSetS a s (aU a)) τ' := by
  obtain ⟨⟨a1, a2, a3, a4⟩, ⟨b1, b2, b3⟩, c, ⟨d1, d2, d3⟩, -, ⟨u1, u2, nw, u3, u4, u5⟩, ⟨g1, g2⟩, ⟨o1, o2, o3⟩, ⟨f1, f2, cc, f3, f4⟩⟩ := h
  have e : ∀ i j, ¬ (i = 0 ∧ (j = 50 ∨ j = 55 ∨ j = 98 ∨ j = 58)) → i ≠ 52 → i ≠ 60 → i ≠ 61 → τ'.1 i j = τ.1 i j := fun i j h1 h2 h3 h4 => f.1 i j h1 (by omega) h3 h4
  refine ⟨⟨a1, by rw [e _ _ (by omega) (by omega) (by omega) (by omega)]; exact a2, fun i hi => by rw [e _ _ (by omega) (by omega) (by omega) (by omega)]; exact a3 i hi, a4⟩, ⟨by rw [e _ _ (by omega) (by omega) (by omega) (by omega)]; exact b1, by rw [e _ _ (by omega) (by omega) (by omega) (by omega)]; exact b2, fun i hi => by rw [e _ _ (by omega) (by omega) (by omega) (by omega)]; exact b3 i hi⟩, fun p hp i hi => ?_, ⟨d1, d2.congr (fun i j hi => e i j (by omega) (by omega) (by omega) (by omega)) (fun j => f.2 41 j (by omega)), by rw [e _ _ (by omega) (by omega) (by omega) (by omega)]; exact d3⟩, ⟨hs, ⟨fun i hi => by rw [Nat.zero_add]; exact d.1.st_ hi, by rw [Nat.zero_add]; exact (d.2.2.2 rfl).1, fun j hj => by rw [Nat.zero_add]; exact (d.2.2.2 rfl).2 j hj⟩⟩, ⟨u1, by rw [e _ _ (by omega) (by omega) (by omega) (by omega)]; exact u2, nw, u3, by rw [e _ _ (by omega) (by omega) (by omega) (by omega)]; exact u4, fun j s hj => ⟨(u5 j s hj).1, (u5 j s hj).2.mv (u5 j s hj).1 (fun j hj => e _ _ (by omega) (by omega) (by omega) (by omega))⟩⟩, ⟨by rw [f.2 0 67 (by omega)]; exact g1, g2⟩, ⟨o1, by rw [e _ _ (by omega) (by omega) (by omega) (by omega)]; exact o2, fun i hi => ⟨by rw [e _ _ (by omega) (by omega) (by omega) (by omega)]; exact (o3 i hi).1, (o3 i hi).2⟩⟩, ⟨by rw [e _ _ (by omega) (by omega) (by omega) (by omega)]; exact f1, by rw [e _ _ (by omega) (by omega) (by omega) (by omega)]; exact f2, cc, f3, by rw [e _ _ (by omega) (by omega) (by omega) (by omega)]; exact f4⟩⟩
  have : ∀ p, p ∈ wTab → p.1 ≠ 0 ∧ p.1 ≠ 52 ∧ p.1 ≠ 60 ∧ p.1 ≠ 61 := by decide
  have := this p hp
  rw [e _ _ (by omega) (by omega) (by omega) (by omega)]; exact c p hp i hi
/-- what was has changed -/
theorem RT.und (h : RT a τ) {U : List St} {s : St} (hs : StOK s) (hS : StR τ' 52 0 s) (hU : UnR τ' U) (e : ∀ i j, ¬ (i = 0 ∧ (j = 65 ∨ j = 66)) → i ≠ 52 → i ≠ 65 → τ'.1 i j = τ.1 i j) (el : τ'.2.1 = τ.2.1) : RT (aSetS a s U) τ' := by
  obtain ⟨⟨a1, a2, a3, a4⟩, ⟨b1, b2, b3⟩, c, ⟨d1, d2, d3⟩, -, -, ⟨g1, g2⟩, ⟨o1, o2, o3⟩, ⟨f1, f2, cc, f3, f4⟩⟩ := h
  refine ⟨⟨a1, by rw [e _ _ (by omega) (by omega) (by omega)]; exact a2, fun i hi => by rw [e _ _ (by omega) (by omega) (by omega)]; exact a3 i hi, a4⟩, ⟨by rw [e _ _ (by omega) (by omega) (by omega)]; exact b1, by rw [e _ _ (by omega) (by omega) (by omega)]; exact b2, fun i hi => by rw [e _ _ (by omega) (by omega) (by omega)]; exact b3 i hi⟩, fun p hp i hi => ?_, ⟨d1, d2.congr (fun i j hi => e i j (by omega) (by omega) (by omega)) (fun j => by rw [el]), by rw [e _ _ (by omega) (by omega) (by omega)]; exact d3⟩, ⟨hs, hS⟩, hU, ⟨by rw [el]; exact g1, g2⟩, ⟨o1, by rw [e _ _ (by omega) (by omega) (by omega)]; exact o2, fun i hi => ⟨by rw [e _ _ (by omega) (by omega) (by omega)]; exact (o3 i hi).1, (o3 i hi).2⟩⟩, ⟨by rw [e _ _ (by omega) (by omega) (by omega)]; exact f1, by rw [e _ _ (by omega) (by omega) (by omega)]; exact f2, cc, f3, by rw [e _ _ (by omega) (by omega) (by omega)]; exact f4⟩⟩
  have : ∀ p, p ∈ wTab → p.1 ≠ 0 ∧ p.1 ≠ 52 ∧ p.1 ≠ 65 := by decide
  have := this p hp
  rw [e _ _ (by omega) (by omega) (by omega)]; exact c p hp i hi
theorem nw_up : ∀ nw, nw < 20 → nI nw + 1 - (nI nw + 1) / 20 * 20 = nI ((nw + 1) % 20) := by decide +kernel
theorem nw_dn : ∀ nw, nw < 20 → nI nw + 20 - 1 - (nI nw + 20 - 1) / 20 * 20 = nI ((nw + 19) % 20) := by decide +kernel
theorem T_keeps_law {K : Sto → Prop} (h : RT a τ) (hk : ∀ τ', RT (aKeep a) τ' → K τ') : T_keeps τ K := by
  obtain ⟨s1, s2⟩ := h.2.2.2.2.1
  obtain ⟨u1, u2, nw, u3, u4, u5⟩ := h.2.2.2.2.2.1
  refine st_ ⟨193, ?_⟩
  rw [u4, nw_up nw u3]
  have hq : (nw + 1) % 20 < 20 := Nat.mod_lt _ (by omega)
  have lp : ∀ (d f x : Nat) (τ' : Sto), 192 - x = d → d < f → x ≤ 192 → (∀ i j, τ'.1 i j = if i = 0 ∧ j = 66 then nI ((nw + 1) % 20) else if i = 65 ∧ 192 * ((nw + 1) % 20) ≤ j ∧ j < 192 * ((nw + 1) % 20) + x then τ.1 52 (j - 192 * ((nw + 1) % 20)) else τ.1 i j) → τ'.2.1 = τ.2.1 → T_keeps_15 K f (nI x) τ' := by
    intro d
    induction d with
    | zero =>
      intro f x τ' hd hf hx e el
      obtain ⟨f, rfl⟩ : ∃ f', f = f' + 1 := ⟨f - 1, by omega⟩
      obtain rfl : x = 192 := by omega
      unfold T_keeps_15
      refine br_t (by decide) ?_
      have e65 : τ'.1 0 65 = nI (aU a).length := by rw [e, if_neg (by omega), if_neg (by omega)]; exact u2
      have e66 : τ'.1 0 66 = nI ((nw + 1) % 20) := by rw [e, if_pos ⟨rfl, rfl⟩]
      have eo : ∀ i j, ¬ (i = 0 ∧ (j = 65 ∨ j = 66)) → i ≠ 52 → i ≠ 65 → τ'.1 i j = τ.1 i j := fun i j h1 h2 h3 => by rw [e, if_neg (by omega), if_neg (by omega)]
      have e52 : ∀ j, τ'.1 52 j = τ.1 52 j := fun j => by rw [e, if_neg (by omega), if_neg (by omega)]
      have hrow : ∀ j s, ((aS a :: aU a).take 20)[j]? = some s → StOK s ∧ StR τ' 65 (192 * (((nw + 1) % 20 + 20 - j) % 20)) s := by
        intro j s hj
        have hj20 : j < 20 := by
          have := (List.getElem?_eq_some_iff.mp hj).1
          rw [List.length_take] at this
          omega
        rw [List.getElem?_take_of_lt hj20] at hj
        cases j with
        | zero =>
          rw [List.getElem?_cons_zero] at hj
          cases hj
          refine ⟨s1, s2.mv s1 (fun i hi => ?_)⟩
          rw [Nat.sub_zero, Nat.add_mod_right, Nat.mod_mod, e, if_neg (by omega), if_pos ⟨rfl, by omega, by omega⟩, Nat.add_sub_cancel_left, Nat.zero_add]
        | succ j =>
          rw [List.getElem?_cons_succ] at hj
          obtain ⟨v1, v2⟩ := u5 j s hj
          refine ⟨v1, v2.mv v1 (fun i hi => ?_)⟩
          have e1 : ((nw + 1) % 20 + 20 - (j + 1)) % 20 = (nw + 20 - j) % 20 := by omega
          have e2 : (nw + 20 - j) % 20 ≠ (nw + 1) % 20 := by omega
          rw [e1, e, if_neg (by omega), if_neg]
          rintro ⟨-, z1, z2⟩
          have : (nw + 20 - j) % 20 < 20 := Nat.mod_lt _ (by omega)
          have hd := Nat.lt_or_gt_of_ne e2
          rcases hd with hd | hd <;> omega
      by_cases h20 : 20 ≤ (aU a).length
      · refine br_t (by rw [e65]; exact show nI 20 ≤ nI _ from nI_le h20 (by omega)) (hk τ' (h.und s1 (s2.mv s1 (fun j hj => e52 _)) ⟨?_, ?_, _, hq, e66, hrow⟩ eo el))
        · rw [List.length_take]; omega
        · rw [e65, List.length_take, List.length_cons]; congr 1; omega
      · refine br_f (by rw [e65]; exact show ¬ nI 20 ≤ nI _ from nI_ge (by omega) (by omega)) (st_ (hk _ (h.und s1 (s2.mv s1 (fun j hj => ?_)) ⟨?_, ?_, _, hq, ?_, fun j s hj => ⟨(hrow j s hj).1, (hrow j s hj).2.mv (hrow j s hj).1 (fun i hi => ?_)⟩⟩ (fun i j h1 h2 h3 => ?_) el)))
        · rw [sI_neI (by omega)]; exact e52 _
        · rw [List.length_take]; omega
        · rw [sI_same, e65, nI_1, List.length_take, List.length_cons]; congr 1; omega
        · rw [sI_ne (by omega)]; exact e66
        · rw [sI_neI (by omega)]
        · rw [sI_ne (by omega)]; exact eo i j h1 h2 h3
    | succ d ih =>
      intro f x τ' hd hf hx e el
      obtain ⟨f, rfl⟩ : ∃ f', f = f' + 1 := ⟨f - 1, by omega⟩
      unfold T_keeps_15
      have e66 : τ'.1 0 66 = nI ((nw + 1) % 20) := by rw [e, if_pos ⟨rfl, rfl⟩]
      rw [e66, show (192 : Int32) * nI ((nw + 1) % 20) + nI x = nI (192 * ((nw + 1) % 20) + x) by show nI 192 * _ + _ = _; rw [nI_mul, nI_add], nI_clamp (by omega), nI_clamp (by omega), nI_1]
      refine br_f (show ¬ nI 192 ≤ nI x from nI_ge (by omega) (by omega)) ⟨vi_ (by omega) (by omega), vi_ (by omega) (by omega), st_ (ih f (x + 1) _ (by omega) (by omega) (by omega) (fun i j => ?_) el)⟩
      rw [sI_1]
      by_cases c : i = 65 ∧ j = 192 * ((nw + 1) % 20) + x
      · obtain ⟨rfl, rfl⟩ := c
        rw [if_pos ⟨rfl, rfl⟩, if_neg (by omega), if_pos ⟨rfl, by omega, by omega⟩, e, if_neg (by omega), if_neg (by omega), Nat.add_sub_cancel_left]
      · rw [if_neg c, e]
        by_cases c1 : i = 0 ∧ j = 66
        · rw [if_pos c1, if_pos c1]
        rw [if_neg c1, if_neg c1]
        by_cases c2 : i = 65 ∧ 192 * ((nw + 1) % 20) ≤ j ∧ j < 192 * ((nw + 1) % 20) + x
        · rw [if_pos c2, if_pos ⟨c2.1, c2.2.1, by omega⟩]
        · rw [if_neg c2, if_neg (by omega)]
  exact lp 192 193 0 _ rfl (by omega) (by omega) (fun i j => by rw [sI_1, if_neg (show ¬ (i = 65 ∧ 192 * ((nw + 1) % 20) ≤ j ∧ j < 192 * ((nw + 1) % 20) + 0) by omega)]) rfl
def sp_undo (a : AS) : Int32 × AS := match aU a with
  | [] => (0, aRef a 4)
  | s :: U => (1, aSetS a s U)
theorem T_undo_law (h : RT a τ) (hk : ∀ τ', RT (sp_undo a).2 τ' → K (sp_undo a).1 τ') : T_undo τ K := by
  obtain ⟨s1, s2⟩ := h.2.2.2.2.1
  obtain ⟨u1, u2, nw, u3, u4, u5⟩ := h.2.2.2.2.2.1
  unfold T_undo
  cases hU : aU a with
  | nil =>
    have hsp : sp_undo a = (0, aRef a 4) := by unfold sp_undo; rw [hU]
    rw [hsp] at hk
    rw [u2, hU]
    exact bn_f rfl ⟨vi_ (i := 4) (by omega) (by omega), vi_ (i := 4) (by omega) (by omega), st_ (hk _ (h.ref (k := 4) (by omega)))⟩
  | cons s U =>
    have hsp : sp_undo a = (1, aSetS a s U) := by unfold sp_undo; rw [hU]
    rw [hsp] at hk
    rw [hU] at u1 u2 u5
    rw [List.length_cons] at u1 u2
    refine bn_t (by rw [u2]; exact nI_ne0 (by omega) (by omega)) ⟨193, ?_⟩
    obtain ⟨v1, v2⟩ := u5 0 s rfl
    rw [Nat.sub_zero, Nat.add_mod_right, Nat.mod_eq_of_lt u3] at v2
    have lp : ∀ (d f x : Nat) (τ' : Sto), 192 - x = d → d < f → x ≤ 192 → (∀ i j, τ'.1 i j = if i = 52 ∧ j < x then τ.1 65 (192 * nw + j) else τ.1 i j) → τ'.2.1 = τ.2.1 → T_undo_21 K f (nI x) τ' := by
      intro d
      induction d with
      | zero =>
        intro f x τ' hd hf hx e el
        obtain ⟨f, rfl⟩ : ∃ f', f = f' + 1 := ⟨f - 1, by omega⟩
        obtain rfl : x = 192 := by omega
        unfold T_undo_21
        have e66 : τ'.1 0 66 = nI nw := by rw [e, if_neg (by omega)]; exact u4
        have e65 : τ'.1 0 65 = nI (U.length + 1) := by rw [e, if_neg (by omega)]; exact u2
        refine br_t (by decide) (st_ (st_ (hk _ (h.und v1 (v2.mv v1 (fun j hj => ?_)) ⟨by omega, ?_, (nw + 19) % 20, Nat.mod_lt _ (by omega), ?_, fun j s' hj => ?_⟩ (fun i j h1 h2 h3 => ?_) el))))
        · rw [sI_neI (by omega), sI_neI (by omega), e, if_pos ⟨rfl, by omega⟩, Nat.zero_add]
        · rw [sI_same, sI_ne (by omega), e65, nI_pred]
        · rw [sI_ne (by omega), sI_same, e66, nw_dn nw u3]
        · obtain ⟨w1, w2⟩ := u5 (j + 1) s' (by rw [List.getElem?_cons_succ]; exact hj)
          have hjl := (List.getElem?_eq_some_iff.mp hj).1
          refine ⟨w1, w2.mv w1 (fun i hi => ?_)⟩
          rw [sI_neI (by omega), sI_neI (by omega), e, if_neg (by omega), show ((nw + 19) % 20 + 20 - j) % 20 = (nw + 20 - (j + 1)) % 20 by omega]
        · rw [sI_ne (by omega), sI_ne (by omega), e, if_neg (by omega)]
      | succ d ih =>
        intro f x τ' hd hf hx e el
        obtain ⟨f, rfl⟩ : ∃ f', f = f' + 1 := ⟨f - 1, by omega⟩
        unfold T_undo_21
        have e66 : τ'.1 0 66 = nI nw := by rw [e, if_neg (by omega)]; exact u4
        rw [e66, show (192 : Int32) * nI nw + nI x = nI (192 * nw + x) by show nI 192 * _ + _ = _; rw [nI_mul, nI_add], nI_clamp (by omega), nI_clamp (by omega), nI_1]
        refine br_f (show ¬ nI 192 ≤ nI x from nI_ge (by omega) (by omega)) ⟨vi_ (by omega) (by omega), vi_ (by omega) (by omega), st_ (ih f (x + 1) _ (by omega) (by omega) (by omega) (fun i j => ?_) el)⟩
        rw [sI_1]
        by_cases c : i = 52 ∧ j = x
        · obtain ⟨rfl, rfl⟩ := c
          rw [if_pos ⟨rfl, rfl⟩, if_pos ⟨rfl, by omega⟩, e, if_neg (by omega)]
        · rw [if_neg c, e]
          by_cases c2 : i = 52 ∧ j < x
          · rw [if_pos c2, if_pos ⟨c2.1, by omega⟩]
          · rw [if_neg c2, if_neg (by omega)]
    exact lp 192 193 0 τ rfl (by omega) (by omega) (fun i j => by rw [if_neg (by omega)]) rfl
end TAc
