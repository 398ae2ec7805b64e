/-! PURE SIDE: a day; the model goes through it so. -/
def spByL (I : Isl) (fr : Int32 × Int32) (s left : Nat → Nat) (t : Nat) : Nat → Nat → Option Nat
  | 0, _ => none
  | d + 1, m => if spTakes I fr s t m ≤ left m then some m else spByL I fr s left t d (m + 1)
def spBy (I : Isl) (fr : Int32 × Int32) (s left : Nat → Nat) (t : Nat) : Option Nat := spByL I fr s left t (iC I 1) 0
def nxS (I : Isl) (fr : Int32 × Int32) (s left : Nat → Nat) (t : Nat) (a : Option Nat × Int64) : Option Nat × Int64 := if s (1 + 5 * t) = 1 ∧ (spBy I fr s left t).isSome = true ∧ (a.1 = none ∨ a.2 < spFirst I fr s t) then (some t, spFirst I fr s t) else a
def spNext (I : Isl) (fr : Int32 × Int32) (s left : Nat → Nat) : Option Nat := (lpN (nxS I fr s left) (iC I 0) (none, 0)).1
def spMe (I : Isl) (fr : Int32 × Int32) : Nat → St → (Nat → Nat) → St
  | 0, s, _ => s
  | f + 1, s, left => match spNext I fr s.1 left with
    | none => s
    | some t => match spBy I fr s.1 left t with
      | none => s
      | some m => spMe I fr f (spMend I fr s t m) (fu_ left m (left m - spTakes I fr s.1 t m))
def spBro (I : Isl) (fr : Int32 × Int32) (s : Nat → Nat) : Nat := setN (fun t => decide (s (1 + 5 * t) ≠ 1) && spFalls I fr s t) (iC I 0)
def spBrs (v : Nat) (n : Nat) (s : St) : St := lpN (fun t s => if v.testBit t then spBreak s t else s) n s
/-- a day: what broke, what is then -/
def spDay (I : Isl) (fr : Int32 × Int32) (s : St) : Nat × St :=
  (spBro I fr s.1, (fu_ (spMe I fr 9 (spBrs (spBro I fr s.1) (iC I 0) s) (fun m => iX I (24 + 2 * m + 1))).1 0 ((spMe I fr 9 (spBrs (spBro I fr s.1) (iC I 0) s) (fun m => iX I (24 + 2 * m + 1))).1 0 + 1), (spMe I fr 9 (spBrs (spBro I fr s.1) (iC I 0) s) (fun m => iX I (24 + 2 * m + 1))).2))
def cntB (s : Nat → Nat) (n : Nat) : Nat := lpN (fun t a => a + (if s (1 + 5 * t) = 1 then 1 else 0)) n 0
def FrD (th : Bool) (τ τ' : Sto) : Prop := (∀ i j, ¬ (i = 0 ∧ (j = 50 ∨ j = 55 ∨ j = 98 ∨ j = 58)) → ¬ (i = 52 ∧ (j < 41 ∨ th = false)) → i ≠ 60 → i ≠ 61 → τ'.1 i j = τ.1 i j) ∧ ∀ i j, i ≠ 98 → τ'.2.1 i j = τ.2.1 i j
theorem FrD.refl (th : Bool) (τ : Sto) : FrD th τ τ := ⟨fun _ _ _ _ _ _ => rfl, fun _ _ _ => rfl⟩
theorem FrD.trans {th : Bool} {τ τ' τ'' : Sto} (h : FrD th τ τ') (h' : FrD th τ' τ'') : FrD th τ τ'' := ⟨fun i j h1 h2 h3 h4 => by rw [h'.1 i j h1 h2 h3 h4, h.1 i j h1 h2 h3 h4], fun i j h1 => by rw [h'.2 i j h1, h.2 i j h1]⟩
theorem FrD.ofK {th : Bool} {τ τ' : Sto} (h : FrK th τ τ') : FrD th τ τ' := ⟨fun i j h1 h2 _ _ => h.1 i j h1 h2, h.2⟩
theorem FrD.ofE {th : Bool} {τ τ' : Sto} (h : FrE τ τ') : FrD th τ τ' := FrD.ofK (FrK.ofE h)
theorem FrD.w {th : Bool} {τ τ' : Sto} (h : FrD th τ τ') {i j : Nat} {v : Int32} (hi : i = 60 ∨ i = 61 ∨ (i = 52 ∧ j < 41)) : FrD th τ (sI τ' i j v) := ⟨fun a b h1 h2 h3 h4 => by rw [sI_ne (by rintro ⟨rfl, rfl⟩; rcases hi with h | h | h; exact h3 h; exact h4 h; exact h2 ⟨h.1, Or.inl h.2⟩)]; exact h.1 a b h1 h2 h3 h4, h.2⟩
section TDy
variable {I : Isl} {fr : Int32 × Int32} {th : Bool} {s : St} {left : Nat → Nat} {τ τ' : Sto} {t w m : Nat}
theorem EvC.sc {s : Nat → Nat} (h : EvC I fr s τ) {i j : Nat} {v : Int32} (hi : i = 60 ∨ i = 61) : EvC I fr s (sI τ i j v) := h.mv (fun a b _ => sI_neI (by omega)) (fun _ => rfl) (sI_neI (by omega)) (sI_neI (by omega)) (fun a ha => by rw [sI_neI (by omega)]; exact h.st_ ha) h.2.2.2.1
theorem DC.sc (h : DC I fr th s τ) {i j : Nat} {v : Int32} (hi : i = 60 ∨ i = 61) : DC I fr th s (sI τ i j v) := by
  obtain ⟨hE, h57, hkp, hrow⟩ := h
  exact ⟨hE.sc hi, by rw [sI_neI (by omega)]; exact h57, hkp, fun hth => ⟨by rw [sI_neI (by omega)]; exact (hrow hth).1, fun j hj => by rw [sI_neI (by omega)]; exact (hrow hth).2 j hj⟩⟩
theorem DC.frE (h : DC I fr th s τ) (f : FrE τ τ') : DC I fr th s τ' := by
  obtain ⟨hE, h57, hkp, hrow⟩ := h
  exact ⟨hE.fr_ f, by rw [f.1 0 57 (by omega)]; exact h57, hkp, fun hth => ⟨by rw [f.1 52 41 (by omega)]; exact (hrow hth).1, fun j hj => by rw [f.1 52 _ (by omega)]; exact (hrow hth).2 j hj⟩⟩
def HL (I : Isl) (left : Nat → Nat) (τ : Sto) : Prop := ∀ m, m < iC I 1 → τ.1 61 m = nI (left m) ∧ left m ≤ 24
theorem spTakes_rng {s : Nat → Nat} : 1 ≤ spTakes I fr s t m ∧ spTakes I fr s t m ≤ 99 := by
  unfold spTakes
  split
  · omega
  · exact clN_le (by omega)
theorem spByL_some {s : Nat → Nat} : ∀ (d m0 m : Nat), spByL I fr s left t d m0 = some m → m0 ≤ m ∧ m < m0 + d ∧ spTakes I fr s t m ≤ left m
  | 0, _, _, h => by cases h
  | d + 1, m0, m, h => by
    unfold spByL at h
    by_cases c : spTakes I fr s t m0 ≤ left m0
    · rw [if_pos c] at h
      cases h
      exact ⟨Nat.le_refl _, by omega, c⟩
    · rw [if_neg c] at h
      have := spByL_some d (m0 + 1) m h
      exact ⟨by omega, by omega, this.2.2⟩
theorem spBy_some {s : Nat → Nat} (h : spBy I fr s left t = some m) : m < iC I 1 ∧ spTakes I fr s t m ≤ left m := by
  have := spByL_some _ _ _ h
  exact ⟨by omega, this.2.2⟩
theorem T_menderFor_law {K : Int32 → Sto → Prop} {s : Nat → Nat} (h : EvC I fr s τ) (hL : HL I left τ) (ht : t < iC I 0) (hk : ∀ τ', FrE τ τ' → K (ixI (spBy I fr s left t)) τ') : T_menderFor τ (nI t) K := by
  have hc := h.c
  refine ⟨iC I 1 + 1, ?_⟩
  have lp : ∀ (d f m : Nat) (τ' : Sto), iC I 1 - m = d → d < f → m ≤ iC I 1 → FrE τ τ' → spByL I fr s left t d m = spBy I fr s left t → T_menderFor_2 K (nI t) f (nI m) τ' := by
    intro d
    induction d with
    | zero =>
      intro f m τ' hd hf hm g e
      obtain ⟨f, rfl⟩ : ∃ f', f = f' + 1 := ⟨f - 1, by omega⟩
      obtain rfl : m = iC I 1 := by omega
      unfold T_menderFor_2
      have hkk := hk τ' g
      rw [← e] at hkk
      exact T_menderMany_law (h.fr_ g) (br_t (nI_le (by omega) (by omega)) hkk)
    | succ d ih =>
      intro f m τ' hd hf hm g e
      obtain ⟨f, rfl⟩ : ∃ f', f = f' + 1 := ⟨f - 1, by omega⟩
      unfold T_menderFor_2
      refine T_menderMany_law (h.fr_ g) (br_f (nI_ge (by omega) (by omega)) (T_hoursOf_law (h.fr_ g) ht (by omega) fun τ'' g' => ⟨vi_ (by omega) (by omega), ?_⟩))
      have g2 := g.trans g'
      have hl := hL m (by omega)
      have hr := spTakes_rng (I := I) (fr := fr) (t := t) (m := m) (s := s)
      rw [nI_clamp (by omega), g2.1 61 m (by omega), hl.1, nI_ltI (by omega) (by omega), nI_1]
      unfold spByL at e
      by_cases c : spTakes I fr s t m ≤ left m
      · rw [if_pos c] at e
        have hkk := hk τ'' g2
        rw [← e] at hkk
        exact br_f (by omega) hkk
      · rw [if_neg c] at e
        exact br_t (by omega) (ih f (m + 1) τ'' (by omega) (by omega) (by omega) g2 e)
  exact lp (iC I 1) _ 0 τ rfl (by omega) (by omega) (FrE.refl τ) rfl
theorem nxS_inv {s : Nat → Nat} : ∀ n, ∀ t, (lpN (nxS I fr s left) n (none, 0)).1 = some t → t < n ∧ s (1 + 5 * t) = 1 ∧ (spBy I fr s left t).isSome = true
  | 0, t, h => by cases h
  | n + 1, t, h => by
    have ih := nxS_inv (s := s) n t
    have e : lpN (nxS I fr s left) (n + 1) (none, 0) = nxS I fr s left n (lpN (nxS I fr s left) n (none, 0)) := rfl
    rw [e] at h
    unfold nxS at h
    by_cases c : s (1 + 5 * n) = 1 ∧ (spBy I fr s left n).isSome = true ∧ ((lpN (nxS I fr s left) n (none, 0)).1 = none ∨ (lpN (nxS I fr s left) n (none, 0)).2 < spFirst I fr s n)
    · unfold nxS at c
      rw [if_pos c] at h
      cases h
      exact ⟨by omega, c.1, c.2.1⟩
    · unfold nxS at c
      rw [if_neg c] at h
      have := ih h
      exact ⟨by omega, this.2⟩
theorem T_doMend_law {K : Int32 → Sto → Prop} (h : DC I fr th s τ) (hL : HL I left τ) (h0 : spNext I fr s.1 left = none → ∀ τ', FrE τ τ' → K 0 τ')
    (h1 : ∀ t m, spNext I fr s.1 left = some t → spBy I fr s.1 left t = some m → ∀ τ', DC I fr th (spMend I fr s t m) τ' → FrD th τ τ' → (∀ j, τ'.1 60 j = τ.1 60 j) → HL I (fu_ left m (left m - spTakes I fr s.1 t m)) τ' → τ'.1 0 58 = τ.1 0 58 → K 1 τ') : T_doMend τ K := by
  have hE := h.1
  have hc := hE.c
  refine ⟨iC I 0 + 1, ?_⟩
  have lp : ∀ (d f t : Nat) (x2 : Int64) (τ' : Sto), iC I 0 - t = d → d < f → t ≤ iC I 0 → FrE τ τ' → ((lpN (nxS I fr s.1 left) t (none, 0)).1 ≠ none → x2 = (lpN (nxS I fr s.1 left) t (none, 0)).2) → T_doMend_7 K f (ixI (lpN (nxS I fr s.1 left) t (none, 0)).1) x2 (nI t) τ' := by
    intro d
    induction d with
    | zero =>
      intro f t x2 τ' hd hf ht g hx2
      obtain ⟨f, rfl⟩ : ∃ f', f = f' + 1 := ⟨f - 1, by omega⟩
      obtain rfl : t = iC I 0 := by omega
      have g1 := hE.fr_ g
      unfold T_doMend_7
      refine T_thingMany_law g1 (br_t (nI_le (by omega) (by omega)) ?_)
      cases e : (lpN (nxS I fr s.1 left) (iC I 0) (none, 0)).1 with
      | none => exact bn_f rfl (h0 e τ' g)
      | some b =>
        obtain ⟨q1, q2, q3⟩ := nxS_inv _ b e
        obtain ⟨m, hm⟩ := Option.isSome_iff_exists.mp q3
        obtain ⟨hm1, hm2⟩ := spBy_some hm
        show ((¬ nI b = -1 → _) ∧ _)
        have hL' : HL I left τ' := fun m hm => ⟨by rw [g.1 61 m (by omega)]; exact (hL m hm).1, (hL m hm).2⟩
        refine bn_t (fun z => nI_m1 (by omega) z.symm) (T_menderFor_law g1 hL' q1 fun τ1 f1 => ?_)
        rw [hm]
        have g2 := g.trans f1
        refine ⟨vi_ (by omega) (by omega), T_hoursOf_law (hE.fr_ g2) q1 hm1 fun τ2 f2 => ⟨vi_ (by omega) (by omega), st_ ?_⟩⟩
        have g3 := g2.trans f2
        show T_isMending (sI τ2 61 (Int32.toNatClampNeg (nI m)) (τ1.1 61 (Int32.toNatClampNeg (nI m)) - nI (spTakes I fr s.1 b m))) (nI b) (nI m) _
        rw [nI_clamp (by omega), g2.1 61 m (by omega), (hL m hm1).1, nI_sub hm2]
        have d2 : DC I fr th s (sI τ2 61 m (nI (left m - spTakes I fr s.1 b m))) := (h.frE g3).sc (by omega)
        refine T_isMending_law d2 q1 hm1 fun τ3 d3 f3 e58 => h1 b m e hm τ3 d3 (((FrD.ofE g3).w (by omega)).trans (FrD.ofK f3)) (fun j => ?_) (fun m' hm' => ?_) ?_
        · rw [f3.1 60 j (by omega) (by omega), sI_neI (by omega)]; exact g3.1 60 j (by omega)
        · rw [f3.1 61 m' (by omega) (by omega)]
          by_cases em : m' = m
          · subst em; rw [sI_same, fu_same]; exact ⟨rfl, by have := (hL m' hm').2; omega⟩
          · rw [sI_ne (by omega), fu_ne em, g3.1 61 m' (by omega)]; exact hL m' hm'
        · rw [e58, sI_neI (by omega)]; exact g3.1 0 58 (by omega)
    | succ d ih =>
      intro f t x2 τ' hd hf ht g hx2
      obtain ⟨f, rfl⟩ : ∃ f', f = f' + 1 := ⟨f - 1, by omega⟩
      have g1 := hE.fr_ g
      have hb1 := hE.2.2.2.1.2.1 (1 + 5 * t) (by omega) (by omega)
      have es : lpN (nxS I fr s.1 left) (t + 1) (none, 0) = nxS I fr s.1 left t (lpN (nxS I fr s.1 left) t (none, 0)) := rfl
      have keep : ¬ (s.1 (1 + 5 * t) = 1 ∧ (spBy I fr s.1 left t).isSome = true ∧ ((lpN (nxS I fr s.1 left) t (none, 0)).1 = none ∨ (lpN (nxS I fr s.1 left) t (none, 0)).2 < spFirst I fr s.1 t)) → lpN (nxS I fr s.1 left) (t + 1) (none, 0) = lpN (nxS I fr s.1 left) t (none, 0) := fun hn => by rw [es, nxS, if_neg hn]
      unfold T_doMend_7
      refine T_thingMany_law g1 (br_f (nI_ge (by omega) (by omega)) (T_stateOf_law g1 (by omega) ?_))
      rw [nI_1]
      by_cases e1 : s.1 (1 + 5 * t) = 1
      · refine bn_f (by rw [e1]; rfl) (br_f (by decide) ?_)
        have hL' : HL I left τ' := fun m hm => ⟨by rw [g.1 61 m (by omega)]; exact (hL m hm).1, (hL m hm).2⟩
        refine T_menderFor_law g1 hL' (by omega) fun τ1 f1 => ?_
        have g2 := g.trans f1
        cases eb : spBy I fr s.1 left t with
        | none =>
          refine bn_f rfl ?_
          have hq := ih f (t + 1) x2 τ1 (by omega) (by omega) (by omega) g2
          rw [keep (fun z => by rw [eb] at z; exact absurd z.2.1 (by simp))] at hq
          exact hq hx2
        | some m =>
          obtain ⟨hm1, -⟩ := spBy_some eb
          show ((¬ nI m = -1 → _) ∧ _)
          refine bn_t (fun z => nI_m1 (by omega) z.symm) (T_firstOf_law (hE.fr_ g2) (by omega) fun τ2 f2 hbd => ?_)
          have g3 := g2.trans f2
          have take : ((lpN (nxS I fr s.1 left) t (none, 0)).1 = none ∨ (lpN (nxS I fr s.1 left) t (none, 0)).2 < spFirst I fr s.1 t) → T_doMend_7 K f (nI t) (spFirst I fr s.1 t) (nI (t + 1)) τ2 := by
            intro hc
            have hq := ih f (t + 1) (spFirst I fr s.1 t) τ2 (by omega) (by omega) (by omega) g3
            have e2 : lpN (nxS I fr s.1 left) (t + 1) (none, 0) = (some t, spFirst I fr s.1 t) := by
              rw [es, nxS, if_pos ⟨e1, by rw [eb]; rfl, hc⟩]
            rw [e2] at hq
            exact hq (fun _ => rfl)
          cases ea : (lpN (nxS I fr s.1 left) t (none, 0)).1 with
          | none => exact br_t rfl (take (Or.inl ea))
          | some b =>
            have hbt := (nxS_inv _ b ea).1
            show ((nI b = -1 → _) ∧ _)
            refine br_f (fun z => nI_m1 (by omega) z.symm) ?_
            rw [hx2 (by rw [ea]; simp)]
            by_cases hlt : (lpN (nxS I fr s.1 left) t (none, 0)).2 < spFirst I fr s.1 t
            · exact br_t hlt (take (Or.inr hlt))
            · refine br_f hlt ?_
              have hq := ih f (t + 1) (lpN (nxS I fr s.1 left) t (none, 0)).2 τ2 (by omega) (by omega) (by omega) g3
              rw [keep (fun z => by
                rcases z.2.2 with h | h
                · rw [ea] at h; cases h
                · exact hlt h), ea] at hq
              exact hq (fun _ => rfl)
      · refine bn_t (fun z => e1 ((nI_eq (b := 1) (by omega) (by omega)).mp z)) (br_t rfl ?_)
        have hq := ih f (t + 1) x2 τ' (by omega) (by omega) (by omega) g
        rw [keep (fun z => e1 z.1)] at hq
        exact hq hx2
  exact lp (iC I 0) _ 0 0 τ rfl (by omega) (by omega) (FrE.refl τ) (fun z => absurd rfl z)
end TDy
