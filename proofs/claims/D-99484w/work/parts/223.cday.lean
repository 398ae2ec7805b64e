/-! COMPONENT, PURE SIDE: a day. -/
def LfC (σ : CS) (ob : Nat) (I : Isl) (left : Nat → Nat) : Prop := ∀ m, m < iC I 1 → gI σ (ob + 57) m = nI (left m) ∧ left m ≤ 24
section CDy
variable {σ0 σ σ' σ'' : CS} {i j k n q ob t m tk c v what : Nat} {P Q : Nat → Prop} {I : Isl} {fl : Int32 × Int32} {s : St} {left : Nat → Nat}
theorem LfC.p12 (h : LfC σ ob I left) (hob : 16 ≤ ob) (f : FrX P12 σ σ') : LfC σ' ob I left := fun m hm => by
  rw [(f.2.2 (ob + 57) (fun z => by have : ob + 57 = 12 := z; omega)).2.1]; exact h m hm
theorem cb_by {K : Int32 → CS → Prop} (h : EvB σ ob I fl s.1) (hL : LfC σ ob I left) (ht : t < iC I 0) (hk : ∀ σ', FrX P12 σ σ' → K (ixI (spBy I fl s.1 left t)) σ') : U_X5_by σ ob (nI t) K := by
  have hc4 := h.2.1.2.1
  have lp : ∀ (d f m : Nat) (σ1 : CS), iC I 1 - m = d → d < f → m ≤ iC I 1 → FrX P12 σ σ1 → (∀ σ', FrX P12 σ σ' → K (ixI (spByL I fl s.1 left t d m)) σ') → U_X5_by_2 K ob (nI t) f (nI m) σ1 := by
    intro d
    induction d with
    | zero =>
      intro f m σ1 hd hf hm f1 hk
      obtain ⟨f, rfl⟩ : ∃ f', f = f' + 1 := ⟨f - 1, by omega⟩
      unfold U_X5_by_2
      exact cb_menders (h.fr f1).1 (br_t (nI_le (by omega) (by omega)) (hk σ1 f1))
    | succ d ih =>
      intro f m σ1 hd hf hm f1 hk
      obtain ⟨f, rfl⟩ : ∃ f', f = f' + 1 := ⟨f - 1, by omega⟩
      obtain ⟨l1, l2⟩ := (hL.p12 h.2.2.1.1 f1) m (by omega)
      have hr := spTakes_rng (I := I) (fr := fl) (t := t) (m := m) (s := s.1)
      unfold U_X5_by_2
      refine cb_menders (h.fr f1).1 (br_f (nI_ge (by omega) (by omega)) ⟨vi_ (by omega) (by omega), cb_takes (h.fr f1) ht (by omega) fun σ2 f2 => ?_⟩)
      rw [nI_clamp (by omega), l1, nI_1]
      unfold spByL at hk
      by_cases e : spTakes I fl s.1 t m ≤ left m
      · rw [if_pos e] at hk
        exact br_f (nI_nlt e (by omega)) (hk σ2 (f1.trans f2))
      · rw [if_neg e] at hk
        exact br_t (nI_lt (by omega) (by omega)) (ih f (m + 1) σ2 (by omega) (by omega) (by omega) (f1.trans f2) hk)
  exact ⟨iC I 1 + 1, lp (iC I 1) _ 0 σ rfl (by omega) (by omega) (FrX.refl σ) hk⟩
def mnS : Int64 := -9223372036854775808
theorem mnS_lt {x : Int64} (h : BdL x) : mnS < x := by
  rw [Int64.lt_iff_toInt_lt]
  have h1 := h.1
  rw [Int64.le_iff_toInt_le] at h1
  have e1 : mnS.toInt = -9223372036854775808 := by decide
  have e2 : (-1000000 : Int64).toInt = -1000000 := by decide
  rw [e2] at h1
  rw [e1]; omega
theorem cb_next {K : Int32 → CS → Prop} (h : EvB σ ob I fl s.1) (hb : bdS s.1) (hL : LfC σ ob I left) (hF : ∀ t, t < iC I 0 → BdL (spFirst I fl s.1 t)) (hk : ∀ σ', FrX P12 σ σ' → K (ixI (spNext I fl s.1 left)) σ') : U_X5_next σ ob K := by
  have h8 := h.2.1.1
  have lp : ∀ (d f t : Nat) (σ1 : CS), iC I 0 - t = d → d < f → t ≤ iC I 0 → FrX P12 σ σ1 → U_X5_next_9 K ob f (ixI (lpN (nxS I fl s.1 left) t (none, 0)).1) (if (lpN (nxS I fl s.1 left) t (none, 0)).1 = none then mnS else (lpN (nxS I fl s.1 left) t (none, 0)).2) (nI t) σ1 := by
    intro d
    induction d with
    | zero =>
      intro f t σ1 hd hf ht f1
      obtain ⟨f, rfl⟩ : ∃ f', f = f' + 1 := ⟨f - 1, by omega⟩
      obtain rfl : t = iC I 0 := by omega
      unfold U_X5_next_9
      exact cb_things (h.fr f1).1 (br_t (nI_le (by omega) (by omega)) (hk σ1 f1))
    | succ d ih =>
      intro f t σ1 hd hf ht f1
      obtain ⟨f, rfl⟩ : ∃ f', f = f' + 1 := ⟨f - 1, by omega⟩
      have g1 := h.fr f1
      obtain ⟨s1, -⟩ := g1.2.2.2.1.2 t (by omega)
      have b1' := hb.2.1 (1 + 5 * t) (by omega) (by omega)
      have es : lpN (nxS I fl s.1 left) (t + 1) (none, 0) = nxS I fl s.1 left t (lpN (nxS I fl s.1 left) t (none, 0)) := rfl
      have keep : ¬ (s.1 (1 + 5 * t) = 1 ∧ (spBy I fl s.1 left t).isSome = true ∧ ((lpN (nxS I fl s.1 left) t (none, 0)).1 = none ∨ (lpN (nxS I fl s.1 left) t (none, 0)).2 < spFirst I fl s.1 t)) → lpN (nxS I fl s.1 left) (t + 1) (none, 0) = lpN (nxS I fl s.1 left) t (none, 0) := fun hn => by rw [es, nxS, if_neg hn]
      have go : ∀ σ2, FrX P12 σ σ2 → ¬ (s.1 (1 + 5 * t) = 1 ∧ (spBy I fl s.1 left t).isSome = true ∧ ((lpN (nxS I fl s.1 left) t (none, 0)).1 = none ∨ (lpN (nxS I fl s.1 left) t (none, 0)).2 < spFirst I fl s.1 t)) → U_X5_next_9 K ob f (ixI (lpN (nxS I fl s.1 left) t (none, 0)).1) (if (lpN (nxS I fl s.1 left) t (none, 0)).1 = none then mnS else (lpN (nxS I fl s.1 left) t (none, 0)).2) (nI (t + 1)) σ2 := fun σ2 f2 hn => by
        have := ih f (t + 1) σ2 (by omega) (by omega) (by omega) f2
        rw [keep hn] at this
        exact this
      unfold U_X5_next_9
      refine cb_things g1.1 (br_f (nI_ge (by omega) (by omega)) ⟨vi_ (by omega) (by omega), ?_⟩)
      rw [nI_clamp (by omega), s1, nI_1]
      by_cases e1 : s.1 (1 + 5 * t) = 1
      · refine bn_f (by rw [e1]; rfl) (cb_by g1 (hL.p12 h.2.2.1.1 f1) (by omega) fun σ2 f2 => ?_)
        have f12 := f1.trans f2
        cases eb : spBy I fl s.1 left t with
        | none => exact br_t rfl (go σ2 f12 (fun z => by rw [eb] at z; exact absurd z.2.1 (by simp)))
        | some m =>
          obtain ⟨hm1, -⟩ := spBy_some eb
          have hm4 := h.2.1.2.1
          refine br_f (fun z => nI_m1 (by omega) z.symm) (cb_first (h.fr f12) (by omega) fun σ3 f3 => ?_)
          have f13 := f12.trans f3
          by_cases hc : (lpN (nxS I fl s.1 left) t (none, 0)).1 = none ∨ (lpN (nxS I fl s.1 left) t (none, 0)).2 < spFirst I fl s.1 t
          · have hlt : (if (lpN (nxS I fl s.1 left) t (none, 0)).1 = none then mnS else (lpN (nxS I fl s.1 left) t (none, 0)).2) < spFirst I fl s.1 t := by
              by_cases hn : (lpN (nxS I fl s.1 left) t (none, 0)).1 = none
              · rw [if_pos hn]; exact mnS_lt (hF t (by omega))
              · rw [if_neg hn]; exact hc.resolve_left hn
            refine br_t hlt (cb_first (h.fr f13) (by omega) fun σ4 f4 => ?_)
            have hq := ih f (t + 1) σ4 (by omega) (by omega) (by omega) (f13.trans f4)
            have e2 : lpN (nxS I fl s.1 left) (t + 1) (none, 0) = (some t, spFirst I fl s.1 t) := by
              rw [es, nxS, if_pos ⟨e1, by rw [eb]; rfl, hc⟩]
            rw [e2] at hq
            exact hq
          · have hlt : ¬ (if (lpN (nxS I fl s.1 left) t (none, 0)).1 = none then mnS else (lpN (nxS I fl s.1 left) t (none, 0)).2) < spFirst I fl s.1 t := by
              rw [if_neg (fun z => hc (Or.inl z))]
              exact fun z => hc (Or.inr z)
            exact br_f hlt (go σ3 f13 (fun z => hc z.2.2))
      · exact bn_t (fun z => e1 ((nI_eq (b := 1) (by omega) (by omega)).mp z)) (go σ1 f1 (fun z => e1 z.1))
  exact ⟨iC I 0 + 1, lp (iC I 0) _ 0 σ rfl (by omega) (by omega) (FrX.refl σ)⟩
theorem DyB.w8 (h : DyB σ ob I fl s) {x : Int32} : DyB (wI σ ob 8 x) ob I fl s := by
  have hl := row_lt h.2.2.2.2
  have ag : ∀ i, i ≠ ob → agr σ (wI σ ob 8 x) i := fun i hi => (agr.refl σ i).wI hi
  have g : ∀ j, j ≠ 8 → gI (wI σ ob 8 x) ob j = gI σ ob j := fun j hj => gI_wn (by omega)
  obtain ⟨a, ⟨c1, c2, c3, c4⟩, b2, b3, b4⟩ := h
  refine DyB.mv (σ := σ) ⟨a, ⟨c1, c2, c3, c4⟩, b2, b3, b4⟩ ((FrX.refl σ).wI (Or.inr ⟨Nat.le_refl _, by omega⟩)) (g 9 (by omega)) (g 10 (by omega)) ⟨⟨by rw [g 0 (by omega)]; exact c1.1, fun t ht => ?_⟩, by rw [g 1 (by omega)]; exact c2, c3, c4.fr c3 (fun i h1 _ => ag i (by omega))⟩ b2
  rw [(ag (ob + 1) (by omega)).2.1, (ag (ob + 2) (by omega)).2.1, (ag (ob + 3) (by omega)).2.1, (ag (ob + 4) (by omega)).2.1, (ag (ob + 5) (by omega)).2.1]
  exact c1.2 t ht
theorem DyB.w57 (h : DyB σ ob I fl s) {x : Int32} : DyB (wI σ (ob + 57) j x) ob I fl s := by
  have hl := row_lt h.2.2.2.2
  have ag : ∀ i, i ≠ ob + 57 → agr σ (wI σ (ob + 57) j x) i := fun i hi => (agr.refl σ i).wI hi
  obtain ⟨a, ⟨c1, c2, c3, c4⟩, b2, b3, b4⟩ := h
  refine DyB.mv (σ := σ) ⟨a, ⟨c1, c2, c3, c4⟩, b2, b3, b4⟩ ((FrX.refl σ).wI (Or.inr ⟨by omega, by omega⟩)) (by rw [(ag ob (by omega)).2.1]) (by rw [(ag ob (by omega)).2.1]) ⟨c1.fr (fun i h1 h2 => (ag i (by omega)).2.1), by rw [(ag ob (by omega)).2.1]; exact c2, c3, c4.fr c3 (fun i h1 h2 => ag i (by omega))⟩ b2
/-- a day more -/
theorem DyB.day (h : DyB σ ob I fl s) (hd : s.1 0 < 99999) : DyB (wI σ ob 0 (gI σ ob 0 + 1)) ob I fl (fu_ s.1 0 (s.1 0 + 1), s.2) := by
  have hl := row_lt h.2.2.2.2
  obtain ⟨a, ⟨c1, c2, c3, c4⟩, b2, b3, b4⟩ := h
  have ag : ∀ i, i ≠ ob → agr σ (wI σ ob 0 (gI σ ob 0 + 1)) i := fun i hi => (agr.refl σ i).wI hi
  have g : ∀ j, j ≠ 0 → gI (wI σ ob 0 (gI σ ob 0 + 1)) ob j = gI σ ob j := fun j hj => gI_wn (by omega)
  refine DyB.mv (σ := σ) ⟨a, ⟨c1, c2, c3, c4⟩, b2, b3, b4⟩ ((FrX.refl σ).wI (Or.inr ⟨Nat.le_refl _, by omega⟩)) (g 9 (by omega)) (g 10 (by omega)) ⟨⟨?_, fun t ht => ?_⟩, by rw [g 1 (by omega)]; exact c2, c3, c4.fr c3 (fun i h1 _ => ag i (by omega))⟩ ⟨?_, fun i h1 h2 => ?_, fun t ht => ?_⟩
  · rw [gI_ws, c1.1, nI_1]
    show _ = nI (fu_ s.1 0 (s.1 0 + 1) 0)
    rw [fu_same]
  · rw [(ag (ob + 1) (by omega)).2.1, (ag (ob + 2) (by omega)).2.1, (ag (ob + 3) (by omega)).2.1, (ag (ob + 4) (by omega)).2.1, (ag (ob + 5) (by omega)).2.1]
    show _ = nI (fu_ s.1 0 (s.1 0 + 1) (1 + 5 * t)) ∧ _ = nI (fu_ s.1 0 (s.1 0 + 1) (2 + 5 * t)) ∧ _ = nI (fu_ s.1 0 (s.1 0 + 1) (3 + 5 * t)) ∧ _ = nI (fu_ s.1 0 (s.1 0 + 1) (4 + 5 * t)) ∧ _ = nI (fu_ s.1 0 (s.1 0 + 1) (5 + 5 * t))
    rw [fu_ne (by omega), fu_ne (by omega), fu_ne (by omega), fu_ne (by omega), fu_ne (by omega)]
    exact c1.2 t ht
  · show fu_ s.1 0 (s.1 0 + 1) 0 ≤ 99999
    rw [fu_same]; omega
  · show fu_ s.1 0 (s.1 0 + 1) i ≤ 99
    rw [fu_ne (by omega)]; exact b2.2.1 i h1 h2
  · show fu_ s.1 0 (s.1 0 + 1) (5 + 5 * t) ≤ 1
    rw [fu_ne (by omega)]; exact b2.2.2 t ht
/-- what a day's mending rests on -/
def FsB (I : Isl) (fl : Int32 × Int32) : Prop := ∀ (s : Nat → Nat) t, t < iC I 0 → bdS s → BdL (spFirst I fl s t)
theorem cb_157 {K : Int32 → CS → Prop} (hI : IslOK I) (hF : FsB I fl) (hv : v < 256) : ∀ (g f : Nat) (s : St) (left : Nat → Nat) (σ : CS), cntB s.1 (iC I 0) < g → cntB s.1 (iC I 0) < f → s.1 0 < 99999 → DyB σ ob I fl s → LfC σ ob I left → gI σ ob 8 = nI v →
    (∀ σ', DyB σ' ob I fl (fu_ (spMe I fl g s left).1 0 ((spMe I fl g s left).1 0 + 1), (spMe I fl g s left).2) → FrX (stP ob) σ σ' → gI σ' ob 8 = nI v → K (nI (bcN v)) σ') → U_X5_passes_157 K ob f (ixI (spNext I fl s.1 left)) σ := by
  intro g
  induction g with
  | zero => intro f s left σ h; omega
  | succ g ih =>
    intro f s left σ hg hf hday h hL h8 hk
    obtain ⟨f, rfl⟩ : ∃ f', f = f' + 1 := ⟨f - 1, by omega⟩
    have hl := row_lt h.2.2.2.2
    have hc8 := h.1.2.1.1
    have hc4 := h.1.2.1.2.1
    unfold U_X5_passes_157
    cases hn : spNext I fl s.1 left with
    | none =>
      have hme : spMe I fl (g + 1) s left = s := by show (match spNext I fl s.1 left with | none => s | some t => _) = s; rw [hn]
      rw [hme] at hk
      refine br_t rfl (st_ ?_)
      have e8 : gI (wI σ ob 0 (gI σ ob 0 + 1)) ob 8 = nI v := by rw [gI_wn (by omega)]; exact h8
      rw [e8]
      exact cb_bits hv (hk _ (h.day hday) ((FrX.refl σ).wI (Or.inr ⟨Nat.le_refl _, by omega⟩)) e8)
    | some t =>
      obtain ⟨q1, q2, q3⟩ := nxS_inv _ t hn
      obtain ⟨m, hb⟩ := Option.isSome_iff_exists.mp q3
      obtain ⟨hm1, hm2⟩ := spBy_some hb
      have hme : spMe I fl (g + 1) s left = spMe I fl g (spMend I fl s t m) (fu_ left m (left m - spTakes I fl s.1 t m)) := by
        show (match spNext I fl s.1 left with | none => s | some t => match spBy I fl s.1 left t with | none => s | some m => spMe I fl g (spMend I fl s t m) (fu_ left m (left m - spTakes I fl s.1 t m))) = _
        rw [hn]
        show (match spBy I fl s.1 left t with | none => s | some m => _) = _
        rw [hb]
      rw [hme] at hk
      have e1 : (spMend I fl s t m).1 = meS s.1 t (spFine I fl s.1 t m) := by unfold spMend; rw [spKeep_1]
      have hcnt := meS_cnt (fine := spFine I fl s.1 t m) q1 q2
      rw [← e1] at hcnt
      refine br_f (fun z => nI_m1 (by omega) z.symm) (cb_by h.1 hL q1 fun σ1 f1 => ?_)
      rw [hb]
      refine ⟨vi_ (by omega) (by omega), cb_takes (h.1.fr f1) q1 hm1 fun σ2 f2 => ⟨vi_ (by omega) (by omega), st_ ?_⟩⟩
      have f12 := f1.trans f2
      have hL1 := hL.p12 (by omega) f1
      have hL2 := hL.p12 (by omega) f12
      show U_X5_isMended (wI σ2 (ob + 57) (Int32.toNatClampNeg (nI m)) (gI σ1 (ob + 57) (Int32.toNatClampNeg (nI m)) - nI (spTakes I fl s.1 t m))) ob (nI t) (nI m) _
      rw [nI_clamp (by omega), (hL1 m hm1).1, nI_sub hm2]
      have h2 := (h.fr f12).w57 (j := m) (x := nI (left m - spTakes I fl s.1 t m))
      have f3 : FrX (stP ob) σ (wI σ2 (ob + 57) m (nI (left m - spTakes I fl s.1 t m))) := (f12.mono (fun i hi => Or.inl hi)).wI (Or.inr ⟨by omega, by omega⟩)
      have h83 : gI (wI σ2 (ob + 57) m (nI (left m - spTakes I fl s.1 t m))) ob 8 = nI v := by
        rw [gI_wi (by omega), (f12.2.2 ob (fun z => by have : ob = 12 := z; omega)).2.1]; exact h8
      refine cb_isMended h2 hI q1 hm1 fun σ4 f4 h4 e8 a57 => ?_
      have hL4 : LfC σ4 ob I (fu_ left m (left m - spTakes I fl s.1 t m)) := fun m' hm' => by
        rw [a57.2.1]
        by_cases em : m' = m
        · subst em; rw [gI_ws, fu_same]; exact ⟨rfl, by have := (hL m' hm').2; omega⟩
        · rw [gI_wn (by omega), fu_ne em]; exact hL2 m' hm'
      have hday4 : (spMend I fl s t m).1 0 < 99999 := by rw [mnd_day]; exact hday
      refine cb_next h4.1 h4.2.2.1 hL4 (fun t' ht' => hF _ t' ht' h4.2.2.1) fun σ5 f5 => ?_
      have f45 := (f3.trans f4).trans (f5.mono (fun i hi => Or.inl hi))
      exact ih f _ _ σ5 (by omega) (by omega) hday4 (h4.fr f5) (hL4.p12 (by omega) f5) (by rw [(f5.2.2 ob (fun z => by have : ob = 12 := z; omega)).2.1, e8]; exact h83) (fun σ6 h6 f6 e6 => hk σ6 h6 (f45.trans f6) e6)
theorem cb_118 {K : Int32 → CS → Prop} (hI : IslOK I) (hF : FsB I fl) (hv : v < 256) (hday : s.1 0 < 99999) (h : DyB σ ob I fl s) (h8 : gI σ ob 8 = nI v)
    (hk : ∀ σ', DyB σ' ob I fl (fu_ (spMe I fl 9 s (fun m => iX I (24 + 2 * m + 1))).1 0 ((spMe I fl 9 s (fun m => iX I (24 + 2 * m + 1))).1 0 + 1), (spMe I fl 9 s (fun m => iX I (24 + 2 * m + 1))).2) → FrX (stP ob) σ σ' → gI σ' ob 8 = nI v → K (nI (bcN v)) σ') : ∃ n, U_X5_passes_118 K ob n 0 σ := by
  have hl := row_lt h.2.2.2.2
  have hc8 := h.1.2.1.1
  have hc4 := h.1.2.1.2.1
  refine ⟨iC I 1 + 1, ?_⟩
  have lp : ∀ (d f m : Nat) (σ1 : CS), iC I 1 - m = d → d < f → m ≤ iC I 1 → DyB σ1 ob I fl s → FrX (stP ob) σ σ1 → gI σ1 ob 8 = nI v → (∀ u, u < m → gI σ1 (ob + 57) u = nI (iX I (24 + 2 * u + 1))) → U_X5_passes_118 K ob f (nI m) σ1 := by
    intro d
    induction d with
    | zero =>
      intro f m σ1 hd hf hm d1 f1 h81 h57
      obtain ⟨f, rfl⟩ : ∃ f', f = f' + 1 := ⟨f - 1, by omega⟩
      obtain rfl : m = iC I 1 := by omega
      have hcl := cntB_le s.1 (iC I 0)
      have hL : LfC σ1 ob I (fun m => iX I (24 + 2 * m + 1)) := fun u hu => ⟨h57 u hu, (hI.2.2.2.1 u hu).2.2⟩
      unfold U_X5_passes_118
      refine cb_menders d1.1.1 (br_t (nI_le (by omega) (by omega)) (cb_next d1.1 d1.2.2.1 hL (fun t ht => hF _ t ht d1.2.2.1) fun σ2 f2 => ⟨11, ?_⟩))
      refine cb_157 hI hF hv 9 11 s _ σ2 (by omega) (by omega) hday (d1.fr f2) (hL.p12 (by omega) f2) (by rw [(f2.2.2 ob (fun z => by have : ob = 12 := z; omega)).2.1]; exact h81) (fun σ3 h3 f3 e3 => hk σ3 h3 ((f1.trans (f2.mono (fun i hi => Or.inl hi))).trans f3) e3)
    | succ d ih =>
      intro f m σ1 hd hf hm d1 f1 h81 h57
      obtain ⟨f, rfl⟩ : ∃ f', f = f' + 1 := ⟨f - 1, by omega⟩
      unfold U_X5_passes_118
      refine cb_menders d1.1.1 (br_f (nI_ge (by omega) (by omega)) (cb_menderOf d1.1.1 (by omega) fun r r1 r2 r3 => ⟨r, rfl, r1, vi_ (by omega) (by omega), st_ ?_⟩))
      rw [r3, nI_clamp (by omega), nI_1]
      refine ih f (m + 1) _ (by omega) (by omega) (by omega) d1.w57 (f1.wI (Or.inr ⟨by omega, by omega⟩)) (by rw [gI_wi (by omega)]; exact h81) (fun u hu => ?_)
      by_cases e : u = m
      · subst e; exact gI_ws
      · rw [gI_wn (by omega)]; exact h57 u (by omega)
  exact lp (iC I 1) _ 0 σ rfl (by omega) (by omega) h (FrX.refl σ) h8 (fun u hu => absurd hu (by omega))
theorem cb_83 {K : Int32 → CS → Prop} (hv : v < 256) (h : DyB σ ob I fl s) (h8 : gI σ ob 8 = nI v)
    (hk : ∀ σ', DyB σ' ob I fl (spBrs v (iC I 0) s) → FrX (stP ob) σ σ' → gI σ' ob 8 = nI v → ∃ n, U_X5_passes_118 K ob n 0 σ') : ∃ n, U_X5_passes_83 K ob n 0 σ := by
  have hc8 := h.1.2.1.1
  refine ⟨iC I 0 + 1, ?_⟩
  have lp : ∀ (d f t : Nat) (σ1 : CS), iC I 0 - t = d → d < f → t ≤ iC I 0 → DyB σ1 ob I fl (spBrs v t s) → FrX (stP ob) σ σ1 → gI σ1 ob 8 = nI v → U_X5_passes_83 K ob f (nI t) σ1 := by
    intro d
    induction d with
    | zero =>
      intro f t σ1 hd hf ht d1 f1 h81
      obtain ⟨f, rfl⟩ : ∃ f', f = f' + 1 := ⟨f - 1, by omega⟩
      obtain rfl : t = iC I 0 := by omega
      unfold U_X5_passes_83
      exact cb_things d1.1.1 (br_t (nI_le (by omega) (by omega)) (hk σ1 d1 f1 h81))
    | succ d ih =>
      intro f t σ1 hd hf ht d1 f1 h81
      obtain ⟨f, rfl⟩ : ∃ f', f = f' + 1 := ⟨f - 1, by omega⟩
      unfold U_X5_passes_83
      refine cb_things d1.1.1 (br_f (nI_ge (by omega) (by omega)) ?_)
      rw [h81]
      refine cb_hasS hv (by omega) ?_
      rw [nI_1]
      have es : spBrs v (t + 1) s = if v.testBit t then spBreak (spBrs v t s) t else spBrs v t s := rfl
      cases e : v.testBit t with
      | false =>
        rw [e, if_neg (by decide)] at es
        exact br_t rfl (ih f (t + 1) σ1 (by omega) (by omega) (by omega) (by rw [es]; exact d1) f1 h81)
      | true =>
        rw [e, if_pos rfl] at es
        exact br_f (by decide) (cb_breaks d1 (by omega) fun σ2 f2 d2 e8 _ => ih f (t + 1) σ2 (by omega) (by omega) (by omega) (by rw [es]; exact d2) (f1.trans f2) (by rw [e8]; exact h81))
  exact lp (iC I 0) _ 0 σ rfl (by omega) (by omega) h (FrX.refl σ) h8
theorem cb_7 {K : Int32 → CS → Prop} (h : DyB σ ob I fl s) (h8 : gI σ ob 8 = 0)
    (hk : ∀ σ', DyB σ' ob I fl s → FrX (stP ob) σ σ' → gI σ' ob 8 = nI (spBro I fl s.1) → ∃ n, U_X5_passes_83 K ob n 0 σ') : ∃ n, U_X5_passes_7 K ob n 0 σ := by
  have hl := row_lt h.2.2.2.2
  have hc8 := h.1.2.1.1
  refine ⟨iC I 0 + 1, ?_⟩
  cases hT : iT I 1 with
  | none =>
    have hz : ∀ t, (decide (s.1 (1 + 5 * t) ≠ 1) && spFalls I fl s.1 t) = false := fun t => by
      have : spFalls I fl s.1 t = false := by unfold spFalls; rw [hT]
      rw [this, Bool.and_false]
    have h0 : ∀ n, setN (fun t => decide (s.1 (1 + 5 * t) ≠ 1) && spFalls I fl s.1 t) n = 0 := by
      intro n
      induction n with
      | zero => rfl
      | succ n ih => rw [setN_s, ih, hz n, if_neg (by decide)]
    have e0 : spBro I fl s.1 = 0 := h0 _
    rw [e0] at hk
    unfold U_X5_passes_7
    refine cb_things h.1.1 ⟨fun _ => hk σ h (FrX.refl σ) h8, fun _ => ?_⟩
    obtain ⟨t0, l1, l2, -, hop, -⟩ := cb_lw h.1.1
    rw [hT] at hop
    exact ⟨t0, l1, l2, br_t hop (hk σ h (FrX.refl σ) h8)⟩
  | some vv =>
    have lp : ∀ (d f t : Nat) (σ1 : CS), iC I 0 - t = d → d < f → t ≤ iC I 0 → DyB σ1 ob I fl s → FrX (stP ob) σ σ1 → gI σ1 ob 8 = nI (setN (fun t => decide (s.1 (1 + 5 * t) ≠ 1) && spFalls I fl s.1 t) t) → U_X5_passes_7 K ob f (nI t) σ1 := by
      intro d
      induction d with
      | zero =>
        intro f t σ1 hd hf ht d1 f1 h81
        obtain ⟨f, rfl⟩ : ∃ f', f = f' + 1 := ⟨f - 1, by omega⟩
        obtain rfl : t = iC I 0 := by omega
        unfold U_X5_passes_7
        exact cb_things d1.1.1 (br_t (nI_le (by omega) (by omega)) (hk σ1 d1 f1 h81))
      | succ d ih =>
        intro f t σ1 hd hf ht d1 f1 h81
        obtain ⟨f, rfl⟩ : ∃ f', f = f' + 1 := ⟨f - 1, by omega⟩
        obtain ⟨s1, -⟩ := d1.1.2.2.2.1.2 t (by omega)
        have b1' := d1.2.2.1.2.1 (1 + 5 * t) (by omega) (by omega)
        obtain ⟨t0, l1, l2, -, hop, -⟩ := cb_lw d1.1.1
        rw [hT] at hop
        obtain ⟨q, q1, q2⟩ := hop
        have p8 : stP ob ob := Or.inr ⟨Nat.le_refl _, by omega⟩
        unfold U_X5_passes_7
        refine cb_things d1.1.1 (br_f (nI_ge (by omega) (by omega)) ⟨t0, l1, l2, br_f (by omega) ⟨vi_ (by omega) (by omega), ?_⟩⟩)
        rw [nI_clamp (by omega), s1, h81, nI_1]
        have step : ∀ (b : Bool) (σ2 : CS), (decide (s.1 (1 + 5 * t) ≠ 1) && spFalls I fl s.1 t) = b → DyB σ2 ob I fl s → FrX (stP ob) σ σ2 → U_X5_passes_7 K ob f (nI (t + 1)) (wI σ2 ob 8 (nI (setN (fun t => decide (s.1 (1 + 5 * t) ≠ 1) && spFalls I fl s.1 t) t + (if b then 2 ^ t else 0)))) := by
          intro b σ2 hb2 d2 f2
          refine ih f (t + 1) _ (by omega) (by omega) (by omega) d2.w8 (f2.wI p8) ?_
          rw [gI_ws, setN_s, hb2]
        by_cases e1 : s.1 (1 + 5 * t) = 1
        · refine br_t (by rw [e1]; rfl) (st_ ?_)
          rw [or_0]
          have := step false σ1 (by rw [decide_eq_false (fun z => z e1), Bool.false_and]) d1 f1
          rw [if_neg (by decide), Nat.add_zero] at this
          exact this
        · refine br_f (fun z => e1 ((nI_eq (b := 1) (by omega) (by omega)).mp z)) ⟨t0, l1, l2, q, q1, cb_holds d1.1 (by omega) (Or.inl rfl) q2 0 (fun _ => 0) fun σ2 f2 => ?_⟩
          have hsf : spFalls I fl s.1 t = vv (evE I fl s.1 t 0 (fun _ => 0)) := by unfold spFalls; rw [hT]; rfl
          have f12 : FrX (stP ob) σ σ2 := f1.trans (f2.mono (fun i hi => Or.inl hi))
          cases hb2 : vv (evE I fl s.1 t 0 (fun _ => 0)) with
          | true =>
            refine br_f (by decide) (st_ ?_)
            rw [or_I t (by omega) _ (setN_lt _ t)]
            have := step true σ2 (by rw [decide_eq_true e1, hsf, hb2]; rfl) (d1.fr f2) f12
            rw [if_pos rfl] at this
            exact this
          | false =>
            refine br_t rfl (st_ ?_)
            rw [or_0]
            have := step false σ2 (by rw [hsf, hb2, Bool.and_false]) (d1.fr f2) f12
            rw [if_neg (by decide), Nat.add_zero] at this
            exact this
    exact lp (iC I 0) _ 0 σ rfl (by omega) (by omega) h (FrX.refl σ) h8
/-- a day comes over a state -/
theorem cb_day {K : Int32 → CS → Prop} (hI : IslOK I) (hF : FsB I fl) (hday : s.1 0 < 99999) (h : DyB σ ob I fl s)
    (hk : ∀ σ', DyB σ' ob I fl (spDay I fl s).2 → FrX (stP ob) σ σ' → gI σ' ob 8 = nI (spDay I fl s).1 → K (nI (bcN (spDay I fl s).1)) σ') : U_X5_passes σ ob K := by
  have hl := row_lt h.2.2.2.2
  have hc8 := h.1.2.1.1
  have p8 : stP ob ob := Or.inr ⟨Nat.le_refl _, by omega⟩
  have hv : spBro I fl s.1 < 256 := setN_256 _ hc8
  refine st_ (cb_7 h.w8 gI_ws fun σ1 d1 f1 e1 => cb_83 hv d1 e1 fun σ2 d2 f2 e2 => cb_118 hI hF hv ?_ d2 e2 fun σ3 d3 f3 e3 => hk σ3 d3 (((((FrX.refl σ).wI p8).trans f1).trans f2).trans f3) e3)
  rw [spBrs_0 _ _ _ hc8]; exact hday
end CDy
