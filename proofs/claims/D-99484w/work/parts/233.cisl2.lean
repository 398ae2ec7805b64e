/-! COMPONENT, PURE SIDE: letter, island. -/
section CIs
variable {σ σ' σ'' : CS} {a : AS} {I : Isl} {K : Int32 → CS → Prop} {x y z : Int32} {S : Nat → Prop} {i j n q v mc ms : Nat} {w : List Nat} {s : St}
theorem getD_pL2 {l : List Nat} (h : ∀ c, c ∈ l → pL c = true) {k : Nat} (hk : k < l.length) : 97 ≤ l.getD k 0 ∧ l.getD k 0 ≤ 122 := by
  refine pL_bd (h _ ?_)
  rw [List.getD_eq_getElem?_getD, List.getElem?_eq_getElem hk]
  exact List.getElem_mem hk
theorem cr_charAt (h : StrC σ S q w) (hj : j < w.length) (hk : K (nI (w.getD j 0)) σ) : U_J6_charAt σ q (nI j) K := by
  obtain ⟨h1, h2, h3, ⟨h4, h4'⟩, y, h5, h6, h7, h8⟩ := h
  have hb := getD_pL2 h4' hj
  refine ⟨h2, h2, bn_f h3 (br_f (by decide) ⟨h2, y, h6, gKN h7, ?_⟩)⟩
  rw [gN_of h7]
  refine U_chk hj (by omega) ⟨gKN h7, ?_, ?_⟩
  · rw [gN_of h7]; exact vi_ hj (by omega)
  · rw [nI_clamp (by omega), h8 j hj, chr_I _ (by omega)]
    exact ⟨nar_c (by omega), nar_c (by omega), hk⟩
theorem cr_nletter (h : NmC σ S q w) (hj : j < 2 ^ 31) (hk : K (if j < w.length then nI (w.getD j 0 - 96) else 0) σ) : U_X7_letter σ q (nI j) K := by
  obtain ⟨h1, nq, h2, h3⟩ := h
  have hl := h3.2.2.2.1.1
  refine ⟨h1, nq, h2, h3.2.1, cr_len h3 ?_⟩
  by_cases c : j < w.length
  · rw [if_pos c] at hk
    have hb := getD_pL2 h3.2.2.2.1.2 c
    refine br_f (nI_ge c (by omega)) ⟨h1, nq, h2, h3.2.1, cr_charAt h3 c ?_⟩
    rw [show nI (w.getD j 0) - 97 + 1 = nI (w.getD j 0 - 96) by
      rw [show (97 : Int32) = nI 97 from rfl, nI_sub (by omega), nI_1]; congr 1; omega]
    exact hk
  · rw [if_neg c] at hk
    exact br_t (nI_le (by omega) hj) hk
theorem co_letter60 {kd l : Nat} {el : Nat → Nat} {zz : Nat} (hl : LsC σ S l (iC I kd) el) (he : ∀ j, j < iC I kd → ElC σ S I kd j (el j)) (hn : iC I kd ≤ 8) (hy : ¬ y < 0) (hz : zz < 6) (hk : K (if inR y 0 ((iC I kd : Int) - 1) then (if zz < (iN I (8 * kd + ix y)).length then nI ((iN I (8 * kd + ix y)).getD zz 0 - 96) else 0) else -1) σ) : U_X0_letter_60 K y (nI zz) (l + 1) σ := by
  refine ⟨l, rfl, hl.2.1, U_size hl ?_⟩
  cases e : inR y 0 ((iC I kd : Int) - 1) with
  | false =>
    rw [e] at hk
    unfold inR at e
    rw [decide_eq_false_iff_not] at e
    rw [Int32.lt_iff_toInt_lt, show (0 : Int32).toInt = 0 from rfl] at hy
    refine br_t ?_ hk
    rw [Int32.le_iff_toInt_le, nI_toInt (by omega)]; omega
  | true =>
    rw [e, if_pos rfl] at hk
    obtain ⟨q1, q2⟩ := inR_ix e (by omega)
    generalize ix y = t at *
    subst q1
    have hel := he t q2
    exact br_f (nI_ge q2 (by omega)) ⟨hl.2.1, U_get hl q2 ⟨_, rfl, isNm_C hel.2.1.1, hel.2.1.1, cr_nletter hel.2.1 (by omega) hk⟩⟩
theorem co_letter (h : RC a σ) (ha : AOK a) (hk : K (sp_letter a x y z) σ) : U_X0_letter σ x y z K := by
  have hb := ha.ib
  unfold sp_letter at hk
  obtain ⟨t, h1, h2, h3, h4, -⟩ := h.is
  have n0 := hb.1
  have n1 := hb.2.1
  have n2 := hb.2.2
  refine co_is (lo := 0) (hi := 5) rfl rfl (br_b _ (fun e => ?_) (fun e => ?_))
  · rw [e, Bool.and_false, Bool.and_false] at hk; exact hk
  rw [e, Bool.and_true] at hk
  refine co_is (lo := 0) (hi := 2) rfl rfl (br_b _ (fun e2 => ?_) (fun e2 => ?_))
  · rw [e2] at hk; exact hk
  rw [e2, Bool.true_and] at hk
  obtain ⟨r1, r2⟩ := inR_ix (n := 6) e (by omega)
  obtain ⟨q1, q2⟩ := inR_ix (n := 3) e2 (by omega)
  by_cases c : 0 ≤ y
  · have hy : ¬ y < 0 := by rw [Int32.lt_iff_toInt_lt]; rw [Int32.le_iff_toInt_le] at c; omega
    refine br_t c ?_
    generalize ix z = zz at *
    subst r1
    rcases (show ix x = 0 ∨ ix x = 1 ∨ ix x = 2 by omega) with e3 | e3 | e3
    · rw [e3] at q1 hk
      obtain ⟨l, el, l1, l2, l3⟩ := h4 0 (by omega)
      refine bn_f q1 ⟨t, h1, h3, ?_⟩
      rw [show gR σ t 2 = l + 1 from l1]
      exact co_letter60 (I := aI a) (kd := 0) l2 l3 (by omega) hy r2 hk
    · rw [e3] at q1 hk
      obtain ⟨l, el, l1, l2, l3⟩ := h4 1 (by omega)
      refine bn_t (by rw [q1]; decide) (bn_f q1 ⟨t, h1, h3, ?_⟩)
      rw [show gR σ t 3 = l + 1 from l1]
      exact co_letter60 (I := aI a) (kd := 1) l2 l3 (by omega) hy r2 hk
    · rw [e3] at q1 hk
      obtain ⟨l, el, l1, l2, l3⟩ := h4 2 (by omega)
      refine bn_t (by rw [q1]; decide) (bn_t (by rw [q1]; decide) ⟨t, h1, h3, ?_⟩)
      rw [show gR σ t 4 = l + 1 from l1]
      exact co_letter60 (I := aI a) (kd := 2) l2 l3 (by omega) hy r2 hk
  · rw [show inR y 0 ((iC (aI a) (ix x) : Int) - 1) = false by
      unfold inR; rw [decide_eq_false_iff_not]; rw [Int32.le_iff_toInt_le, show (0 : Int32).toInt = 0 from rfl] at c; omega] at hk
    exact br_f c hk
/-- what the reader left changes nothing that stands -/
theorem RC.rd (h : RC a σ) (f : FrDc σ σ') (hz : σ'.1 ≤ CB) : RC a σ' := by
  have hz1 := h.1.1
  have hcb := CBv
  refine h.of (P := fun i => i = 9 ∨ i = 10) (J := noJ) ⟨f.1, hz, f.2.2, fun i hi hp _ => f.2.1 i hi (fun z => hp (Or.inl z)) (fun z => hp (Or.inr z)), ?_, ?_, fun j _ => ?_⟩ (fun i z => Or.inl ?_) (fun _ z => z.elim) (h.rw74 (fun i h1 h2 => f.2.1 i (Or.inl (by omega)) (by omega) (by omega)))
  · exact (f.2.1 0 (Or.inl (by omega)) (by omega) (by omega)).2.2.2
  · exact (f.2.1 0 (Or.inl (by omega)) (by omega) (by omega)).2.2.1
  · rw [(f.2.1 0 (Or.inl (by omega)) (by omega) (by omega)).2.1]
  · have : i = 9 ∨ i = 10 := z
    unfold scC; omega
theorem RC.w3 (h : RC a σ) {v : Int32} : RC (aTp a, aTn a, v, a.2.2.2) (wI σ 0 3 v) := by
  have hcb := CBv
  have f : FrO (fun _ => False) (fun j => j = 3) σ (wI σ 0 3 v) := by
    refine FrO.wI (FrO.refl h.z) ?_
    exact Or.inr ⟨rfl, rfl⟩
  have ag : ∀ i, i ≠ 0 → agr σ (wI σ 0 3 v) i := fun i hi => (agr.refl σ i).wI hi
  refine h.up f (fun i z => z.elim) (fun j z => by have : j = 3 := z; omega) (h.rw74 (fun i h1 h2 => ag i (by omega))) (h.2.1.mv (gI_wn (by omega)) (gI_wi (by omega))) ⟨gI_ws, ?_, ?_⟩ (h.2.2.2.2.2.2.2.2.mv (gI_wn (by omega)) (gI_wi (by omega)))
  · rw [gI_wn (by omega)]; exact h.2.2.1.2.1
  · intro i hi
    rw [gI_wi (by omega)]; exact h.2.2.1.2.2 i hi
theorem RC.w4 (h : RC a σ) {v : Int32} : RC (aTp a, aTn a, aFk a, v, a.2.2.2.2) (wI σ 0 4 v) := by
  have hcb := CBv
  have f : FrO (fun _ => False) (fun j => j = 4) σ (wI σ 0 4 v) := by
    refine FrO.wI (FrO.refl h.z) ?_
    exact Or.inr ⟨rfl, rfl⟩
  have ag : ∀ i, i ≠ 0 → agr σ (wI σ 0 4 v) i := fun i hi => (agr.refl σ i).wI hi
  refine h.up f (fun i z => z.elim) (fun j z => by have : j = 4 := z; omega) (h.rw74 (fun i h1 h2 => ag i (by omega))) (h.2.1.mv (gI_wn (by omega)) (gI_wi (by omega))) ⟨?_, gI_ws, ?_⟩ (h.2.2.2.2.2.2.2.2.mv (gI_wn (by omega)) (gI_wi (by omega)))
  · rw [gI_wn (by omega)]; exact h.2.2.1.1
  · intro i hi
    rw [gI_wi (by omega)]; exact h.2.2.1.2.2 i hi
/-- a new island stands -/
theorem RC.isl (h : RC a σ) {t : Nat} (hI : IslC σ (dyn σ.1) t I) : RC (aTp a, aTn a, aFk a, aFp a, aRf a, I, aS a, aU a, aSd a, aOu a, aOn a) (wR σ 0 0 (t + 1)) := by
  obtain ⟨b, tt, fl, is, nw, tr, kp, sd, ou⟩ := h
  have ag : ∀ i, i ≠ 0 → agr σ (wR σ 0 0 (t + 1)) i := fun i hi => (agr.refl σ i).wR hi
  have hcb := CBv
  exact ⟨b.mv (Nat.le_refl _) b.1.2 (fun i _ => rfl) (fun i hi => ag i (by omega)), tt, fl, ⟨t, gR_ws, hI.fr (fun i hi => ag i (by have := dyn_not hi; omega)) (fun i hi => hi)⟩, nw.mv (fun i h1 h2 => ag i (by omega)), tr.fr (by omega) (fun i h1 h2 => ag i (by omega)), kp.mv rfl (fun i h1 h2 => ag i (by omega)), sd, ou⟩
theorem RC.kp0 (h : RC a σ) : RC (aSetS a (aS a) []) (wI σ 0 15 0) := by
  have f : FrO kpP kpJ σ (wI σ 0 15 0) := by
    refine FrO.wI (FrO.refl h.z) ?_
    exact Or.inr ⟨rfl, rfl⟩
  have ag : ∀ i, i ≠ 0 → agr σ (wI σ 0 15 0) i := fun i hi => (agr.refl σ i).wI hi
  obtain ⟨k1, k2, k3, p, p1, p2, p3⟩ := h.2.2.2.2.2.2.1
  refine h.kp f ⟨by simp, gI_ws, fun k hk => (k3 k hk).fr (by omega) (fun i h1 h2 => ag i (by omega)), p, fun k hk => ?_, p2, fun j s hj => ?_⟩
  · rw [(ag 134 (by omega)).2.2.2]; exact p1 k hk
  · simp at hj
theorem co_island (h : RC a σ) (hn : aTn a ≤ 1280) (hcb : σ.1 + mc ≤ CB) (hmc : 60 * aTn a + 400 ≤ mc) (hms : 4500 * aTn a + 34000 ≤ ms) (hk : ∀ σ', σ'.1 ≤ σ.1 + mc → RC (sp_island a).2 σ' → K (sp_island a).1 σ') : U_X0_island mc ms σ K := by
  have hz := h.1.1
  refine st_ (st_ (st_ ⟨mc, ms, ⟨by omega, by omega⟩, ?_⟩))
  have h2 : gI (wI (wI σ 0 3 0) 0 4 (-1)) 0 2 = nI (aTn a) := by
    rw [gI_wn (by omega), gI_wn (by omega)]; exact h.2.1.2.1
  rw [h2]
  have r0 : RC (aTp a, 0, 0, -1, aRf a, aI a, aS a, aU a, aSd a, aOu a, aOn a) (wI (wI (wI σ 0 3 0) 0 4 (-1)) 0 2 0) := ((h.w3 (v := 0)).w4 (v := -1)).tn (n := 0) (by omega)
  obtain ⟨u, hu⟩ : ∃ u, u = wI (wI (wI σ 0 3 0) 0 4 (-1)) 0 2 0 := ⟨_, rfl⟩
  rw [← hu] at r0 ⊢
  have uz : u.1 = σ.1 := by rw [hu]; rfl
  refine cr_all (B := aTp a) rfl (by omega) hn h.2.1.2.2.2 r0.2.1.2.2.1 r0.ko (by omega) hmc hms (fun e he σ1 f1 z1 e6 e7 => ?_) (fun I' st' he σ1 f1 z1 g0 hI => ?_)
  · have r1 := r0.rd f1 (by omega)
    have hsp : sp_island a = (-1, aTp a, 0, nI e.1, nI e.2, fu_ (aRf a) 1 (aRf a 1 + 1), aI a, aS a, aU a, aSd a, aOu a, aOn a) := by unfold sp_island; rw [he]
    rw [hsp] at hk
    have r2 := (r1.w3 (v := gI σ1 10 6)).w4 (v := gI (wI σ1 0 3 (gI σ1 10 6)) 10 7)
    rw [gI_wi (by omega), e6, e7] at r2
    refine st_ (st_ ?_)
    rw [gI_wi (by omega), e6, e7]
    unfold U_X0_refuses
    refine ⟨vi_ (i := 1) (by omega) (by omega), vi_ (i := 1) (by omega) (by omega), st_ (hk _ ?_ (r2.ref (k := 1) (by omega)))⟩
    show σ1.1 ≤ _
    omega
  · have r1 := r0.rd f1 (by omega)
    have hsp : sp_island a = (nI st', aTp a, 0, 0, -1, aRf a, I', st0, [], aSd a, aOu a, aOn a) := by unfold sp_island; rw [he]
    rw [hsp] at hk
    have hI2 : IslC σ1 (dyn σ1.1) u.1 I' := hI.fr (fun i _ => agr.refl σ1 i) (fun i hi => Or.inr ⟨by have := hi.1; omega, hi.2⟩)
    have r2 := r1.isl hI2
    refine st_ (cb_begins (Or.inl rfl) r2.2.2.2.2.1.1.rw0 fun σ2 f2 s2 e2 => st_ ?_)
    have r3 := r2.now (f2.mono (fun i z => Or.inr z)) ⟨s2, e2⟩
    have r4 := r3.kp0
    have g2 : agr (wR σ1 0 0 (u.1 + 1)) σ2 0 := f2.2.2 0 (fun z => by unfold obP at z; omega)
    have gu : agr (wR σ1 0 0 (u.1 + 1)) σ2 u.1 := f2.2.2 u.1 (fun z => by unfold obP at z; omega)
    refine ⟨u.1, ?_, ?_, ?_⟩
    · rw [gR_wI, g2.2.2.2]; exact gR_ws
    · show gK σ2 u.1 = _
      rw [gu.1]; exact hI2.2.1
    · rw [gI_wi (by omega), gu.2.1, gI_wR, g0]
      refine hk _ ?_ r4
      show σ2.1 ≤ _
      rw [f2.1]; show σ1.1 ≤ _; omega
end CIs
