/-! COMPONENT, PURE SIDE: laws told; which word it is. -/
def lwIx (w : List Nat) : Int32 := if w = standsWd then 0 else if w = fallsWd then 1 else if w = takesWd then 2 else if w = fineWd then 3 else if w = firstWd then 4 else if w = catWd then 5 else -1
def nmIx (w : List Nat) : Int32 := if w = thingWd then 0 else if w = menderWd then 1 else if w = trialWd then 2 else -1
section CL
variable {σ0 σ σ' σ'' : CS} {i j k k' n o p q x mc ms c m tk d t id kd st MC f : Nat} {B : Byt} {S S' : Nat → Prop} {w : List Nat} {I I' : Isl}
theorem IsX.set (h : IsX σ t I S) (hz : σ'.1 = σ.1) (ag : ∀ i, i ≠ t → agr σ σ' i) (hk : gK σ' t = gK σ t) (hr : ∀ kd, kd < 3 → gR σ' t (2 + kd) = gR σ t (2 + kd)) (hC : iC I' = iC I) (hN : iN I' = iN I) (hXe : ∀ i, i < 40 → iX I' i = iX I i) (hT : ∀ j, 5 ≤ j → iT I' j = iT I j) (hc4 : iC I 1 ≤ 4) (hlw : LwC σ S t I → LwC σ' S t I') : IsX σ' t I' S := by
  obtain ⟨a, cp, el, h1, h2, h3, h4, h5, h6, h7⟩ := h
  have fS : ∀ i, S i → agr σ σ' i := fun i hi => ag i (by have := h4 i hi; omega)
  refine ⟨a, cp, el, by rw [hk]; exact h1, fun kd hkd => ?_, h3, fun i hi => by rw [hz]; exact h4 i hi, by omega, fun kd j hkd hj => ?_, hlw h7⟩
  · obtain ⟨a1, a2, a3, a4, a5, a6⟩ := h2 kd hkd
    rw [hC, hr kd hkd]
    exact ⟨a1, a2.fr (ag _ (by omega)) (ag _ (by omega)), a3, a4, by omega, a6⟩
  · rw [hC] at hj
    have h8 := (h2 kd hkd).2.2.1
    refine ((h6 kd j hkd hj).fr fS (fun _ h => h)).cg (by rw [hN]) (fun e => ⟨hXe _ (by omega), hXe _ (by omega), hXe _ (by omega)⟩) (fun e => ?_) (fun _ => hT _ (by omega))
    subst e
    exact ⟨hXe _ (by omega), hXe _ (by omega)⟩
/-- a new law's pointer -/
theorem cr_setLaw {v : CS} {r : Nat} (hb : BuC B n σ k t I st) (hz : σ.1 ≤ σ'.1) (ag : ∀ i, i < σ.1 → i ≠ 9 → i ≠ 10 → agr σ σ' i) (hrd : RdC B n σ' k' 0) (hto : gR σ' 9 6 = t + 1) (hv : v = wR σ' t f (r + 1)) (hf : 5 ≤ f) (hc4 : iC I 1 ≤ 4) (hC : iC I' = iC I) (hN : iN I' = iN I) (hXe : iX I' = iX I) (hT : ∀ j, 5 ≤ j → iT I' j = iT I j)
    (hlw : ∀ S, (∀ i, newS σ.1 σ'.1 i → S i) → (∀ i, S i → i ≠ t) → LwC σ' S t I → LwC v S t I') : BuC B n v k' t I' st := by
  have hl := hb.lt
  obtain ⟨h1, h2, h3, h4, S, h5⟩ := hb
  have hX := h5.grow (σ' := σ') (fun i h1 h2 => ag i h2 (by omega) (by omega)) hz
  have av : ∀ i, i ≠ t → agr σ' v i := fun i hi => by rw [hv]; exact (agr.refl σ' i).wR hi
  have hz' : v.1 = σ'.1 := by rw [hv]; rfl
  have hIv : ∀ i, gI v i = gI σ' i := fun i => by rw [hv]; rfl
  refine ⟨hrd.agr (fun i hi => av i (by have := hrd.sz; omega)) (by omega) (by have := hrd.sz; omega), by rw [(av 9 (by omega)).2.2.2]; exact hto, by rw [hIv, (ag t (by omega) (by omega) (by omega)).2.1]; exact h3, h4, _, hX.set hz' av (by rw [hv]; rfl) (fun kd hkd => by rw [hv, gR_wn (by omega)]) hC hN (fun i _ => by rw [hXe]) hT hc4 (hlw _ (fun i hi => Or.inr hi) (fun i hi => ?_))⟩
  obtain ⟨a, cp, el, -, -, -, hS, -⟩ := h5
  rcases hi with hi | hi
  · have := hS i hi; omega
  · have := hi.1; omega
theorem OpT.none {tk r : Nat} {oo : Option TT} (h : OpT σ S tk r oo) : r = 0 ↔ oo.isSome = false := by
  cases oo with
  | none => exact ⟨fun _ => rfl, fun _ => h⟩
  | some v => obtain ⟨q, h1, -⟩ := h; exact ⟨fun z => by omega, fun z => by cases z⟩
theorem OpV.none {tk r : Nat} {oo : Option VV} (h : OpV σ S tk r oo) : r = 0 ↔ oo.isSome = false := by
  cases oo with
  | none => exact ⟨fun _ => rfl, fun _ => h⟩
  | some v => obtain ⟨q, h1, -⟩ := h; exact ⟨fun z => by omega, fun z => by cases z⟩
theorem cr_lawT {K : Unit → CS → Prop} {E : CS → Prop} {x2 x3 : Int32} {ww : Nat} (hw : (ww = 0 ∧ f = 5 ∧ tk = 1) ∨ (ww = 1 ∧ f = 6 ∧ tk = 0)) (hx3 : x3 = ctx tk) (hb : BuC B n σ k t I st) (hc4 : iC I 1 ≤ 4) (hx2 : x2 = nI p) (f0 : FrDc σ0 σ) (h0 : σ0.1 = t) (hM : σ.1 + mc ≤ σ0.1 + MC) (hMB : σ0.1 + MC ≤ CB) (hb1 : 60 * bd n k (pLwT B n I ww tk p k) + 50 ≤ mc) (hb2 : 4500 * bd n k (pLwT B n I ww tk p k) + 3800 ≤ ms)
    (hE : ∀ e, pLwT B n I ww tk p k = .inl e → ErD MC σ0 E e) (hK : ∀ I' k', pLwT B n I ww tk p k = .inr (I', k') → ∀ σ' k2, k2 ≤ k' → skp B n k2 = skp B n k' → FrDc σ0 σ' → σ'.1 ≤ σ.1 + mc → BuC B n σ' k2 t I' st → K () σ') :
    (∃ q1, (gR σ 9 6) = q1 + 1 ∧ (gK σ q1 = some kO1 ∧ (∃ mc5 ms6 : Nat, (0 + mc5 ≤ mc ∧ 0 + ms6 ≤ ms) ∧ (U_X2_testOnce mc5 ms6 σ (gR σ q1 f) x2 x3 (fun r4 σ3 => (∃ q7, (gR σ 9 6) = q7 + 1 ∧ (q7 < CB ∧ (gK σ3 q7 = some kO1 ∧ (∀ σ9 : CS, σ9 = wR σ3 q7 f r4 → (K () σ9)))))) E)))) := by
  subst hx3
  have hl := hb.lt
  have hkn := hb.rd.kn
  have htk : tk < 4 := by omega
  obtain ⟨S, hX⟩ := hb.2.2.2.2
  have hop : gR σ t f = 0 ↔ (iT I ww).isSome = false := by
    obtain ⟨-, -, -, -, -, -, -, -, -, l1, l2, -⟩ := hX
    rcases hw with ⟨rfl, rfl, rfl⟩ | ⟨rfl, rfl, rfl⟩
    · exact l1.none
    · exact l2.none
  unfold pLwT at hE hK hb1 hb2
  have body : ∀ b : Bool, (iT I ww).isSome = b → U_X2_testOnce_10 mc ms (fun r4 σ3 => (∃ q7, (gR σ 9 6) = q7 + 1 ∧ (q7 < CB ∧ (gK σ3 q7 = some kO1 ∧ (∀ σ9 : CS, σ9 = wR σ3 q7 f r4 → (K () σ9)))))) E x2 (ctx tk) (b1 b) 0 0 σ := by
    intro b hbb
    refine cr_most (mc := 0) rfl hx2 (fun e => ?_) (fun e => st_ ?_)
    · rw [hbb, e, if_pos rfl] at hE
      exact (hE _ rfl).goD f0 (by omega)
    · rw [hbb, e, if_neg (by decide)] at hE hK hb1 hb2
      have hbe : bd n k (rsB (pTst B n tk k) (fun c => (.inr (iSetT I ww c.1, c.2) : Rs (Isl × Nat)))) = bd n k (pTst B n tk k) := by
        cases pTst B n tk k with
        | inl z => rfl
        | inr z => rfl
      rw [hbe] at hb1 hb2
      have b2 := hb.w5 (v := ctx tk)
      obtain ⟨s3, hs3⟩ : ∃ s3, s3 = wI σ 9 5 (ctx tk) := ⟨_, rfl⟩
      rw [← hs3] at b2 ⊢
      have y3 : s3.1 = σ.1 := by rw [hs3]; rfl
      have a3 : ∀ i, i ≠ 9 → agr σ s3 i := fun i hi => by rw [hs3]; exact (agr.refl σ i).wI hi
      have fd3 : FrDc σ0 s3 := f0.of_agr (fun i _ h9 _ => a3 i h9) (by omega) (fun i _ _ => by rw [hs3]; rfl)
      have c3 : gI s3 9 5 = ctx tk := by rw [hs3]; exact gI_ws
      refine ⟨mc, ms, ⟨by omega, by omega⟩, cr_tst htk _ _ k s3 _ _ b2.rd c3 (by omega) (TbO.of.le (by omega) (by omega)) (fun e he => ?_) (fun v5 q5 hv5 s5 y k2 hk2 hk3 f5 z5 g5 tc5 => ?_)⟩
      · rw [he] at hE
        exact (hE e rfl).goD fd3 (by omega)
      · rw [hv5] at hK
        have y5 := f5.1
        have kt : gK s5 t = some kO1 := by rw [(f5.agr (i := t) (Or.inl (by omega)) (by omega) (by omega)).1]; exact b2.kind
        refine ⟨t, hb.2.1, by omega, kt, st_ ?_⟩
        have b5 := b2.fr f5 g5
        have hv : BuC B n (wR s5 t f (y + 1)) k2 t (iSetT I ww v5) st := by
          refine cr_setLaw (σ := σ) hb (by omega) (fun i hi h9 h10 => (a3 i h9).trans (f5.agr (Or.inl (by omega)) h9 h10)) g5 b5.2.1 rfl (by omega) hc4 rfl rfl rfl (fun j hj => ?_) (fun S hS1 hS2 hlw => ?_)
          · show fu_ (iT I) ww (some v5) j = _
            exact fu_ne (by omega)
          · obtain ⟨l1, l2, l3, l4, l5, l6⟩ := hlw
            have fS : ∀ i, S i → agr s5 (wR s5 t f (y + 1)) i := fun i hi => (agr.refl s5 i).wR (hS2 i hi)
            have tc6 : TC tk (wR s5 t f (y + 1)) S 45 y v5 := (TC.fr (S := newS s3.1 s5.1) (fun i hi => (agr.refl s5 i).wR (by have := hi.1; omega)) (fun i hi => hS1 i (newS_mono hi (by omega) (Nat.le_refl _))) _ _ _ tc5).ge (by omega)
            unfold LwC
            rw [show iV (iSetT I ww v5) = iV I from rfl, show iX (iSetT I ww v5) = iX I from rfl, show iT (iSetT I ww v5) = fu_ (iT I) ww (some v5) from rfl]
            rcases hw with ⟨rfl, rfl, rfl⟩ | ⟨rfl, rfl, rfl⟩
            · rw [fu_same, fu_ne (by omega), gR_ws, gR_wn (by omega), gR_wn (by omega), gR_wn (by omega), gR_wn (by omega)]
              exact ⟨⟨y, rfl, tc6⟩, l2.fr fS (fun _ h => h), l3.fr fS (fun _ h => h), l4.fr fS (fun _ h => h), l5.fr fS (fun _ h => h), l6⟩
            · rw [fu_same, fu_ne (by omega), gR_ws, gR_wn (by omega), gR_wn (by omega), gR_wn (by omega), gR_wn (by omega)]
              exact ⟨l1.fr fS (fun _ h => h), ⟨y, rfl, tc6⟩, l3.fr fS (fun _ h => h), l4.fr fS (fun _ h => h), l5.fr fS (fun _ h => h), l6⟩
        exact hK _ _ rfl _ k2 hk2 hk3 ((fd3.trans f5.toD).of_agr (fun i hi _ _ => (agr.refl s5 i).wR (by omega)) (Nat.le_refl _) (fun _ _ _ => rfl)) (by show s5.1 ≤ _; omega) hv
  refine ⟨t, hb.2.1, hb.kind, mc, ms, ⟨by omega, by omega⟩, ?_⟩
  unfold U_X2_testOnce
  rw [hop]
  cases e : (iT I ww).isSome with
  | true => exact br_f (by decide) (body true e)
  | false => exact br_t rfl (body false e)
theorem cr_lawV {K : Unit → CS → Prop} {E : CS → Prop} {x2 x3 : Int32} {ww : Nat} (hw : (ww = 2 ∧ f = 7 ∧ tk = 2) ∨ (ww = 3 ∧ f = 8 ∧ tk = 2) ∨ (ww = 4 ∧ f = 9 ∧ tk = 0)) (hx3 : x3 = ctx tk) (hb : BuC B n σ k t I st) (hc4 : iC I 1 ≤ 4) (hx2 : x2 = nI p) (f0 : FrDc σ0 σ) (h0 : σ0.1 = t) (hM : σ.1 + mc ≤ σ0.1 + MC) (hMB : σ0.1 + MC ≤ CB) (hb1 : 60 * bd n k (pLwV B n I ww tk p k) + 50 ≤ mc) (hb2 : 4500 * bd n k (pLwV B n I ww tk p k) + 3800 ≤ ms)
    (hE : ∀ e, pLwV B n I ww tk p k = .inl e → ErD MC σ0 E e) (hK : ∀ I' k', pLwV B n I ww tk p k = .inr (I', k') → ∀ σ' k2, k2 ≤ k' → skp B n k2 = skp B n k' → FrDc σ0 σ' → σ'.1 ≤ σ.1 + mc → BuC B n σ' k2 t I' st → K () σ') :
    (∃ q1, (gR σ 9 6) = q1 + 1 ∧ (gK σ q1 = some kO1 ∧ (∃ mc5 ms6 : Nat, (0 + mc5 ≤ mc ∧ 0 + ms6 ≤ ms) ∧ (U_X2_sumOnce mc5 ms6 σ (gR σ q1 f) x2 x3 (fun r4 σ3 => (∃ q7, (gR σ 9 6) = q7 + 1 ∧ (q7 < CB ∧ (gK σ3 q7 = some kO1 ∧ (∀ σ9 : CS, σ9 = wR σ3 q7 f r4 → (K () σ9)))))) E)))) := by
  subst hx3
  have hl := hb.lt
  have hkn := hb.rd.kn
  have htk : tk < 4 := by omega
  obtain ⟨S, hX⟩ := hb.2.2.2.2
  have hop : gR σ t f = 0 ↔ (iV I ww).isSome = false := by
    obtain ⟨-, -, -, -, -, -, -, -, -, -, -, l3, l4, l5, -⟩ := hX
    rcases hw with ⟨rfl, rfl, rfl⟩ | ⟨rfl, rfl, rfl⟩ | ⟨rfl, rfl, rfl⟩
    · exact l3.none
    · exact l4.none
    · exact l5.none
  unfold pLwV at hE hK hb1 hb2
  have body : ∀ b : Bool, (iV I ww).isSome = b → U_X2_sumOnce_10 mc ms (fun r4 σ3 => (∃ q7, (gR σ 9 6) = q7 + 1 ∧ (q7 < CB ∧ (gK σ3 q7 = some kO1 ∧ (∀ σ9 : CS, σ9 = wR σ3 q7 f r4 → (K () σ9)))))) E x2 (ctx tk) (b1 b) 0 0 σ := by
    intro b hbb
    refine cr_most (mc := 0) rfl hx2 (fun e => ?_) (fun e => st_ ?_)
    · rw [hbb, e, if_pos rfl] at hE
      exact (hE _ rfl).goD f0 (by omega)
    · rw [hbb, e, if_neg (by decide)] at hE hK hb1 hb2
      have hbe : bd n k (rsB (pVal B n tk k) (fun c => (.inr (iSetV I ww c.1, c.2) : Rs (Isl × Nat)))) = bd n k (pVal B n tk k) := by
        cases pVal B n tk k with
        | inl z => rfl
        | inr z => rfl
      rw [hbe] at hb1 hb2
      have b2 := hb.w5 (v := ctx tk)
      obtain ⟨s3, hs3⟩ : ∃ s3, s3 = wI σ 9 5 (ctx tk) := ⟨_, rfl⟩
      rw [← hs3] at b2 ⊢
      have y3 : s3.1 = σ.1 := by rw [hs3]; rfl
      have a3 : ∀ i, i ≠ 9 → agr σ s3 i := fun i hi => by rw [hs3]; exact (agr.refl σ i).wI hi
      have fd3 : FrDc σ0 s3 := f0.of_agr (fun i _ h9 _ => a3 i h9) (by omega) (fun i _ _ => by rw [hs3]; rfl)
      have c3 : gI s3 9 5 = ctx tk := by rw [hs3]; exact gI_ws
      refine ⟨mc, ms, ⟨by omega, by omega⟩, cr_val htk _ _ k s3 _ _ b2.rd c3 (by omega) (by omega) (by omega) (fun e he => ?_) (fun v5 q5 hv5 s5 y f5 z5 g5 tc5 => ?_)⟩
      · rw [he] at hE
        exact (hE e rfl).goD fd3 (by omega)
      · rw [hv5] at hK
        have y5 := f5.1
        have kt : gK s5 t = some kO1 := by rw [(f5.agr (i := t) (Or.inl (by omega)) (by omega) (by omega)).1]; exact b2.kind
        refine ⟨t, hb.2.1, by omega, kt, st_ ?_⟩
        have b5 := b2.fr f5 g5
        have hv : BuC B n (wR s5 t f (y + 1)) q5 t (iSetV I ww v5) st := by
          refine cr_setLaw (σ := σ) hb (by omega) (fun i hi h9 h10 => (a3 i h9).trans (f5.agr (Or.inl (by omega)) h9 h10)) g5 b5.2.1 rfl (by omega) hc4 rfl rfl rfl (fun j hj => rfl) (fun S hS1 hS2 hlw => ?_)
          obtain ⟨l1, l2, l3, l4, l5, l6⟩ := hlw
          have fS : ∀ i, S i → agr s5 (wR s5 t f (y + 1)) i := fun i hi => (agr.refl s5 i).wR (hS2 i hi)
          have tc6 : VC tk (wR s5 t f (y + 1)) S 45 y v5 := (VC.fr (S := newS s3.1 s5.1) (fun i hi => (agr.refl s5 i).wR (by have := hi.1; omega)) (fun i hi => hS1 i (newS_mono hi (by omega) (Nat.le_refl _))) _ _ _ tc5).ge (by omega)
          unfold LwC
          rw [show iT (iSetV I ww v5) = iT I from rfl, show iX (iSetV I ww v5) = iX I from rfl, show iV (iSetV I ww v5) = fu_ (iV I) ww (some v5) from rfl]
          rcases hw with ⟨rfl, rfl, rfl⟩ | ⟨rfl, rfl, rfl⟩ | ⟨rfl, rfl, rfl⟩
          · rw [fu_same, fu_ne (by omega), fu_ne (by omega), gR_ws, gR_wn (by omega), gR_wn (by omega), gR_wn (by omega), gR_wn (by omega)]
            exact ⟨l1.fr fS (fun _ h => h), l2.fr fS (fun _ h => h), ⟨y, rfl, tc6⟩, l4.fr fS (fun _ h => h), l5.fr fS (fun _ h => h), l6⟩
          · rw [fu_same, fu_ne (by omega), fu_ne (by omega), gR_ws, gR_wn (by omega), gR_wn (by omega), gR_wn (by omega), gR_wn (by omega)]
            exact ⟨l1.fr fS (fun _ h => h), l2.fr fS (fun _ h => h), l3.fr fS (fun _ h => h), ⟨y, rfl, tc6⟩, l5.fr fS (fun _ h => h), l6⟩
          · rw [fu_same, fu_ne (by omega), fu_ne (by omega), gR_ws, gR_wn (by omega), gR_wn (by omega), gR_wn (by omega), gR_wn (by omega)]
            exact ⟨l1.fr fS (fun _ h => h), l2.fr fS (fun _ h => h), l3.fr fS (fun _ h => h), l4.fr fS (fun _ h => h), ⟨y, rfl, tc6⟩, l6⟩
        exact hK _ _ rfl _ q5 (Nat.le_refl _) rfl ((fd3.trans f5.toD).of_agr (fun i hi _ _ => (agr.refl s5 i).wR (by omega)) (Nat.le_refl _) (fun _ _ _ => rfl)) (by show s5.1 ≤ _; omega) hv
  refine ⟨t, hb.2.1, hb.kind, mc, ms, ⟨by omega, by omega⟩, ?_⟩
  unfold U_X2_sumOnce
  rw [hop]
  cases e : (iV I ww).isSome with
  | true => exact br_f (by decide) (body true e)
  | false => exact br_t rfl (body false e)
end CL
