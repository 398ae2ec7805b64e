/-! COMPONENT, PURE SIDE: facts, tests. -/
set_option maxRecDepth 20000 in
theorem ar_1 {A C ms : Nat} (h : 4500 * C + 3600 ≤ ms) (w : A + 1 ≤ C) : 2564 + 1 + (4500 * A + 3600) ≤ ms := by omega
section CG
variable {σ0 σ σ' : CS} {i j k k' n o q x mc ms c m tk d : Nat} {B : Byt} {S S' : Nat → Prop} {PA PF : PTR} {A : Nat → Rs (VV × Nat)} {F : Nat → Rs (TT × Nat)}
theorem pTes_pr (hF : PrA n F) : PrA n (pTes B n F) := by
  rw [faA_tes, faA_bot]
  exact faA_pr (faA_pr hF)
theorem pFac_pr : ∀ m o, PrA n (pFac B n tk m o)
  | 0, o => fun k v k' _ e => by cases e
  | m + 1, o => by
    intro k v k' hk e
    have ih := fun o => pFac_pr m o
    have hs := pSum_pr (B := B) (pAtm_pr (B := B) (n := n) (tk := tk) m o)
    have hge := skp_ge B n k
    unfold pFac at e
    split at e
    · rename_i hb
      have hin := bt_in hb (by omega)
      split at e
      · cases e
      · obtain ⟨r, h1, e⟩ := rsB_inr e
        have p1 := pTes_pr (B := B) (ih _) _ r.1 r.2 hin h1
        obtain ⟨k1, h2, e⟩ := rsB_inr e
        have p2 := pMust_pr p1.2 (by omega) h2
        injection e with e
        injection e with e1 e2
        omega
    · obtain ⟨w, h1, e⟩ := rsB_inr e
      cases w with
      | some q =>
        have p1 := pPas_pr hk h1
        simp only at e
        split at e
        · cases e
        · obtain ⟨r, h2, e⟩ := rsB_inr e
          have p2 := ih _ _ r.1 r.2 p1.2 h2
          injection e with e
          injection e with e1 e2
          omega
      | none =>
        simp only at e
        obtain ⟨w, h2, e⟩ := rsB_inr e
        cases w with
        | some q =>
          have p1 := pPas_pr hk h2
          injection e with e
          injection e with e1 e2
          omega
        | none =>
          simp only at e
          obtain ⟨r, h3, e⟩ := rsB_inr e
          have p1 := hs _ r.1 r.2 hk h3
          have g1 := skp_ge B n r.2
          split at e
          · rename_i hb
            have hin : skp B n r.2 < n := by
              rcases hb with hb | hb | hb <;> exact bt_in hb (by omega)
            obtain ⟨r2, h4, e⟩ := rsB_inr e
            have p2 := hs _ r2.1 r2.2 hin h4
            injection e with e
            injection e with e1 e2
            omega
          · cases e
theorem pAtm_skp {k2 : Nat} (h : skp B n k2 = skp B n k) : ∀ m o, pAtm B n tk m o k2 = pAtm B n tk m o k
  | 0, _ => rfl
  | m + 1, o => by
    unfold pAtm
    have e1 : pNum B n k2 0 9999 = pNum B n k 0 9999 := by unfold pNum; rw [h]
    have e2 : pWord B n k2 = pWord B n k := by unfold pWord; rw [h]
    have e3 : pWit B n (pAtm B n tk m) 0 o k2 = pWit B n (pAtm B n tk m) 0 o k := by unfold pWit; rw [h]
    rw [h, e1, e2, e3]
theorem pSum_at {k2 : Nat} (h : A k2 = A k) : pSum B n A k2 = pSum B n A k := by unfold pSum pPro; rw [h]
theorem pMust_skp2 {k2 : Nat} (h : skp B n k2 = skp B n k) (c : Nat) : pMust B n k2 c = pMust B n k c := by unfold pMust; rw [h]
theorem cr_test (hF : TeL B n tk d 40 2560 0 20 3600 PF F o) (hp : PrA n F) : TeL B n tk (d + 2) 20 0 2600 40 3800 (fun mc ms σ K E => U_X2_test PA PF mc ms σ K E) (pTes B n F) o := by
  have h1 : TeL B n tk (d + 1) (40 - 10) 0 20 (20 + 10) (3600 + 100) (faU PF 1048646 1) (faA B n andWd true F) o := cr_faU (t := 27) hF hp (by omega) (by omega) (by omega) (by omega) (by omega) rfl rfl rfl (by omega)
  have h2 : TeL B n tk (d + 1 + 1) (40 - 10 - 10) 0 2600 (20 + 10 + 10) (3600 + 100 + 100) (faU (faU PF 1048646 1) 1048644 0) (faA B n orWd false (faA B n andWd true F)) o := cr_faU (t := 26) h1 (faA_pr hp) (by omega) (by omega) (by omega) (by omega) (by omega) rfl rfl rfl (by omega)
  rw [faA_tes, faA_bot, faU_tes, faU_bot]
  exact h2
/-- two sums are held against each other -/
theorem cr_f148 {K : Nat → CS → Prop} {E : CS → Prop} {a0 cc cx zx : Nat} {a : VV} {x2 : Int32} (hcc : cc = 60 ∨ cc = 62 ∨ cc = 61) (hx2 : x2 = nI cc) (hS : AtL B n tk d 6 1600 (fun mc ms σ K E => U_X2_sum PA PF mc ms σ K E) A o) (hp : PrA n A) (h : RdC B n σ k o) (hkn : k < n) (h5 : gI σ 9 5 = ctx tk) (hf : FrC σ0 σ) (hcb : σ0.1 + mc ≤ CB) (hz : σ.1 ≤ σ0.1 + cx) (hsz : 1296 ≤ σ0.1) (ha : VC tk σ (newS σ0.1 σ.1) d a0 a)
    (hb1 : cx + 60 * bd n (k + 1) (A (k + 1)) ≤ mc + 5) (hb2 : zx + 4500 * bd n (k + 1) (A (k + 1)) ≤ ms + 1597) (hb3 : cx + 1 ≤ mc ∧ zx + 3 ≤ ms)
    (hE : ∀ e, A (k + 1) = .inl e → ErC mc σ0 E e)
    (hK : ∀ w k', A (k + 1) = .inr (w, k') → ∀ σ' q, FrC σ0 σ' → σ'.1 ≤ σ0.1 + mc → RdC B n σ' k' o → TC tk σ' (newS σ0.1 σ'.1) (d + 1) q (fun e => cmpL cc (a e) (w e)) → K (q + 1) σ') : U_X2_fact_148 PA PF mc ms K E (a0 + 1) x2 cx zx σ := by
  subst hx2
  have hb0 : 1 ≤ bd n (k + 1) (A (k + 1)) := by
    cases hAk : A (k + 1) with
    | inl e => show 1 ≤ n + 6 - (k + 1); omega
    | inr r => have := hp _ r.1 r.2 hkn hAk; show 1 ≤ r.2 - (k + 1); omega
  refine st_ ?_
  rw [h.at_, nI_1]
  obtain ⟨s1, hs1⟩ : ∃ s1, s1 = wI σ 9 2 (nI (k + 1)) := ⟨_, rfl⟩
  rw [← hs1]
  have z1 : s1.1 = σ.1 := by rw [hs1]; rfl
  have g1 : RdC B n s1 (k + 1) o := by rw [hs1]; exact h.go hkn
  have f1 : FrC σ s1 := by rw [hs1]; exact (FrC.refl σ).wI (Or.inl scR_2)
  have hz0 := hf.1
  refine ⟨hb3, by omega, st_ ⟨60 * bd n (k + 1) (A (k + 1)) - 6, 4500 * bd n (k + 1) (A (k + 1)) - 1600, ⟨by omega, by omega⟩, ?_⟩⟩
  obtain ⟨t, ht0⟩ : ∃ t, t = nC s1 kO18 := ⟨_, rfl⟩
  rw [← ht0]
  have zt : t.1 = σ.1 + 1 := by rw [ht0]; show s1.1 + 1 = _; omega
  have fs : FrS s1 t := by rw [ht0]; exact (FrS.refl s1).nC (by omega)
  have gt : RdC B n t (k + 1) o := g1.frS fs (by omega)
  have kt : gK t s1.1 = some kO18 := by rw [ht0]; exact gK_n
  have ff := f1.trans fs.c
  refine hS _ _ (k + 1) t _ _ gt (ctx_fr h5 ff (by omega)) (by omega) (by omega) (by omega) (fun e he => (hE e he).go (hf.trans ff) (by omega)) (fun w k' hw u q fu zu gu vu => ⟨a0, rfl, q, rfl, ?_⟩)
  have fu1 := fu.1
  have hc : s1.1 < CB := by omega
  have ku : gK u s1.1 = some kO18 := by rw [(fu.agr (Or.inl (by omega)) (by omega) (by omega)).1]; exact kt
  refine ⟨hc, ku, st_ ⟨hc, ku, st_ ⟨hc, ku, st_ ?_⟩⟩⟩
  obtain ⟨v, hv⟩ : ∃ v, v = wR (wI (wR u s1.1 0 (a0 + 1)) s1.1 2 (nI cc)) s1.1 1 (q + 1) := ⟨_, rfl⟩
  rw [← hv]
  have av : ∀ i, i ≠ s1.1 → agr u v i := fun i hi => by rw [hv]; exact (((agr.refl u i).wR hi).wI hi).wR hi
  have zv : v.1 = u.1 := by rw [hv]; rfl
  have hv0 : FrC σ0 v := by rw [hv]; exact (((((hf.trans ff).trans fu).wR ⟨by omega, hc⟩).wI (Or.inr ⟨by omega, hc⟩)).wR ⟨by omega, hc⟩)
  refine hK w k' hw v s1.1 hv0 (by omega) (gu.agr (fun i hi => av i (by omega)) (by omega) (by omega)) ⟨⟨by omega, by omega⟩, Or.inr (Or.inr (Or.inl ⟨by rw [hv]; exact ku, a0, q, cc, a, w, ?_, by rw [hv]; exact gR_ws, by rw [hv]; exact gI_ws, hcc, ?_, ?_, rfl⟩))⟩
  · rw [hv, gR_wn (by omega)]; exact gR_ws
  · refine VC.fr (S := newS σ0.1 σ.1) (fun i hi => ?_) (fun i hi => newS_mono hi (Nat.le_refl _) (by omega)) _ _ _ ha
    have := hi.1; have := hi.2
    exact (((f1.agr (Or.inl (by omega)) (by omega) (by omega)).trans (fs.2 i (Or.inl (by omega)))).trans (fu.agr (Or.inl (by omega)) (by omega) (by omega))).trans (av i (by omega))
  · refine VC.fr (S := newS t.1 u.1) (fun i hi => ?_) (fun i hi => newS_mono hi (by omega) (by omega)) _ _ _ vu
    have := hi.1
    exact av i (by omega)
theorem cr_fact1 {FF : Nat → Nat → Rs (TT × Nat)} {AA : Nat → Rs (VV × Nat)} (hA : AtL B n tk d 20 1800 PA AA o) (hAp : PrA n AA) (hAs : ∀ k k2, skp B n k2 = skp B n k → AA k2 = AA k) (hF : TeL B n tk (d + 1) 40 2560 0 20 3600 PF (FF (o + 1)) (o + 1)) (hFp : PrA n (FF (o + 1))) {G : Nat → Rs (TT × Nat)} (hGp : PrA n G)
    (hG : G = fun k => if bt B n (skp B n k) = 91 then
      if o = 6 then .inl (4, skp B n k)
      else rsB (pTes B n (FF (o + 1)) (skp B n k + 1)) (fun r => rsB (pMust B n r.2 93) (fun k' => .inr (r.1, k')))
    else rsB (pPas B n k notWd) (fun w => match w with
      | some q => if o = 6 then .inl (4, skp B n k) else rsB (FF (o + 1) q) (fun r => .inr ((fun e => !(r.1 e)), r.2))
      | none => rsB (pPas B n k allWd) (fun w => match w with
        | some q => .inr ((fun _ => true), q)
        | none => rsB (pSum B n AA k) (fun r =>
          if bt B n (skp B n r.2) = 60 ∨ bt B n (skp B n r.2) = 62 ∨ bt B n (skp B n r.2) = 61 then
            rsB (pSum B n AA (skp B n r.2 + 1)) (fun r2 => .inr ((fun e => cmpL (bt B n (skp B n r.2)) (r.1 e) (r2.1 e)), r2.2))
          else .inl (1, skp B n r.2)))))   : TeL B n tk (d + 4) 40 2560 0 20 3600 (fun mc ms σ K E => U_X2_fact PA PF mc ms σ K E) G o := by
  have hS : AtL B n tk (d + 2) 6 1600 (fun mc ms σ K E => U_X2_sum PA PF mc ms σ K E) (pSum B n AA) o := cr_sum hA hAp
  have hSp := pSum_pr (B := B) hAp
  have hT : TeL B n tk (d + 1 + 2) 20 0 2600 40 3800 (fun mc ms σ K E => U_X2_test PA PF mc ms σ K E) (pTes B n (FF (o + 1))) (o + 1) := cr_test hF hFp
  have hTp := pTes_pr (B := B) hFp
  intro mc ms k σ K E h h5 hcb hb hE hK
  have hsz := h.sz
  have hkn := h.kn
  have hn := h.nn
  have hge := skp_ge B n k
  have hle := skp_le (B := B) hkn
  have hb0 : 1 ≤ bd n k (G k) := by
    cases hAk : G k with
    | inl e => show 1 ≤ n + 6 - k; omega
    | inr r => have := hGp _ r.1 r.2 hkn hAk; show 1 ≤ r.2 - k; omega
  have hX : ∀ {X : Rs (TT × Nat)} {k1 : Nat}, G k = X → k ≤ k1 → k1 ≤ n → (∀ w k', X = .inr (w, k') → k1 ≤ k') → 60 * (k1 - k) + 60 * bd n k1 X ≤ mc + 40 ∧ 4500 * (k1 - k) + 4500 * bd n k1 X ≤ ms + 2560 := by
    intro X k1 e h1 h2 h3
    rw [e] at hb
    cases X with
    | inl z =>
      have hb : 60 * (n + 6 - k) + 20 ≤ mc ∧ 4500 * (n + 6 - k) + 3600 ≤ ms := hb
      show 60 * (k1 - k) + 60 * (n + 6 - k1) ≤ mc + 40 ∧ 4500 * (k1 - k) + 4500 * (n + 6 - k1) ≤ ms + 2560
      omega
    | inr x =>
      have h3 := h3 x.1 x.2 rfl
      have hb : 60 * (x.2 - k) ≤ mc + 40 ∧ 4500 * (x.2 - k) + 0 ≤ ms + 2560 := hb
      show 60 * (k1 - k) + 60 * (x.2 - k1) ≤ mc + 40 ∧ 4500 * (k1 - k) + 4500 * (x.2 - k1) ≤ ms + 2560
      omega
  refine cr_here h fun s f hs g => ?_
  have c1 := ctx_fr h5 f hsz.1
  by_cases e : bt B n (skp B n k) = 91
  · have hin := bt_in e (by omega)
    have ek : G k = if o = 6 then .inl (4, skp B n k) else rsB (pTes B n (FF (o + 1)) (skp B n k + 1)) (fun r => rsB (pMust B n r.2 93) (fun k' => .inr (r.1, k'))) := by rw [hG]; exact if_pos e
    refine bn_f ((cI_eq (d := 91) (bt_le h.by_) (by omega)).mpr e) (cr_opens (mc := mc) g g.at_ (fun e6 => ?_) (fun e6 s1 f1 z1 g1 _ => st_ ?_))
    · rw [if_pos e6] at ek
      rw [ek] at hE
      exact (hE _ rfl).go f (by omega)
    · rw [if_neg e6] at ek
      rw [g1.at_, nI_1]
      have g2 : RdC B n (wI s1 9 2 (nI (skp B n k + 1))) (skp B n k + 1) (o + 1) := g1.go (by omega)
      obtain ⟨s2, hs2⟩ : ∃ s2, s2 = wI s1 9 2 (nI (skp B n k + 1)) := ⟨_, rfl⟩
      rw [← hs2] at g2 ⊢
      have z2 : s2.1 = σ.1 := by rw [hs2]; show s1.1 = _; omega
      have f2 : FrC σ s2 := by rw [hs2]; exact (f.trans f1).wI (Or.inl scR_2)
      have c2 := ctx_fr h5 f2 hsz.1
      cases hTk : pTes B n (FF (o + 1)) (skp B n k + 1) with
      | inl z =>
        rw [hTk] at ek
        have ek : G k = .inl z := ek
        rw [ek] at hb hE
        have hb : 60 * (n + 6 - k) + 20 ≤ mc ∧ 4500 * (n + 6 - k) + 3600 ≤ ms := hb
        refine ⟨60 * (n + 6 - (skp B n k + 1)) + 40, 4500 * (n + 6 - (skp B n k + 1)) + 3800, ⟨by omega, by omega⟩, hT _ _ (skp B n k + 1) s2 _ _ g2 c2 (by omega) ?_ (fun e' he' => ?_) (fun v k' hv' => ?_)⟩
        · rw [hTk]; exact ⟨Nat.le_refl _, Nat.le_refl _⟩
        · rw [hTk] at he'; injection he' with he'; subst he'
          exact (hE _ rfl).go f2 (by omega)
        · rw [hTk] at hv'; cases hv'
      | inr r =>
        obtain ⟨v1, k1⟩ := r
        rw [hTk] at ek
        have ek : G k = rsB (pMust B n k1 93) (fun k' => .inr (v1, k')) := ek
        have p1 := hTp _ v1 k1 hin hTk
        have hb := hX ek (by omega) p1.2 (fun w k' hw => by
          obtain ⟨k2, h2, hw⟩ := rsB_inr hw
          have p2 := pMust_pr p1.2 (by omega) h2
          injection hw with hw
          injection hw with e1 e2
          omega)
        have hb2' : 1 ≤ bd n k1 (rsB (pMust B n k1 93) (fun k' => (.inr (v1, k') : Rs (TT × Nat)))) := by
          cases hm : pMust B n k1 93 with
          | inl z => show 1 ≤ n + 6 - k1; omega
          | inr k2 => have p2 := pMust_pr p1.2 (by omega) hm; show 1 ≤ k2 - k1; omega
        refine ⟨60 * (k1 - (skp B n k + 1)) - 20, 4500 * (k1 - (skp B n k + 1)) + 2600, ⟨by omega, by omega⟩, hT _ _ (skp B n k + 1) s2 _ _ g2 c2 (by omega) ?_ (fun e' he' => ?_) (fun v k' hv' t q k3 hk3 hk4 ft zt gt vt => ?_)⟩
        · rw [hTk]
          show 60 * (k1 - (skp B n k + 1)) ≤ _ ∧ 4500 * (k1 - (skp B n k + 1)) + 2600 ≤ _
          omega
        · rw [hTk] at he'; cases he'
        · rw [hTk] at hv'
          injection hv' with hv'
          injection hv' with e1 e2
          subst e1 e2
          rw [ek] at hE hK
          have ft1 := ft.1
          refine cr_must (mc := 0) gt (c := 93) rfl (by omega) (fun z hz => ?_) (fun k4 hz _ s4 f4 z4 g4 => st_ ?_)
          · rw [pMust_skp2 hk4] at hz
            rw [hz] at hE
            exact (hE z rfl).go (f2.trans ft) (by omega)
          · rw [pMust_skp2 hk4] at hz
            rw [hz] at hK
            have ho := h.oo
            rw [op_1 g4]
            refine hK _ _ rfl _ q k4 (Nat.le_refl _) rfl (((f2.trans ft).trans f4).wI (Or.inl scR_4)) (by show s4.1 ≤ _; omega) (g4.opn ho) (TC.ge (TC.fr (S := newS s2.1 t.1) (fun i hi => ?_) (fun i hi => newS_mono hi (by omega) (by show t.1 ≤ s4.1; omega)) _ _ _ vt) (by omega))
            have := hi.1; have := hi.2
            exact (f4.agr (Or.inl (by omega)) (by omega) (by omega)).wI (by omega)
  · have ek : G k = rsB (pPas B n k notWd) (fun w => match w with
      | some q => if o = 6 then .inl (4, skp B n k) else rsB (FF (o + 1) q) (fun r => .inr ((fun e => !(r.1 e)), r.2))
      | none => rsB (pPas B n k allWd) (fun w => match w with
        | some q => .inr ((fun _ => true), q)
        | none => rsB (pSum B n AA k) (fun r =>
          if bt B n (skp B n r.2) = 60 ∨ bt B n (skp B n r.2) = 62 ∨ bt B n (skp B n r.2) = 61 then
            rsB (pSum B n AA (skp B n r.2 + 1)) (fun r2 => .inr ((fun e => cmpL (bt B n (skp B n r.2)) (r.1 e) (r2.1 e)), r2.2))
          else .inl (1, skp B n r.2)))) := by rw [hG]; exact if_neg e
    have esk : skp B n (skp B n k) = skp B n k := skp_idem B n k
    -- there is room for two words
    have hroom : 6 + 1 ≤ mc ∧ 2564 ≤ ms ∧ (pPas B n k notWd = .inr none → 5128 ≤ ms) := by
      refine ⟨?_, ?_, fun hno => ?_⟩
      · cases hGk : G k with
        | inl z => rw [hGk] at hb; have hb : 60 * (n + 6 - k) + 20 ≤ mc ∧ 4500 * (n + 6 - k) + 3600 ≤ ms := hb; omega
        | inr r =>
          have := hGp _ r.1 r.2 hkn hGk
          rw [hGk] at hb
          have hb : 60 * (r.2 - k) ≤ mc + 40 ∧ 4500 * (r.2 - k) + 0 ≤ ms + 2560 := hb
          omega
      · cases hGk : G k with
        | inl z => rw [hGk] at hb; have hb : 60 * (n + 6 - k) + 20 ≤ mc ∧ 4500 * (n + 6 - k) + 3600 ≤ ms := hb; omega
        | inr r =>
          rw [hGk] at hb
          have hb : 60 * (r.2 - k) ≤ mc + 40 ∧ 4500 * (r.2 - k) + 0 ≤ ms + 2560 := hb
          -- two bytes at least
          rw [hGk] at ek
          obtain ⟨w, h1, e2⟩ := rsB_inr ek.symm
          cases w with
          | some q =>
            have p1 := pPas_pr hkn h1
            simp only at e2
            split at e2
            · cases e2
            · obtain ⟨r2, h2, e2⟩ := rsB_inr e2
              have p2 := hFp _ r2.1 r2.2 p1.2 h2
              injection e2 with e2
              have := congrArg Prod.snd e2
              simp only at this
              omega
          | none =>
            simp only at e2
            obtain ⟨w, h2, e2⟩ := rsB_inr e2
            cases w with
            | some q =>
              have p1 := pPas_pr hkn h2
              obtain ⟨h3, rfl⟩ := pPas_some h2
              rw [hereW_eq, Bool.and_eq_true] at h3
              have h4 := of_decide_eq_true h3.2
              have h5 := congrArg List.length h4
              unfold wHe at h5
              rw [wd_len] at h5
              have h5 : wEn B n (skp B n k) - skp B n k = 3 := h5
              injection e2 with e2
              have := congrArg Prod.snd e2
              simp only at this
              omega
            | none =>
              simp only at e2
              obtain ⟨r3, h3, e2⟩ := rsB_inr e2
              have p1 := hSp _ r3.1 r3.2 hkn h3
              have g1 := skp_ge B n r3.2
              split at e2
              · rename_i hb
                have hin : skp B n r3.2 < n := by rcases hb with hb | hb | hb <;> exact bt_in hb (by omega)
                obtain ⟨r4, h4, e2⟩ := rsB_inr e2
                have p2 := hSp _ r4.1 r4.2 hin h4
                injection e2 with e2
                have := congrArg Prod.snd e2
                simp only at this
                omega
              · cases e2
      · cases hGk : G k with
        | inl z => rw [hGk] at hb; have hb : 60 * (n + 6 - k) + 20 ≤ mc ∧ 4500 * (n + 6 - k) + 3600 ≤ ms := hb; omega
        | inr r =>
          rw [hGk] at hb
          have hb : 60 * (r.2 - k) ≤ mc + 40 ∧ 4500 * (r.2 - k) + 0 ≤ ms + 2560 := hb
          rw [hGk, hno] at ek
          obtain ⟨w, h2, e2⟩ := rsB_inr (show rsB (pPas B n k allWd) _ = .inr r from ek.symm)
          cases w with
          | some q =>
            have p1 := pPas_pr hkn h2
            obtain ⟨h3, rfl⟩ := pPas_some h2
            rw [hereW_eq, Bool.and_eq_true] at h3
            have h4 := of_decide_eq_true h3.2
            have h5 := congrArg List.length h4
            unfold wHe at h5
            rw [wd_len] at h5
            have h5 : wEn B n (skp B n k) - skp B n k = 3 := h5
            injection e2 with e2
            have := congrArg Prod.snd e2
            simp only at this
            omega
          | none =>
            simp only at e2
            obtain ⟨r3, h3, e2⟩ := rsB_inr e2
            have p1 := hSp _ r3.1 r3.2 hkn h3
            have g1 := skp_ge B n r3.2
            split at e2
            · rename_i hb
              have hin : skp B n r3.2 < n := by rcases hb with hb | hb | hb <;> exact bt_in hb (by omega)
              obtain ⟨r4, h4, e2⟩ := rsB_inr e2
              have p2 := hSp _ r4.1 r4.2 hin h4
              injection e2 with e2
              have := congrArg Prod.snd e2
              simp only at this
              omega
            · cases e2
    obtain ⟨rm1, rm2, rm3⟩ := hroom
    refine bn_t (fun z => e ((cI_eq (bt_le h.by_) (d := 91) (by omega)).mp z)) ⟨3, 2564, ⟨by omega, by omega⟩, cr_passes g (t := 28) (w := notWd) (by omega) (by omega) (by omega) (by omega) rfl rfl (fun z hz => ?_) (fun q hq _ hqn _ s1 f1 z1 g1 h31 => ?_) (fun hq s1 k1 hk1 hk2 hk3 f1 z1 g1 => ?_)⟩
    · rw [pPas_skp esk] at hz
      rw [hz] at ek
      rw [ek] at hE
      exact (hE z rfl).go f (by omega)
    · -- not
      rw [pPas_skp esk] at hq
      rw [esk] at h31
      have p0 := pPas_pr hkn hq
      rw [hq] at ek
      have ek : G k = if o = 6 then .inl (4, skp B n k) else rsB (FF (o + 1) q) (fun r => .inr ((fun e => !(r.1 e)), r.2)) := ek
      have ff := f.trans f1
      have ff1 := ff.1
      refine br_f (by decide) (cr_opens (mc := 0) g1 h31 (fun e6 => ?_) (fun e6 s2 f2 z2 g2 _ => ?_))
      · rw [if_pos e6] at ek
        rw [ek] at hE
        exact (hE _ rfl).go ff (by omega)
      · rw [if_neg e6] at ek
        have hbe : bd n q (rsB (FF (o + 1) q) (fun r => (.inr ((fun e => !(r.1 e)), r.2) : Rs (TT × Nat)))) = bd n q (FF (o + 1) q) := by
          cases FF (o + 1) q with
          | inl z => rfl
          | inr y => rfl
        have hbG := hb
        have hb := hX ek (by omega) p0.2 (fun w k' hw => by
          obtain ⟨r, h1, hw⟩ := rsB_inr hw
          have p1 := hFp _ r.1 r.2 p0.2 h1
          injection hw with hw
          injection hw with e1 e2
          omega)
        rw [hbe] at hb
        have hb00 : 1 ≤ bd n q (FF (o + 1) q) := by
          cases hFq : FF (o + 1) q with
          | inl z => show 1 ≤ n + 6 - q; omega
          | inr r => have := hFp _ r.1 r.2 p0.2 hFq; show 1 ≤ r.2 - q; omega
        obtain ⟨mA, msA, hmA, hTb⟩ : ∃ mA msA : Nat, (3 + 1 + mA ≤ mc ∧ 2564 + 1 + msA ≤ ms) ∧ TbO n q mA msA 40 2560 0 20 3600 (FF (o + 1) q) := by
          cases hFq : FF (o + 1) q with
          | inl z =>
            rw [ek, hFq] at hbG
            have hbG : 60 * (n + 6 - k) + 20 ≤ mc ∧ 4500 * (n + 6 - k) + 3600 ≤ ms := hbG
            have w1 : n + 6 - q + 1 ≤ n + 6 - k := by omega
            have w2 : 3 + 1 + (60 * (n + 6 - q) + 20) ≤ mc := by
              have := hbG.1
              clear hb hbG
              omega
            have w3 : 2564 + 1 + (4500 * (n + 6 - q) + 3600) ≤ ms := ar_1 hbG.2 w1
            refine ⟨60 * (n + 6 - q) + 20, 4500 * (n + 6 - q) + 3600, ⟨w2, w3⟩, ?_⟩
            show 60 * (n + 6 - q) + 20 ≤ 60 * (n + 6 - q) + 20 ∧ 4500 * (n + 6 - q) + 3600 ≤ 4500 * (n + 6 - q) + 3600
            omega
          | inr r =>
            rw [hFq] at hb
            have hb : 60 * (q - k) + 60 * (r.2 - q) ≤ mc + 40 ∧ 4500 * (q - k) + 4500 * (r.2 - q) ≤ ms + 2560 := hb
            have pF := hFp _ r.1 r.2 p0.2 hFq
            refine ⟨60 * (r.2 - q) - 40, 4500 * (r.2 - q) - 2560, ⟨by omega, by omega⟩, ?_⟩
            show 60 * (r.2 - q) ≤ _ ∧ 4500 * (r.2 - q) + 0 ≤ _
            omega
        refine ⟨⟨by omega, by omega⟩, by omega, st_ ⟨mA, msA, ⟨by omega, by omega⟩, ?_⟩⟩
        rw [ek] at hE hK
        obtain ⟨t, ht0⟩ : ∃ t, t = nC s2 kO11 := ⟨_, rfl⟩
        rw [← ht0]
        have zt : t.1 = s1.1 + 1 := by rw [ht0]; show s2.1 + 1 = _; omega
        have fs : FrS s2 t := by rw [ht0]; exact (FrS.refl s2).nC (by omega)
        have gt : RdC B n t q (o + 1) := g2.frS fs (by omega)
        have kt : gK t s2.1 = some kO11 := by rw [ht0]; exact gK_n
        have fft : FrC σ t := (ff.trans f2).trans fs.c
        refine hF _ _ q t _ _ gt (ctx_fr h5 fft hsz.1) (by omega) hTb (fun z hz => ?_) (fun v k' hv u y k3 hk3 hk4 fu zu gu vu => ⟨y, rfl, ?_⟩)
        · rw [hz] at hE
          exact (hE z rfl).go fft (by omega)
        · rw [hv] at hK
          have fu1 := fu.1
          have hc : s2.1 < CB := by omega
          have ku : gK u s2.1 = some kO11 := by rw [(fu.agr (Or.inl (by omega)) (by omega) (by omega)).1]; exact kt
          refine ⟨hc, ku, st_ (st_ ?_)⟩
          have ho := h.oo
          have gv : RdC B n (wR u s2.1 0 (y + 1)) k3 (o + 1) := gu.agr (fun i hi => (agr.refl u i).wR (by omega)) (Nat.le_refl _) (by show u.1 ≤ _; omega)
          rw [op_1 gv]
          refine hK _ _ rfl _ s2.1 k3 hk3 hk4 (((fft.trans fu).wR ⟨by omega, hc⟩).wI (Or.inl scR_4)) (by show u.1 ≤ _; omega) (gv.opn ho) (TC.ge (d := d + 1 + 1) ⟨⟨by omega, by show s2.1 < u.1; omega⟩, Or.inr (Or.inl ⟨ku, y, v, ?_, ?_, rfl⟩)⟩ (by omega))
          · show gR (wR u s2.1 0 (y + 1)) s2.1 0 = _
            exact gR_ws
          · refine TC.fr (S := newS t.1 u.1) (fun i hi => ?_) (fun i hi => newS_mono hi (by omega) (Nat.le_refl _)) _ _ _ vu
            have := hi.1
            exact ((agr.refl u i).wR (by omega)).wI (by omega)
    · rw [pPas_skp esk] at hq
      rw [hq] at ek
      have ek : G k = rsB (pPas B n k allWd) (fun w => match w with
        | some q => (.inr ((fun _ => true), q) : Rs (TT × Nat))
        | none => rsB (pSum B n AA k) (fun r =>
          if bt B n (skp B n r.2) = 60 ∨ bt B n (skp B n r.2) = 62 ∨ bt B n (skp B n r.2) = 61 then
            rsB (pSum B n AA (skp B n r.2 + 1)) (fun r2 => .inr ((fun e => cmpL (bt B n (skp B n r.2)) (r.1 e) (r2.1 e)), r2.2))
          else .inl (1, skp B n r.2))) := ek
      have rm3 := rm3 hq
      have hk3' : skp B n k1 = skp B n k := by rw [hk3, esk]
      have ff := f.trans f1
      have ff1 := ff.1
      refine br_t rfl ⟨3, 2564, ⟨by omega, by omega⟩, cr_passes g1 (t := 29) (w := allWd) (by omega) (by omega) (by omega) (by omega) rfl rfl (fun z hz => ?_) (fun q hq2 _ hqn _ s2 f2 z2 g2 h32 => ?_) (fun hq2 s2 k2 hk21 hk22 hk23 f2 z2 g2 => ?_)⟩
      · rw [pPas_skp hk3'] at hz
        rw [hz] at ek
        rw [ek] at hE
        exact (hE z rfl).go ff (by omega)
      · -- all
        rw [pPas_skp hk3'] at hq2
        rw [hq2] at ek
        have ek : G k = .inr ((fun _ => true), q) := ek
        rw [ek] at hK
        have f21 := f2.1
        refine br_f (by decide) ⟨⟨by omega, by omega⟩, by omega, st_ ?_⟩
        obtain ⟨t, ht0⟩ : ∃ t, t = nC s2 kO12 := ⟨_, rfl⟩
        rw [← ht0]
        have zt : t.1 = s2.1 + 1 := by rw [ht0]; rfl
        have fs : FrS s2 t := by rw [ht0]; exact (FrS.refl s2).nC (by omega)
        exact hK _ _ rfl t s2.1 q (Nat.le_refl _) rfl ((ff.trans f2).trans fs.c) (by omega) (g2.frS fs (by omega)) (TC.ge (d := 1) ⟨⟨by omega, by omega⟩, Or.inl ⟨by rw [ht0]; exact gK_n, rfl⟩⟩ (by omega))
      · rw [pPas_skp hk3'] at hq2
        rw [hq2] at ek
        have ek : G k = rsB (pSum B n AA k) (fun r =>
          if bt B n (skp B n r.2) = 60 ∨ bt B n (skp B n r.2) = 62 ∨ bt B n (skp B n r.2) = 61 then
            rsB (pSum B n AA (skp B n r.2 + 1)) (fun r2 => .inr ((fun e => cmpL (bt B n (skp B n r.2)) (r.1 e) (r2.1 e)), r2.2))
          else .inl (1, skp B n r.2)) := ek
        have hk24 : skp B n k2 = skp B n k := by rw [hk23, hk3']
        have hsame : pSum B n AA k2 = pSum B n AA k := pSum_at (hAs k k2 hk24)
        have fft := ff.trans f2
        have f21 := f2.1
        have c2 := ctx_fr h5 fft hsz.1
        have hk2k : k ≤ k2 := by omega
        have hk2n : k2 ≤ n := g2.kn
        refine br_t rfl ?_
        cases hS1 : pSum B n AA k with
        | inl z =>
          rw [hS1] at ek hsame
          have ek : G k = .inl z := ek
          rw [ek] at hb hE
          have hb : 60 * (n + 6 - k) + 20 ≤ mc ∧ 4500 * (n + 6 - k) + 3600 ≤ ms := hb
          have hb3 : 60 * (n + 6 - k2) - 6 ≤ mc - 6 ∧ 4500 * (n + 6 - k2) - 1600 ≤ ms - 5128 := by omega
          refine ⟨60 * (n + 6 - k2) - 6, 4500 * (n + 6 - k2) - 1600, ⟨by omega, by omega⟩, hS _ _ k2 s2 _ _ g2 c2 (by omega) ?_ ?_ (fun e' he' => ?_) (fun v k' hv' => ?_)⟩
          · rw [hsame]; show 60 * (n + 6 - k2) ≤ _; omega
          · rw [hsame]; show 4500 * (n + 6 - k2) ≤ _; omega
          · rw [hsame] at he'; injection he' with he'; subst he'
            exact (hE _ rfl).go fft (by omega)
          · rw [hsame] at hv'; cases hv'
        | inr r =>
          obtain ⟨v1, k3⟩ := r
          rw [hS1] at ek hsame
          have p1 := hSp _ v1 k3 hkn hS1
          have p1' := hSp _ v1 k3 hk2n hsame
          have g3 := skp_ge B n k3
          have g4 := skp_le (B := B) p1.2
          have ek : G k = (if bt B n (skp B n k3) = 60 ∨ bt B n (skp B n k3) = 62 ∨ bt B n (skp B n k3) = 61 then
            rsB (pSum B n AA (skp B n k3 + 1)) (fun r2 => .inr ((fun e => cmpL (bt B n (skp B n k3)) (v1 e) (r2.1 e)), r2.2))
            else .inl (1, skp B n k3)) := ek
          by_cases hsg : bt B n (skp B n k3) = 60 ∨ bt B n (skp B n k3) = 62 ∨ bt B n (skp B n k3) = 61
          · rw [if_pos hsg] at ek
            have hin : skp B n k3 < n := by rcases hsg with hb | hb | hb <;> exact bt_in hb (by omega)
            have hbe : bd n (skp B n k3 + 1) (rsB (pSum B n AA (skp B n k3 + 1)) (fun r2 => (.inr ((fun e => cmpL (bt B n (skp B n k3)) (v1 e) (r2.1 e)), r2.2) : Rs (TT × Nat)))) = bd n (skp B n k3 + 1) (pSum B n AA (skp B n k3 + 1)) := by
              cases pSum B n AA (skp B n k3 + 1) with
              | inl z => rfl
              | inr y => rfl
            have hb := hX ek (k1 := skp B n k3 + 1) (by omega) (by omega) (fun w k' hw => by
              obtain ⟨r2, h2, hw⟩ := rsB_inr hw
              have p2 := hSp _ r2.1 r2.2 (by omega) h2
              injection hw with hw
              injection hw with e1 e2
              omega)
            rw [hbe] at hb
            have hb00 : 1 ≤ bd n (skp B n k3 + 1) (pSum B n AA (skp B n k3 + 1)) := by
              cases hAk : pSum B n AA (skp B n k3 + 1) with
              | inl e => show 1 ≤ n + 6 - (skp B n k3 + 1); omega
              | inr r => have := hSp _ r.1 r.2 (by omega) hAk; show 1 ≤ r.2 - (skp B n k3 + 1); omega
            refine ⟨60 * (k3 - k2) - 6, 4500 * (k3 - k2) - 1600, ⟨by omega, by omega⟩, hS _ _ k2 s2 _ _ g2 c2 (by omega) ?_ ?_ (fun e' he' => ?_) (fun v k' hv' t y ft zt gt vt => ?_)⟩
            · rw [hsame]; show 60 * (k3 - k2) ≤ _; omega
            · rw [hsame]; show 4500 * (k3 - k2) ≤ _; omega
            · rw [hsame] at he'; cases he'
            · rw [hsame] at hv'
              injection hv' with hv'
              injection hv' with e1 e2
              subst e1 e2
              have ft1 := ft.1
              rw [ek] at hE hK
              refine cr_here gt fun u fu zu gu => ?_
              have fu1 := fu.1
              have hbt := bt_le (n := n) (k := skp B n k3) h.by_
              have fin : U_X2_fact_148 PA PF mc ms K E (y + 1) (cI (bt B n (skp B n k3))) (0 + 3 + 3 + (60 * (k3 - k2) - 6)) (0 + 2564 + 2564 + (4500 * (k3 - k2) - 1600)) u := by
                refine cr_f148 (σ0 := σ) (cc := bt B n (skp B n k3)) (a := v1) hsg (cI_in (by omega)) hS hSp gu hin (ctx_fr c2 (ft.trans fu) (by omega)) ((fft.trans ft).trans fu) hcb (by omega) hsz.1 (VC.fr (S := newS s2.1 t.1) (fun i hi => ?_) (fun i hi => newS_mono hi (by omega) (by omega)) _ _ _ vt) (by omega) (by omega) ⟨by omega, by omega⟩ (fun z hz => ?_) (fun w k' hw r z fr zr gr vr => ?_)
                · have := hi.1; have := hi.2
                  exact fu.agr (Or.inl (by omega)) (by omega) (by omega)
                · rw [hz] at hE; exact hE z rfl
                · rw [hw] at hK
                  exact hK _ _ rfl r z k' (Nat.le_refl _) rfl fr zr gr (TC.ge vr (by omega))
              have c60 := cI_eq (d := 60) hbt (by omega)
              have c62 := cI_eq (d := 62) hbt (by omega)
              have c61 := cI_eq (d := 61) hbt (by omega)
              by_cases e60 : bt B n (skp B n k3) = 60
              · exact br_t (c60.mpr e60) fin
              · refine br_f (fun z => e60 (c60.mp z)) ?_
                by_cases e62 : bt B n (skp B n k3) = 62
                · exact br_t (c62.mpr e62) fin
                · exact br_f (fun z => e62 (c62.mp z)) (br_t (c61.mpr (by omega)) fin)
          · rw [if_neg hsg] at ek
            rw [ek] at hb hE
            have hb : 60 * (n + 6 - k) + 20 ≤ mc ∧ 4500 * (n + 6 - k) + 3600 ≤ ms := hb
            refine ⟨60 * (k3 - k2) - 6, 4500 * (k3 - k2) - 1600, ⟨by omega, by omega⟩, hS _ _ k2 s2 _ _ g2 c2 (by omega) ?_ ?_ (fun e' he' => ?_) (fun v k' hv' t y ft zt gt vt => ?_)⟩
            · rw [hsame]; show 60 * (k3 - k2) ≤ _; omega
            · rw [hsame]; show 4500 * (k3 - k2) ≤ _; omega
            · rw [hsame] at he'; cases he'
            · rw [hsame] at hv'
              injection hv' with hv'
              injection hv' with e1 e2
              subst e1 e2
              have ft1 := ft.1
              refine cr_here gt fun u fu zu gu => ?_
              have hbt := bt_le (n := n) (k := skp B n k3) h.by_
              have c60 := cI_eq (d := 60) hbt (by omega)
              have c62 := cI_eq (d := 62) hbt (by omega)
              have c61 := cI_eq (d := 61) hbt (by omega)
              exact br_f (fun z => hsg (Or.inl (c60.mp z))) (br_f (fun z => hsg (Or.inr (Or.inl (c62.mp z)))) (br_f (fun z => hsg (Or.inr (Or.inr (c61.mp z)))) (cr_wrong (mc := 0) rfl gu.at_ ((hE _ rfl).go ((fft.trans ft).trans fu) (by omega)))))
theorem TeL.out {P : PTR} {ca za zb ce ze : Nat} (h : 7 ≤ o) : TeL B n tk d ca za zb ce ze P F o := fun _ _ _ _ _ _ g => absurd g.oo (by omega)
theorem TeL.ge {P : PTR} {ca za zb ce ze d d' : Nat} (h : TeL B n tk d ca za zb ce ze P F o) (hd : d ≤ d') : TeL B n tk d' ca za zb ce ze P F o := fun mc ms k σ K E g g5 hc h1 hE hK => h mc ms k σ K E g g5 hc h1 hE (fun v k' hv s q k2 a b c e f t => hK v k' hv s q k2 a b c e f (t.ge hd))
theorem cr_fact (ht : tk < 4) : ∀ m o, 8 ≤ m + o → TeL B n tk (3 * m + 2) 40 2560 0 20 3600 (U_rd m).2 (pFac B n tk m o) o
  | 0, o, h => TeL.out (by omega)
  | m + 1, o, h => by
    by_cases ho : 7 ≤ o
    · exact TeL.out ho
    · exact (cr_fact1 (FF := pFac B n tk m) (AA := pAtm B n tk m o) (d := 3 * m + 1) (cr_atom ht m o (by omega)) (pAtm_pr m o) (fun k k2 e => pAtm_skp e m o) (cr_fact ht m (o + 1) (by omega)) (pFac_pr m (o + 1)) (pFac_pr (m + 1) o) rfl).ge (by omega)
/-- a test, whole: what a statement reads -/
theorem cr_tst (ht : tk < 4) : TeL B n tk 40 20 0 2600 40 3800 (fun mc ms σ K E => U_X2_test (U_rd 12).1 (U_rd 12).2 mc ms σ K E) (pTst B n tk) 0 := cr_test (cr_fact ht 12 0 (by omega)) (pFac_pr 12 0)
theorem cr_val (ht : tk < 4) : AtL B n tk 39 6 1600 (fun mc ms σ K E => U_X2_sum (U_rd 12).1 (U_rd 12).2 mc ms σ K E) (pVal B n tk) 0 := cr_sum (cr_atom ht 12 0 (by omega)) (pAtm_pr 12 0)
theorem pTst_pr : PrA n (pTst B n tk) := pTes_pr (pFac_pr 12 0)
theorem pVal_pr : PrA n (pVal B n tk) := pSum_pr (pAtm_pr 12 0)
end CG
