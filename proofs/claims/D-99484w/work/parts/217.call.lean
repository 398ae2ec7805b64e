/-! COMPONENT, PURE SIDE: all statements. -/
section CT0
variable {σ0 σ σ' σ'' : CS} {i j k k' n o p q x mc ms c m tk d t id kd st MC f : Nat} {B : Byt} {S S' : Nat → Prop} {w : List Nat} {I I' : Isl}
theorem pBod_pr (hk : k ≤ n) (e : pBod B n I w p k = .inr (I', k')) : k < k' ∧ k' ≤ n := by
  have lt : ∀ {ww tk : Nat}, pLwT B n I ww tk p k = .inr (I', k') → k < k' ∧ k' ≤ n := by
    intro ww tk e
    unfold pLwT at e
    split at e
    · cases e
    · obtain ⟨c, h1, e⟩ := rsB_inr e
      have p1 := pTst_pr k c.1 c.2 hk h1
      injection e with e
      injection e with e1 e2
      omega
  have lv : ∀ {ww tk : Nat}, pLwV B n I ww tk p k = .inr (I', k') → k < k' ∧ k' ≤ n := by
    intro ww tk e
    unfold pLwV at e
    split at e
    · cases e
    · obtain ⟨c, h1, e⟩ := rsB_inr e
      have p1 := pVal_pr k c.1 c.2 hk h1
      injection e with e
      injection e with e1 e2
      omega
  unfold pBod at e
  split at e
  · have := pThg_pr hk e; omega
  split at e
  · have := pMen_pr hk e; omega
  split at e
  · have := pTri_pr hk e; omega
  split at e
  · exact lt e
  split at e
  · exact lt e
  split at e
  · exact lv e
  split at e
  · exact lv e
  split at e
  · exact lv e
  split at e
  · obtain ⟨c, h1, e⟩ := rsB_inr e
    have p1 := pNum_pr (v := c.1) (k' := c.2) hk h1
    injection e with e
    injection e with e1 e2
    omega
  · cases e
theorem pBod_ib (hI : IbC I) (e : pBod B n I w p k = .inr (I', k')) : IbC I' := by
  have lt : ∀ {ww tk : Nat}, pLwT B n I ww tk p k = .inr (I', k') → IbC I' := by
    intro ww tk e
    unfold pLwT at e
    split at e
    · cases e
    · obtain ⟨c, h1, e⟩ := rsB_inr e
      injection e with e
      injection e with e1 e2
      rw [← e1]; exact hI
  have lv : ∀ {ww tk : Nat}, pLwV B n I ww tk p k = .inr (I', k') → IbC I' := by
    intro ww tk e
    unfold pLwV at e
    split at e
    · cases e
    · obtain ⟨c, h1, e⟩ := rsB_inr e
      injection e with e
      injection e with e1 e2
      rw [← e1]; exact hI
  obtain ⟨h1, h2, h3⟩ := hI
  unfold pBod at e
  split at e
  · unfold pThg at e
    split at e
    · cases e
    · obtain ⟨a, -, e⟩ := rsB_inr e
      obtain ⟨b, -, e⟩ := rsB_inr e
      obtain ⟨c, -, e⟩ := rsB_inr e
      obtain ⟨d, -, e⟩ := rsB_inr e
      injection e with e
      injection e with e1 e2
      rw [← e1]
      refine ⟨?_, ?_, ?_⟩
      · show fu_ (iC I) 0 (iC I 0 + 1) 0 ≤ 8
        rw [fu_same]; omega
      · show fu_ (iC I) 0 (iC I 0 + 1) 1 ≤ 4
        rw [fu_ne (by omega)]; exact h2
      · show fu_ (iC I) 0 (iC I 0 + 1) 2 ≤ 5
        rw [fu_ne (by omega)]; exact h3
  split at e
  · unfold pMen at e
    split at e
    · cases e
    · obtain ⟨a, -, e⟩ := rsB_inr e
      obtain ⟨b, -, e⟩ := rsB_inr e
      obtain ⟨c, -, e⟩ := rsB_inr e
      injection e with e
      injection e with e1 e2
      rw [← e1]
      refine ⟨?_, ?_, ?_⟩
      · show fu_ (iC I) 1 (iC I 1 + 1) 0 ≤ 8
        rw [fu_ne (by omega)]; exact h1
      · show fu_ (iC I) 1 (iC I 1 + 1) 1 ≤ 4
        rw [fu_same]; omega
      · show fu_ (iC I) 1 (iC I 1 + 1) 2 ≤ 5
        rw [fu_ne (by omega)]; exact h3
  split at e
  · unfold pTri at e
    split at e
    · cases e
    · obtain ⟨a, -, e⟩ := rsB_inr e
      obtain ⟨b, -, e⟩ := rsB_inr e
      obtain ⟨c, -, e⟩ := rsB_inr e
      injection e with e
      injection e with e1 e2
      rw [← e1]
      refine ⟨?_, ?_, ?_⟩
      · show fu_ (iC I) 2 (iC I 2 + 1) 0 ≤ 8
        rw [fu_ne (by omega)]; exact h1
      · show fu_ (iC I) 2 (iC I 2 + 1) 1 ≤ 4
        rw [fu_ne (by omega)]; exact h2
      · show fu_ (iC I) 2 (iC I 2 + 1) 2 ≤ 5
        rw [fu_same]; omega
  split at e
  · exact lt e
  split at e
  · exact lt e
  split at e
  · exact lv e
  split at e
  · exact lv e
  split at e
  · exact lv e
  split at e
  · obtain ⟨c, -, e⟩ := rsB_inr e
    injection e with e
    injection e with e1 e2
    rw [← e1]; exact ⟨h1, h2, h3⟩
  · cases e
theorem BuC.ag (h : BuC B n σ k t I st) (ag : ∀ i, i < σ.1 → i ≠ 9 → i ≠ 10 → agr σ σ' i) (hz : σ.1 ≤ σ'.1) (g : RdC B n σ' k' 0) (hto : gR σ' 9 6 = t + 1) : BuC B n σ' k' t I st := by
  have hl := h.lt
  obtain ⟨h1, h2, h3, h4, S, h5⟩ := h
  exact ⟨g, hto, by rw [(ag t (by omega) (by omega) (by omega)).2.1]; exact h3, h4, _, h5.grow (fun i hi1 hi2 => ag i hi2 (by omega) (by omega)) hz⟩
theorem BuC.inc (h : BuC B n σ k t I st) (hc4 : iC I 1 ≤ 4) : BuC B n (wI σ t 0 (nI (st + 1))) k t I (st + 1) := by
  have hl := h.lt
  obtain ⟨h1, h2, h3, h4, S, h5⟩ := h
  have av : ∀ i, i ≠ t → agr σ (wI σ t 0 (nI (st + 1))) i := fun i hi => (agr.refl σ i).wI hi
  have hs := h1.sz
  refine ⟨h1.agr (fun i hi => av i (by omega)) (Nat.le_refl _) hs.2, h2, gI_ws, h4, S, h5.set rfl av rfl (fun _ _ => rfl) rfl rfl (fun _ _ => rfl) (fun _ _ => rfl) hc4 (fun hlw => ?_)⟩
  obtain ⟨a, cp, el, -, -, -, hS, -⟩ := h5
  have fS : ∀ i, S i → agr σ (wI σ t 0 (nI (st + 1))) i := fun i hi => av i (by have := hS i hi; omega)
  obtain ⟨l1, l2, l3, l4, l5, l6⟩ := hlw
  exact ⟨l1.fr fS (fun _ h => h), l2.fr fS (fun _ h => h), l3.fr fS (fun _ h => h), l4.fr fS (fun _ h => h), l5.fr fS (fun _ h => h), by rw [gI_wn (by omega)]; exact l6⟩
set_option maxRecDepth 20000 in
theorem cr_stm {K : Nat → CS → Prop} {E : CS → Prop} {k26 : Nat → Nat → CS → Prop} {cx zx : Nat} (hI : IbC I) (hb : BuC B n σ k t I st) (f0 : FrDc σ0 σ) (h0 : σ0.1 = t) (hz : σ.1 ≤ σ0.1 + cx) (hMB : σ0.1 + mc ≤ CB) (hb1 : cx + 60 * (n + 6 - k) + 20 ≤ mc) (hb2 : zx + 4500 * (n + 6 - k) + 6000 ≤ ms)
    (hE8 : st = 80 → ErD mc σ0 E (5, k)) (hE : st ≠ 80 → ∀ e, pStm B n I k = .inl e → ErD mc σ0 E e) (hK : st ≠ 80 → ∀ I' k', pStm B n I k = .inr (I', k') → k < k' → k' ≤ n → IbC I' → ∀ σ' cx' zx', FrDc σ0 σ' → σ'.1 ≤ σ0.1 + cx' → cx' ≤ cx + 60 * (k' - k) → zx' ≤ zx + 4500 * (k' - k) → BuC B n σ' k' t I' (st + 1) → k26 cx' zx' σ') : U_X2_all_52 mc ms K E k26 (b1 (decide (st = 80))) cx zx σ := by
  have hl := hb.lt
  have hkn := hb.rd.kn
  have f01 := f0.1
  refine cr_most (mc := 0) rfl hb.rd.at_ (fun e => ?_) (fun e => ?_)
  · exact (hE8 (of_decide_eq_true e)).goD f0 (by omega)
  have e := of_decide_eq_false e
  have hE := hE e
  have hK := hK e
  refine ⟨t, hb.2.1, hb.kind, t, hb.2.1, by omega, hb.kind, st_ ?_⟩
  rw [hb.2.2.1, nI_1]
  have b1 := hb.inc hI.2.1
  obtain ⟨s1, hs1⟩ : ∃ s1, s1 = wI σ t 0 (nI (st + 1)) := ⟨_, rfl⟩
  rw [← hs1] at b1 ⊢
  have y1 : s1.1 = σ.1 := by rw [hs1]; rfl
  have fd1 : FrDc σ0 s1 := f0.of_agr (fun i hi _ _ => by rw [hs1]; exact (agr.refl σ i).wI (by omega)) (by omega) (fun i _ _ => by rw [hs1]; rfl)
  unfold pStm at hE hK
  refine ⟨3, 2564, ⟨by omega, by omega⟩, cr_word b1.rd (by omega) (by omega) (by omega) (fun z hz' => ?_) (fun p r hv hp1 hp2 hp3 s2 q f2 z2 g2 t3 wt => ⟨q, rfl, ?_⟩)⟩
  · rw [hz'] at hE; exact (hE z rfl).goD fd1 (by omega)
  rw [hv] at hE hK
  have hE : ∀ e, rsB (pBod B n I (wd B p r) p r) (fun s => rsB (pMust B n s.2 59) (fun k' => (.inr (s.1, k') : Rs (Isl × Nat)))) = .inl e → ErD mc σ0 E e := hE
  have hK : ∀ I' k', rsB (pBod B n I (wd B p r) p r) (fun s => rsB (pMust B n s.2 59) (fun k' => (.inr (s.1, k') : Rs (Isl × Nat)))) = .inr (I', k') → k < k' → k' ≤ n → IbC I' → ∀ σ' cx' zx', FrDc σ0 σ' → σ'.1 ≤ σ0.1 + cx' → cx' ≤ cx + 60 * (k' - k) → zx' ≤ zx + 4500 * (k' - k) → BuC B n σ' k' t I' (st + 1) → k26 cx' zx' σ' := hK
  have y2 := f2.1
  have hqc : q < CB := by have := wt.1.1.2; omega
  have hq0 : s1.1 ≤ q ∧ q < s2.1 := wt.1.1
  obtain ⟨w, hw⟩ : ∃ w, w = wd B p r := ⟨_, rfl⟩
  rw [← hw] at wt hE hK
  have hwl : 0 < w.length := by rw [hw, wd_len]; omega
  have bX : bd n r (pBod B n I w p r) ≤ n + 6 - r := by
    cases hx : pBod B n I w p r with
    | inl z => exact Nat.le_refl _
    | inr z =>
      have := pBod_pr (I' := z.1) (k' := z.2) hp3 hx
      show z.2 - r ≤ _; omega
  -- behind the statement's body: its end
  have fin : ∀ (cc zz : Nat) (KK : CS → Prop), (∀ I' k1, pBod B n I w p r = .inr (I', k1) → ∀ k2, pMust B n k1 59 = .inr k2 → cc ≤ cx + 3 + 60 * (k1 - r) + 50 ∧ zz ≤ zx + 2564 + 4500 * (k1 - r) + 3800) → ∀ I' k1, pBod B n I w p r = .inr (I', k1) → ∀ σ' k2, k2 ≤ k1 → skp B n k2 = skp B n k1 → FrDc σ0 σ' → σ'.1 ≤ σ0.1 + cc → cc ≤ mc → BuC B n σ' k2 t I' (st + 1) → U_X2_must σ' 59 (fun _ σ17 => k26 cc zz σ17) E := by
    intro cc zz KK hcc I' k1 hbod σ' k2 hk1 hk2 fd zc hcm bu
    have p1 := pBod_pr hp3 hbod
    refine cr_must (mc := 0) bu.rd (c := 59) rfl (by omega) (fun z hz' => ?_) (fun k3 hk3 _ s3 f3 z3 g3 => ?_)
    · rw [pMust_skp2 hk2] at hz'
      exact (hE z (by rw [hbod]; show rsB (pMust B n k1 59) _ = _; rw [hz']; rfl)).goD fd (by omega)
    · rw [pMust_skp2 hk2] at hk3
      have p2 := pMust_pr p1.2 (by omega) hk3
      have hc := hcc I' k1 hbod k3 hk3
      exact hK I' k3 (by rw [hbod]; show rsB (pMust B n k1 59) _ = _; rw [hk3]; rfl) (by omega) p2.2 (pBod_ib hI hbod) s3 cc zz (fd.trans f3.toD) (by omega) (by omega) (by omega) (bu.fr f3 g3)
  have hEb : ∀ e, pBod B n I w p r = .inl e → ErD mc σ0 E e := fun e he => hE e (by rw [he]; rfl)
  by_cases hwn : w = thingWd ∨ w = menderWd ∨ w = trialWd
  · refine ⟨60 * bd n r (pBod B n I w p r) + 50, 4500 * bd n r (pBod B n I w p r) + 3800, ⟨by omega, by omega⟩, cr_named wt.1 wt.2.1 wt.2.2 hwl hqc g2.ko fun s3 z3 ag3 str3 hs3' => ?_⟩
    have g3 : RdC B n s3 r 0 := g2.agr (fun i hi => ag3 i (by omega)) (by omega) (by omega)
    have b3 : BuC B n s3 r t I (st + 1) := b1.ag (fun i hi h9 h10 => (f2.agr (Or.inl hi) h9 h10).trans (ag3 i (by omega))) (by omega) g3 (by rw [(ag3 9 (by omega)).2.2.2]; exact (b1.fr f2 g2).2.1)
    have fd3 : FrDc σ0 s3 := (fd1.trans f2.toD).of_agr (fun i hi _ _ => ag3 i (by omega)) (by omega) (fun i hi _ => (ag3 i (by omega)).1)
    refine cr_named86 (MC := mc) hwn hI b3 (by exact t3) fd3 h0 (by omega) hMB (Nat.le_refl _) (Nat.le_refl _) hEb (fun I' k1 hbod s4 k2 hk1 hk2 fd4 z4 b4 => bn_t (by decide) ?_)
    refine fin _ _ (fun _ => True) (fun I2 k3 hb2 k4 _ => ?_) I' k1 hbod s4 k2 hk1 hk2 fd4 (by omega) (by omega) b4
    rw [hb2]
    show cx + 3 + (60 * (k3 - r) + 50) ≤ _ ∧ zx + 2564 + (4500 * (k3 - r) + 3800) ≤ _
    omega
  · have hwn' : w ≠ thingWd ∧ w ≠ menderWd ∧ w ≠ trialWd := ⟨fun z => hwn (Or.inl z), fun z => hwn (Or.inr (Or.inl z)), fun z => hwn (Or.inr (Or.inr z))⟩
    refine ⟨0, 0, ⟨by omega, by omega⟩, cr_named wt.1 wt.2.1 wt.2.2 hwl hqc g2.ko fun s3 z3 ag3 str3 hs3' => ?_⟩
    have g3 : RdC B n s3 r 0 := g2.agr (fun i hi => ag3 i (by omega)) (by omega) (by omega)
    have b3 : BuC B n s3 r t I (st + 1) := b1.ag (fun i hi h9 h10 => (f2.agr (Or.inl hi) h9 h10).trans (ag3 i (by omega))) (by omega) g3 (by rw [(ag3 9 (by omega)).2.2.2]; exact (b1.fr f2 g2).2.1)
    have fd3 : FrDc σ0 s3 := (fd1.trans f2.toD).of_agr (fun i hi _ _ => ag3 i (by omega)) (by omega) (fun i hi _ => (ag3 i (by omega)).1)
    have t33 : gI s3 9 3 = nI p := by rw [(ag3 9 (by omega)).2.1]; exact t3
    have hnx : nmIx w = -1 := by
      unfold nmIx
      rw [if_neg hwn'.1, if_neg hwn'.2.1, if_neg hwn'.2.2]
    rw [hnx]
    refine br_f (by decide) (br_f (by decide) (br_f (by decide) (bn_f rfl ⟨60 * bd n r (pBod B n I w p r) + 50, 4500 * bd n r (pBod B n I w p r) + 3800, ⟨by omega, by omega⟩, cr_laws str3 hs3' hqc g3.ko ?_⟩)))
    refine cr_laws155 (MC := mc) hwn' hI b3 t33 fd3 h0 (by omega) hMB (Nat.le_refl _) (Nat.le_refl _) hEb (fun I' k1 hbod s4 k2 hk1 hk2 fd4 z4 b4 => ?_)
    refine fin _ _ (fun _ => True) (fun I2 k3 hb2 k4 _ => ?_) I' k1 hbod s4 k2 hk1 hk2 fd4 (by omega) (by omega) b4
    rw [hb2]
    show cx + 3 + 0 + (60 * (k3 - r) + 50) ≤ _ ∧ zx + 2564 + 0 + (4500 * (k3 - r) + 3800) ≤ _
    omega
theorem pStm_skp : pStm B n I (skp B n k) = pStm B n I k := by unfold pStm; rw [pWord_skp]
set_option maxRecDepth 20000 in
theorem cr_all26 {K : Nat → CS → Prop} {E : CS → Prop} (h0 : σ0.1 = t) (hMB : σ0.1 + mc ≤ CB) : ∀ (f G : Nat) (I : Isl) (st k : Nat) (σ : CS) (cx zx : Nat), n + 1 ≤ f + k → f + 1 ≤ G → IbC I → BuC B n σ k t I st → st ≤ 80 → FrDc σ0 σ → σ.1 ≤ σ0.1 + cx → cx + 60 * (n + 6 - k) + 20 ≤ mc → zx + 4500 * (n + 6 - k) + 6000 ≤ ms → (∀ e, pIsl B n f I st k = .inl e → ErD mc σ0 E e) → (∀ I' st', pIsl B n f I st k = .inr (I', st') → ∀ σ' k', FrDc σ0 σ' → σ'.1 ≤ σ0.1 + mc → BuC B n σ' k' t I' st' → K (t + 1) σ') → U_X2_all_26 mc ms K E G cx zx σ := by
  intro f
  induction f with
  | zero =>
    intro G I st k σ cx zx hfk _ _ hb
    have := hb.rd.kn
    omega
  | succ f ih =>
    intro G I st k σ cx zx hfk hG hI hb hst f0 hz hb1 hb2 hE hK
    obtain ⟨G, rfl⟩ : ∃ G', G = G' + 1 := ⟨G - 1, by omega⟩
    have hkn := hb.rd.kn
    have hge := skp_ge B n k
    have hle := skp_le (B := B) hkn
    have hbt := bt_le (n := n) (k := skp B n k) hb.rd.by_
    unfold pIsl at hE hK
    unfold U_X2_all_26
    refine cr_here hb.rd fun s fs zs gs => ?_
    have bs := hb.fr fs gs
    by_cases e : bt B n (skp B n k) = 256
    · rw [if_pos e] at hK
      refine br_t ((cI_n1 hbt).mpr e) ?_
      rw [bs.2.1]
      exact hK I st rfl s _ (f0.trans fs.toD) (by omega) bs
    · rw [if_neg e] at hE hK
      have hin : skp B n k < n := by
        by_cases z : skp B n k < n
        · exact z
        · exact absurd (bt_ge (by omega)) e
      refine br_f (fun z => e ((cI_n1 hbt).mp z)) ⟨t, bs.2.1, bs.kind, ?_⟩
      have go : U_X2_all_52 mc ms K E (U_X2_all_26 mc ms K E G) (b1 (decide (st = 80))) cx zx s := by
        refine cr_stm hI bs (f0.trans fs.toD) h0 (by omega) hMB (by omega) (by omega) (fun e8 => ?_) (fun e8 z hz' => ?_) (fun e8 I' k' hv h1 h2 hI' s1 cx' zx' fd1 z1 hc1 hc2 b1 => ?_)
        · rw [if_pos e8] at hE; exact hE _ rfl
        · rw [pStm_skp] at hz'
          rw [if_neg e8, hz'] at hE; exact hE z rfl
        · rw [pStm_skp] at hv
          rw [if_neg e8, hv] at hE hK
          exact ih G I' (st + 1) k' s1 cx' zx' (by omega) (by omega) hI' b1 (by omega) fd1 z1 (by omega) (by omega) hE hK
      rw [bs.2.2.1]
      by_cases e8 : st = 80
      · rw [decide_eq_true e8] at go
        exact bn_f (by rw [e8]; rfl) go
      · rw [decide_eq_false e8] at go
        exact bn_t (fun z => e8 ((nI_eq (b := 80) (by omega) (by omega)).mp z)) go
theorem iC_0 (kd : Nat) : iC i0 kd = 0 := rfl
/-- an island's lists are made -/
theorem cr_islInit {K : Unit → CS → Prop} (ht : gK σ t = some kO1) (htz : σ.1 = t + 1) (h5 : ∀ f, gR σ t f = 0) (h1 : gI σ t 1 = 0) (hmc : 6 ≤ mc) (hms : 17 ≤ ms) (hcb : σ.1 + 6 ≤ CB)
    (hk : ∀ σ', σ'.1 = σ.1 + 6 → (∀ i, i < t ∨ CB ≤ i → agr σ σ' i) → gI σ' t = gI σ t → IsX σ' t i0 (fun _ => False) → K () σ') : U_X1_init mc ms σ t K := by
  refine ⟨⟨by omega, by omega⟩, by omega, st_ ⟨1, 4, ⟨by omega, by omega⟩, ?_⟩⟩
  obtain ⟨s1, hs1⟩ : ∃ s1, s1 = nC σ kO20 := ⟨_, rfl⟩
  rw [← hs1]
  have z1 : s1.1 = σ.1 + 1 := by rw [hs1]; rfl
  have a1 : ∀ i, i ≠ σ.1 → agr σ s1 i := fun i hi => by rw [hs1]; exact (agr.refl σ i).nC hi
  refine cr_lsInit (c0 := 4) rfl (by omega) (by omega) (by rw [hs1]; exact gK_n) (by omega) (by rw [hs1]; exact gI_n) (by omega) (by omega) (by omega) (fun _ => 0) fun s2 z2 f2 l2 => ?_
  have b2 : agr σ s2 t := (a1 t (by omega)).trans (f2 t (Or.inl (by omega)) (by omega))
  have k2 : gK s2 t = some kO1 := by rw [b2.1]; exact ht
  refine ⟨by omega, k2, st_ ⟨⟨by omega, by omega⟩, by show s2.1 < CB; omega, st_ ⟨1, 2, ⟨by omega, by omega⟩, ?_⟩⟩⟩
  obtain ⟨s3, hs3⟩ : ∃ s3, s3 = wR s2 t 2 (σ.1 + 1) := ⟨_, rfl⟩
  rw [← hs3]
  have z3 : s3.1 = s2.1 := by rw [hs3]; rfl
  have a3 : ∀ i, i ≠ t → agr s2 s3 i := fun i hi => by rw [hs3]; exact (agr.refl s2 i).wR hi
  obtain ⟨s4, hs4⟩ : ∃ s4, s4 = nC s3 kO20 := ⟨_, rfl⟩
  rw [← hs4]
  have z4 : s4.1 = s3.1 + 1 := by rw [hs4]; rfl
  have a4 : ∀ i, i ≠ s3.1 → agr s3 s4 i := fun i hi => by rw [hs4]; exact (agr.refl s3 i).nC hi
  refine cr_lsInit (c0 := 2) rfl (by omega) (by omega) (by rw [hs4]; exact gK_n) (by omega) (by rw [hs4]; exact gI_n) (by omega) (by omega) (by omega) (fun _ => 0) fun s5 z5 f5 l5 => ?_
  have b5 : agr s3 s5 t := (a4 t (by omega)).trans (f5 t (Or.inl (by omega)) (by omega))
  have k3 : gK s3 t = some kO1 := by rw [hs3]; exact k2
  have k5 : gK s5 t = some kO1 := by rw [b5.1]; exact k3
  refine ⟨by omega, k5, st_ ⟨⟨by omega, by omega⟩, by show s5.1 < CB; omega, st_ ⟨1, 2, ⟨by omega, by omega⟩, ?_⟩⟩⟩
  obtain ⟨s6, hs6⟩ : ∃ s6, s6 = wR s5 t 3 (s3.1 + 1) := ⟨_, rfl⟩
  rw [← hs6]
  have z6 : s6.1 = s5.1 := by rw [hs6]; rfl
  have a6 : ∀ i, i ≠ t → agr s5 s6 i := fun i hi => by rw [hs6]; exact (agr.refl s5 i).wR hi
  obtain ⟨s7, hs7⟩ : ∃ s7, s7 = nC s6 kO20 := ⟨_, rfl⟩
  rw [← hs7]
  have z7 : s7.1 = s6.1 + 1 := by rw [hs7]; rfl
  have a7 : ∀ i, i ≠ s6.1 → agr s6 s7 i := fun i hi => by rw [hs7]; exact (agr.refl s6 i).nC hi
  refine cr_lsInit (c0 := 2) rfl (by omega) (by omega) (by rw [hs7]; exact gK_n) (by omega) (by rw [hs7]; exact gI_n) (by omega) (by omega) (by omega) (fun _ => 0) fun s8 z8 f8 l8 => ?_
  have b8 : agr s6 s8 t := (a7 t (by omega)).trans (f8 t (Or.inl (by omega)) (by omega))
  have k6 : gK s6 t = some kO1 := by rw [hs6]; exact k5
  have k8 : gK s8 t = some kO1 := by rw [b8.1]; exact k6
  refine ⟨by omega, k8, st_ ?_⟩
  obtain ⟨s9, hs9⟩ : ∃ s9, s9 = wR s8 t 4 (s6.1 + 1) := ⟨_, rfl⟩
  rw [← hs9]
  have z9 : s9.1 = s8.1 := by rw [hs9]; rfl
  have a9 : ∀ i, i ≠ t → agr s8 s9 i := fun i hi => by rw [hs9]; exact (agr.refl s8 i).wR hi
  have k9 : gK s9 t = some kO1 := by rw [hs9]; exact k8
  have hI9 : gI s9 t = gI σ t := by
    have e1 : gI s9 t = gI s8 t := by rw [hs9]; rfl
    have e2 : gI s6 t = gI s5 t := by rw [hs6]; rfl
    have e3 : gI s3 t = gI s2 t := by rw [hs3]; rfl
    rw [e1, b8.2.1, e2, b5.2.1, e3, b2.2.1]
  have r3 : gR s3 t 2 = σ.1 + 1 := by rw [hs3]; exact gR_ws
  have r3' : ∀ f, f ≠ 2 → gR s3 t f = 0 := fun f hf => by rw [hs3, gR_wn (by omega), b2.2.2.2]; exact h5 f
  have r6 : gR s6 t 3 = s3.1 + 1 := by rw [hs6]; exact gR_ws
  have r6' : ∀ f, f ≠ 3 → gR s6 t f = gR s3 t f := fun f hf => by rw [hs6, gR_wn (by omega), b5.2.2.2]
  have r9 : gR s9 t 4 = s6.1 + 1 := by rw [hs9]; exact gR_ws
  have r9' : ∀ f, f ≠ 4 → gR s9 t f = gR s6 t f := fun f hf => by rw [hs9, gR_wn (by omega), b8.2.2.2]
  have m58 : ∀ i, i ≠ t → i < s5.1 → agr s5 s9 i := fun i h1 h2 => (((a6 i h1).trans (a7 i (by omega))).trans (f8 i (Or.inl (by omega)) (by omega))).trans (a9 i h1)
  have m25 : ∀ i, i ≠ t → i < s2.1 → agr s2 s5 i := fun i h1 h2 => ((a3 i h1).trans (a4 i (by omega))).trans (f5 i (Or.inl (by omega)) (by omega))
  have L2 : LsX s9 (t + 1) (t + 2) 4 0 (fun _ => 0) := by
    rw [show σ.1 = t + 1 by omega, show s1.1 = t + 2 by omega] at l2
    exact l2.fr ((m25 _ (by omega) (by omega)).trans (m58 _ (by omega) (by omega))) ((m25 _ (by omega) (by omega)).trans (m58 _ (by omega) (by omega)))
  have L5 : LsX s9 (t + 3) (t + 4) 2 0 (fun _ => 0) := by
    rw [show s3.1 = t + 3 by omega, show s4.1 = t + 4 by omega] at l5
    exact l5.fr (m58 _ (by omega) (by omega)) (m58 _ (by omega) (by omega))
  have L8 : LsX s9 (t + 5) (t + 6) 2 0 (fun _ => 0) := by
    rw [show s6.1 = t + 5 by omega, show s7.1 = t + 6 by omega] at l8
    exact l8.fr (a9 _ (by omega)) (a9 _ (by omega))
  refine hk s9 (by omega) (fun i hi => ?_) hI9 ⟨fun kd => t + 2 + 2 * kd, fun kd => if kd = 0 then 4 else 2, fun _ _ => 0, k9, fun kd hkd => ?_, fun k1 k2 _ _ h => (by show t + 2 + 2 * k1 ≠ t + 2 + 2 * k2; omega), fun i hi => hi.elim, by omega, fun kd j _ hj => absurd hj (by rw [iC_0]; omega), ?_⟩
  · exact (((a1 i (by omega)).trans (f2 i (by omega) (by omega))).trans (((a3 i (by omega)).trans (a4 i (by omega))).trans (f5 i (by omega) (by omega)))).trans (((a6 i (by omega)).trans (a7 i (by omega))).trans ((f8 i (by omega) (by omega)).trans (a9 i (by omega))))
  · rcases (show kd = 0 ∨ kd = 1 ∨ kd = 2 by omega) with rfl | rfl | rfl
    · exact ⟨by rw [r9' _ (by omega), r6' _ (by omega), r3]; omega, L2, by rw [iC_0]; omega, Or.inl rfl, (by show t + 2 + 2 * 0 < s9.1; omega), fun z => z⟩
    · exact ⟨by rw [r9' _ (by omega), r6]; omega, L5, by rw [iC_0]; omega, Or.inl rfl, (by show t + 2 + 2 * 1 < s9.1; omega), fun z => z⟩
    · exact ⟨by rw [r9]; omega, L8, by rw [iC_0]; omega, Or.inl rfl, (by show t + 2 + 2 * 2 < s9.1; omega), fun z => z⟩
  · have z0 : ∀ f, 5 ≤ f → gR s9 t f = 0 := fun f hf => by rw [r9' _ (by omega), r6' _ (by omega), r3' _ (by omega)]
    exact ⟨z0 5 (by omega), z0 6 (by omega), z0 7 (by omega), z0 8 (by omega), z0 9 (by omega), by rw [hI9, h1]; rfl⟩
theorem gL_n {k : rgK} {b : Nat} : gL (nC σ k) σ.1 b = 0 := by show (if σ.1 = σ.1 then 0 else gL σ σ.1 b) = _; rw [if_pos rfl]
set_option maxRecDepth 200000 in
/-- the reader reads an island -/
theorem cr_all {K : Nat → CS → Prop} {E : CS → Prop} {x1 : Int32} (hx : x1 = nI n) (hsz : 1296 ≤ σ.1) (hn : n ≤ 1280) (hB : ∀ i, B i < 256) (htp : ∀ i, i < 1600 → gI σ 8 i = sB (B i)) (hko : KoC σ) (hcb : σ.1 + mc ≤ CB) (hmc : 60 * n + 400 ≤ mc) (hms : 4500 * n + 34000 ≤ ms)
    (hE : ∀ e, pIsl B n (n + 1) i0 0 0 = .inl e → ErD mc σ E e) (hK : ∀ I' st', pIsl B n (n + 1) i0 0 0 = .inr (I', st') → ∀ σ', FrDc σ σ' → σ'.1 ≤ σ.1 + mc → gI σ' σ.1 0 = nI st' → IslC σ' (newS σ.1 σ'.1) σ.1 I' → K (σ.1 + 1) σ') : U_X2_all mc ms σ x1 K E := by
  subst hx
  refine ⟨⟨by omega, by omega⟩, by omega, st_ ⟨6, 17, ⟨by omega, by omega⟩, ?_⟩⟩
  obtain ⟨s1, hs1⟩ : ∃ s1, s1 = nC σ kO1 := ⟨_, rfl⟩
  rw [← hs1]
  have z1 : s1.1 = σ.1 + 1 := by rw [hs1]; rfl
  have a1 : ∀ i, i ≠ σ.1 → agr σ s1 i := fun i hi => by rw [hs1]; exact (agr.refl σ i).nC hi
  refine cr_islInit (by rw [hs1]; exact gK_n) z1 (fun f => by rw [hs1]; exact gR_n) (by rw [hs1]; exact gI_n) (by omega) (by omega) (by omega) fun s2 z2 f2 hI2 hX => st_ (st_ (st_ (st_ ?_)))
  obtain ⟨s3, hs3⟩ : ∃ s3, s3 = wI (wI (wI (wR s2 9 6 (σ.1 + 1)) 9 1 (nI n)) 9 2 0) 9 4 0 := ⟨_, rfl⟩
  rw [← hs3]
  have z3 : s3.1 = s2.1 := by rw [hs3]; rfl
  have a3 : ∀ i, i ≠ 9 → agr s2 s3 i := fun i hi => by rw [hs3]; exact ((((agr.refl s2 i).wR hi).wI hi).wI hi).wI hi
  have am : ∀ i, i < σ.1 ∨ CB ≤ i → i ≠ 9 → agr σ s3 i := fun i hi h9 => ((a1 i (by omega)).trans (f2 i (by omega))).trans (a3 i h9)
  have fd : FrDc σ s3 := ⟨by omega, fun i hi h9 _ => am i hi h9, fun i hi => ((show gK s3 i = gK s2 i by rw [hs3]; rfl).trans (f2 i (by omega)).1).trans (a1 i (by omega)).1⟩
  have g3 : RdC B n s3 0 0 := by
    refine ⟨⟨by omega, by omega⟩, ⟨by omega, hn, by omega, hB⟩, ?_, ?_, ?_, fun i hi => ?_, fun i hi => ?_⟩
    · rw [hs3, gI_wn (by omega), gI_wn (by omega)]; exact gI_ws
    · rw [hs3, gI_wn (by omega)]; exact gI_ws
    · rw [hs3]; exact gI_ws
    · rw [(am 8 (by omega) (by omega)).2.1]; exact htp i hi
    · have hi' := hi
      rw [CBv] at hi'
      have a := am i (Or.inr hi) (by omega)
      have b := hko i hi
      exact ⟨a.1.trans b.1, a.2.1.trans b.2.1, a.2.2.2.trans b.2.2⟩
  have b3 : BuC B n s3 0 σ.1 i0 0 := by
    refine ⟨g3, (by rw [hs3]; show gR (wR s2 9 6 (σ.1 + 1)) 9 6 = _; exact gR_ws), ?_, hsz, _, hX.grow (σ' := s3) (fun i hi _ => a3 i (by omega)) (by omega)⟩
    rw [(a3 σ.1 (by omega)).2.1, hI2, hs1]; exact gI_n
  refine ⟨n + 2, cr_all26 (σ0 := σ) rfl hcb (n + 1) _ i0 0 0 s3 _ _ (by omega) (by omega) ⟨by rw [iC_0]; omega, by rw [iC_0]; omega, by rw [iC_0]; omega⟩ b3 (by omega) fd (by omega) (by omega) (by omega) hE (fun I' st' hv s4 k' fd4 z4 b4 => ?_)⟩
  obtain ⟨-, -, h3, -, S, h5⟩ := b4
  exact hK I' st' hv s4 fd4 z4 h3 h5.isl
end CT0
