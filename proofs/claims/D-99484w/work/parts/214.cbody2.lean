/-! COMPONENT, PURE SIDE: menders, trials told. -/
section CB1
variable {σ0 σ σ' σ'' : CS} {i j k k' n o p q x mc ms c m tk d t id kd st MC : Nat} {B : Byt} {S S' : Nat → Prop} {w : List Nat} {I I' : Isl}
theorem BuC.c8 (hb : BuC B n σ k t I st) (hk : kd < 3) : iC I kd ≤ 8 := by
  obtain ⟨S, hX⟩ := hb.2.2.2.2
  obtain ⟨-, -, -, -, h⟩ := hX.size hk
  exact h
theorem cr_mender {K : Int32 → CS → Prop} {E : CS → Prop} {x1 : Nat} {x2 : Int32} (hb : BuC B n σ k t I st) (hc4 : iC I 1 ≤ 4) (hc3 : iC I 0 ≤ 8) (hx2 : x2 = nI p) (f0 : FrDc σ0 σ) (h0 : σ0.1 = t) (hM : σ.1 + mc ≤ σ0.1 + MC) (hMB : σ0.1 + MC ≤ CB) (hb1 : 60 * bd n k (pMen B n I p k) + 50 ≤ mc) (hb2 : 4500 * bd n k (pMen B n I p k) + 3800 ≤ ms)
    (hE : ∀ e, pMen B n I p k = .inl e → ErD MC σ0 E e) (hK : ∀ I' k', pMen B n I p k = .inr (I', k') → ∀ σ', FrDc σ0 σ' → σ'.1 ≤ σ.1 + mc → BuC B n σ' k' t I' st → K 1 σ') : U_X2_named_230 mc ms K E x1 x2 (b1 (decide (iC I 1 = 4))) 0 0 σ := by
  have hl := hb.lt
  have hkn := hb.rd.kn
  have h2 := bd_2 (X := pMen B n I p k) hkn (fun v k' e => by have := pMen_pr hkn e; omega)
  unfold pMen at hE hK
  refine cr_most (mc := 0) rfl hx2 (fun e8 => ?_) (fun e8 => ?_)
  · rw [if_pos (of_decide_eq_true e8)] at hE
    exact (hE _ rfl).goD f0 (by omega)
  have e8 := of_decide_eq_false e8
  rw [if_neg e8] at hE hK
  refine ⟨3, 2564, ⟨by omega, by omega⟩, cr_fresh hb (by omega) (by omega) (by omega) (fun e he => ?_) (fun nm q1 hn s1 r f1 z1 b1' str1 => ?_)⟩
  · rw [he] at hE; exact (hE e rfl).goD f0 (by omega)
  rw [hn] at hE hK
  have fd1 := f0.trans f1.toD
  have y1 := f1.1
  refine ⟨3, 2564, ⟨by omega, by omega⟩, cr_kn b1'.rd (t := 7) (lo := 0) (hi := 9) (by omega) (by omega) (by omega) (by omega) rfl (w := skillWd) rfl rfl rfl (by omega) (by omega) (fun e he => ?_) (fun v2 q2 hv2 s2 f2 z2 g2 => ?_)⟩
  · exact (hE e (by show rsB (pKN B n q1 skillWd 0 9) _ = _; rw [he]; rfl)).goD fd1 (by omega)
  have hE2 := fun e (he : rsB (pKN B n q2 hoursWd 1 24) (fun c => (Sum.inr (iSetX (iSetX (iAdd I 1 nm) (24 + 2 * iC I 1) v2) (24 + 2 * iC I 1 + 1) c.1, c.2) : Rs (Isl × Nat))) = .inl e) => hE e (by show rsB (pKN B n q1 skillWd 0 9) _ = _; rw [hv2]; exact he)
  have hK2 := fun I' k' (he : rsB (pKN B n q2 hoursWd 1 24) (fun c => (Sum.inr (iSetX (iSetX (iAdd I 1 nm) (24 + 2 * iC I 1) v2) (24 + 2 * iC I 1 + 1) c.1, c.2) : Rs (Isl × Nat))) = .inr (I', k')) => hK I' k' (by show rsB (pKN B n q1 skillWd 0 9) _ = _; rw [hv2]; exact he)
  have b2' := b1'.fr f2 g2
  have fd2 := fd1.trans f2.toD
  have y2 := f2.1
  refine ⟨t, b2'.2.1, b2'.kind, ⟨by omega, by omega⟩, by omega, st_ ?_⟩
  obtain ⟨s4, hs4⟩ : ∃ s4, s4 = nC s2 kO8 := ⟨_, rfl⟩
  rw [← hs4]
  have y4 : s4.1 = s2.1 + 1 := by rw [hs4]; rfl
  have fs4 : FrS s2 s4 := by rw [hs4]; exact (FrS.refl s2).nC (by omega)
  have g4 : RdC B n s4 q2 0 := g2.frS fs4 (by omega)
  have b4' := b2'.fr fs4.c g4
  have k4 : gK s4 s2.1 = some kO8 := by rw [hs4]; exact gK_n
  have fd4 := fd2.trans fs4.c.toD
  refine ⟨3, 2564, ⟨by omega, by omega⟩, cr_kn g4 (t := 19) (lo := 1) (hi := 24) (by omega) (by omega) (by omega) (by omega) rfl (w := hoursWd) rfl rfl rfl (by omega) (by omega) (fun e he => ?_) (fun v5 q5 hv5 s5 f5 z5 g5 => ?_)⟩
  · exact (hE2 e (by rw [he]; rfl)).goD fd4 (by omega)
  have y5 := f5.1
  have hc5 : s2.1 < CB := by omega
  have k5 : gK s5 s2.1 = some kO8 := by rw [(f5.agr (Or.inl (by omega)) (by omega) (by omega)).1]; exact k4
  refine ⟨r, rfl, hc5, Or.inr (Or.inl k5), st_ ⟨hc5, k5, st_ ⟨hc5, k5, st_ ?_⟩⟩⟩
  obtain ⟨v, hv⟩ : ∃ v, v = wI (wI (wR s5 s2.1 0 (r + 1)) s2.1 1 (nI v2)) s2.1 2 (nI v5) := ⟨_, rfl⟩
  rw [← hv]
  have yv : v.1 = s5.1 := by rw [hv]; rfl
  have av : ∀ i, i ≠ s2.1 → agr s5 v i := fun i hi => by rw [hv]; exact (((agr.refl s5 i).wR hi).wI hi).wI hi
  have fC : FrC s1 s5 := (f2.trans fs4.c).trans f5
  have b5' := b4'.fr f5 g5
  have gv : RdC B n v q5 0 := g5.agr (fun i hi => av i (by omega)) (by omega) (by omega)
  have str5 := WdC_str str1 fC (by omega)
  have gRv : ∀ i, i ≠ s2.1 → gR v i = gR s5 i := fun i hi => (av i hi).2.2.2
  have H : ∃ l, gR v t (2 + 1) = l + 1 ∧ gK v l = some kO20 ∧ U_J2_add 1 961 v l s2.1 (fun _ σ81 => K 1 σ81) := by
    refine cr_put (q := s2.1) (kd := 1) (K := fun r82 σ81 => K 1 σ81) (mc := 1) (ms := 961) (σ0 := σ0) (σ := v) (k := q5) (I' := iSetX (iSetX (iAdd I 1 nm) (24 + 2 * iC I 1) v2) (24 + 2 * iC I 1 + 1) v5) hb gv (fun i hi h9 h10 => ?_) ?_ (by omega) ((fd4.trans f5.toD).of_agr (fun i hi _ _ => av i (by omega)) (by omega) (fun i hi _ => (av i (by omega)).1)) h0 (by omega) (by omega) (by omega) (by omega) (by omega) (fun kd' => ?_) (fun S kd' j q' hk' hj hj8 he => ?_) (fun S hlw => ?_) ?_ (fun s6 fd6 z6 b6 => hK2 _ _ (by rw [hv5]; rfl) s6 fd6 (by omega) b6)
    · rcases hi with hi | hi
      · exact ((f1.agr (Or.inl (by omega)) h9 h10).trans (fC.agr (Or.inl (by omega)) h9 h10)).trans (av i (by omega))
      · exact ((f1.agr (Or.inl (by omega)) h9 h10).trans (fC.agr (Or.inl (by omega)) h9 h10)).trans (av i (by omega))
    · rw [gRv 9 (by omega)]; exact b5'.2.1
    · show fu_ (iC I) 1 (iC I 1 + 1) kd' = _
      by_cases e : kd' = 1
      · subst e; rw [fu_same, if_pos rfl]
      · rw [fu_ne e, if_neg e]
    · refine he.cg ?_ (fun e => ?_) (fun e => ?_) (fun _ => rfl)
      · show fu_ (iN I) (8 * 1 + iC I 1) nm (8 * kd' + j) = _
        refine fu_ne ?_
        intro z
        have : kd' = 1 := by omega
        subst this
        omega
      · subst e
        refine ⟨?_, ?_, ?_⟩
        all_goals
          show fu_ (fu_ (iX I) _ _) _ _ _ = _
          rw [fu_ne (by omega), fu_ne (by omega)]
      · subst e
        refine ⟨?_, ?_⟩
        all_goals
          show fu_ (fu_ (iX I) _ _) _ _ _ = _
          rw [fu_ne (by omega), fu_ne (by omega)]
    · refine hlw.cg rfl rfl rfl ?_
      show fu_ (fu_ (iX I) _ _) _ _ _ = _
      rw [fu_ne (by omega), fu_ne (by omega)]
    · have kv : gK v s2.1 = some kO8 := by rw [hv]; exact k5
      refine ⟨⟨by omega, by omega⟩, ⟨Or.inr (Or.inl kv), r, ?_, ?_⟩, fun e => (by cases e), fun _ => ⟨kv, ?_, ?_⟩, fun e => (by cases e)⟩
      · rw [hv]; exact gR_ws
      · show StrC v _ r (fu_ (iN I) (8 * 1 + iC I 1) nm (8 * 1 + iC I 1))
        rw [fu_same]
        exact str5.fr (fun i hi => av i (by have := hi.2; omega)) (fun i hi => newS_mono hi (Nat.le_refl _) (by omega))
      · show _ = nI (fu_ (fu_ (iX I) (24 + 2 * iC I 1) v2) (24 + 2 * iC I 1 + 1) v5 (24 + 2 * iC I 1))
        rw [fu_ne (by omega), fu_same, hv, gI_wn (by omega)]; exact gI_ws
      · show _ = nI (fu_ (fu_ (iX I) (24 + 2 * iC I 1) v2) (24 + 2 * iC I 1 + 1) v5 (24 + 2 * iC I 1 + 1))
        rw [fu_same, hv]; exact gI_ws
  obtain ⟨l, l1, l2, l3⟩ := H
  refine ⟨l, ?_, l2, 1, 961, ⟨by omega, by omega⟩, l3⟩
  rw [← l1, gRv t (by omega), (f5.agr (i := t) (Or.inl (by omega)) (by omega) (by omega)).2.2.2, (fs4.2 t (Or.inl (by omega))).2.2.2]
theorem pTri_pr {I' : Isl} (hk : k ≤ n) (e : pTri B n I p k = .inr (I', k')) : k + 2 < k' ∧ k' ≤ n := by
  unfold pTri at e
  split at e
  · cases e
  · obtain ⟨a, h1, e⟩ := rsB_inr e
    have p1 := pNme_pr (nm := a.1) (q := a.2) hk h1
    obtain ⟨b, h2, e⟩ := rsB_inr e
    have p2 := pWd_pr p1.2 h2
    obtain ⟨c, h3, e⟩ := rsB_inr e
    have p3 := pTst_pr b c.1 c.2 p2.2 h3
    injection e with e
    injection e with e1 e2
    omega
set_option maxRecDepth 20000 in
theorem cr_trial {K : Int32 → CS → Prop} {E : CS → Prop} {x1 : Nat} {x2 : Int32} (hb : BuC B n σ k t I st) (hc4 : iC I 2 ≤ 5) (hx2 : x2 = nI p) (f0 : FrDc σ0 σ) (h0 : σ0.1 = t) (hM : σ.1 + mc ≤ σ0.1 + MC) (hMB : σ0.1 + MC ≤ CB) (hb1 : 60 * bd n k (pTri B n I p k) + 50 ≤ mc) (hb2 : 4500 * bd n k (pTri B n I p k) + 3800 ≤ ms)
    (hE : ∀ e, pTri B n I p k = .inl e → ErD MC σ0 E e) (hK : ∀ I' k', pTri B n I p k = .inr (I', k') → ∀ σ' k2, k2 ≤ k' → skp B n k2 = skp B n k' → FrDc σ0 σ' → σ'.1 ≤ σ.1 + mc → BuC B n σ' k2 t I' st → K 1 σ') : U_X2_named_308 mc ms K E x1 x2 (b1 (decide (iC I 2 = 5))) 0 0 σ := by
  have hl := hb.lt
  have hkn := hb.rd.kn
  have h2 := bd_2 (X := pTri B n I p k) hkn (fun v k' e => by have := pTri_pr hkn e; omega)
  unfold pTri at hE hK hb1 hb2
  refine cr_most (mc := 0) rfl hx2 (fun e8 => ?_) (fun e8 => ?_)
  · rw [if_pos (of_decide_eq_true e8)] at hE
    exact (hE _ rfl).goD f0 (by omega)
  have e8 := of_decide_eq_false e8
  rw [if_neg e8] at hE hK hb1 hb2
  unfold pTri at h2
  rw [if_neg e8] at h2
  refine ⟨3, 2564, ⟨by omega, by omega⟩, cr_fresh hb (by omega) (by omega) (by omega) (fun e he => ?_) (fun nm q1 hn s1 r f1 z1 b1' str1 => ?_)⟩
  · rw [he] at hE; exact (hE e rfl).goD f0 (by omega)
  have p1 := pNme_pr hkn hn
  have hbr : 130 ≤ mc ∧ 11600 ≤ ms := by omega
  rw [hn] at hE hK hb1 hb2
  have fd1 := f0.trans f1.toD
  have y1 := f1.1
  refine ⟨3, 2564, ⟨by omega, by omega⟩, cr_word2 b1'.rd (t := 10) (by omega) (by omega) (by omega) (by omega) rfl (w := isWd) rfl (fun e he => ?_) (fun q2 hv2 s2 f2 z2 g2 => st_ ?_)⟩
  · exact (hE e (by show rsB (pWd B n q1 isWd) _ = _; rw [he]; rfl)).goD fd1 (by omega)
  have p2 := pWd_pr p1.2 hv2
  have hE2 := fun e (he : rsB (pTst B n 1 q2) (fun c => (Sum.inr (iSetT (iAdd I 2 nm) (5 + iC I 2) c.1, c.2) : Rs (Isl × Nat))) = .inl e) => hE e (by show rsB (pWd B n q1 isWd) _ = _; rw [hv2]; exact he)
  have hK2 := fun I' k' (he : rsB (pTst B n 1 q2) (fun c => (Sum.inr (iSetT (iAdd I 2 nm) (5 + iC I 2) c.1, c.2) : Rs (Isl × Nat))) = .inr (I', k')) => hK I' k' (by show rsB (pWd B n q1 isWd) _ = _; rw [hv2]; exact he)
  have ex : bd n k (rsB (Sum.inr (nm, q1) : Rs (List Nat × Nat)) (fun a => rsB (pWd B n a.2 isWd) (fun b => rsB (pTst B n 1 b) (fun c => (.inr (iSetT (iAdd I 2 a.1) (5 + iC I 2) c.1, c.2) : Rs (Isl × Nat)))))) = (q2 - k) + bd n q2 (pTst B n 1 q2) := by
    show bd n k (rsB (pWd B n q1 isWd) _) = _
    rw [hv2]
    show bd n k (rsB (pTst B n 1 q2) _) = _
    rw [bd_split (k1 := q2) (by omega) p2.2 (fun w k' hw => by
      obtain ⟨c, h3, e⟩ := rsB_inr hw
      have p3 := pTst_pr q2 c.1 c.2 p2.2 h3
      injection e with e
      injection e with e1 e2
      omega)]
    cases pTst B n 1 q2 with
    | inl z => rfl
    | inr z => rfl
  rw [ex] at hb1 hb2
  have b2' := (b1'.fr f2 g2).w5 (v := 127)
  obtain ⟨s3, hs3⟩ : ∃ s3, s3 = wI s2 9 5 127 := ⟨_, rfl⟩
  rw [← hs3] at b2' ⊢
  have y3 : s3.1 = s2.1 := by rw [hs3]; rfl
  have a3 : ∀ i, i ≠ 9 → agr s2 s3 i := fun i hi => by rw [hs3]; exact (agr.refl s2 i).wI hi
  have r3 : ∀ i, gR s3 i = gR s2 i := fun i => by rw [hs3]; rfl
  have fd3 : FrDc σ0 s3 := (fd1.trans f2.toD).of_agr (fun i _ h9 _ => a3 i h9) (by omega) (fun i _ _ => by rw [hs3]; rfl)
  have y2 := f2.1
  have c3 : gI s3 9 5 = ctx 1 := by rw [hs3]; exact gI_ws
  have hbT : 1 ≤ bd n q2 (pTst B n 1 q2) := by
    cases hz : pTst B n 1 q2 with
    | inl z => show 1 ≤ n + 6 - q2; omega
    | inr z => have := pTst_pr q2 z.1 z.2 p2.2 hz; show 1 ≤ z.2 - q2; omega
  refine ⟨t, b2'.2.1, b2'.kind, ⟨by omega, by omega⟩, by omega, st_ ?_⟩
  obtain ⟨s4, hs4⟩ : ∃ s4, s4 = nC s3 kO9 := ⟨_, rfl⟩
  rw [← hs4]
  have y4 : s4.1 = s3.1 + 1 := by rw [hs4]; rfl
  have fs4 : FrS s3 s4 := by rw [hs4]; exact (FrS.refl s3).nC (by omega)
  have g4 : RdC B n s4 q2 0 := b2'.rd.frS fs4 (by omega)
  have b4' := b2'.fr fs4.c g4
  have k4 : gK s4 s3.1 = some kO9 := by rw [hs4]; exact gK_n
  have fd4 := fd3.trans fs4.c.toD
  have c4 : gI s4 9 5 = ctx 1 := ctx_fr c3 fs4.c (by omega)
  refine ⟨60 * bd n q2 (pTst B n 1 q2) + 40, 4500 * bd n q2 (pTst B n 1 q2) + 3800, ⟨by omega, by omega⟩, cr_tst (tk := 1) (by omega) _ _ q2 s4 _ _ g4 c4 (by omega) TbO.of (fun e he => ?_) (fun v5 q5 hv5 s5 y k2 hk2 hk3 f5 z5 g5 tc5 => ?_)⟩
  · exact (hE2 e (by rw [he]; rfl)).goD fd4 (by omega)
  have y5 := f5.1
  have hc5 : s3.1 < CB := by omega
  have k5 : gK s5 s3.1 = some kO9 := by rw [(f5.agr (Or.inl (by omega)) (by omega) (by omega)).1]; exact k4
  refine ⟨r, rfl, y, rfl, hc5, Or.inr (Or.inr k5), st_ ⟨hc5, k5, st_ ?_⟩⟩
  obtain ⟨v, hv⟩ : ∃ v, v = wR (wR s5 s3.1 0 (r + 1)) s3.1 1 (y + 1) := ⟨_, rfl⟩
  rw [← hv]
  have yv : v.1 = s5.1 := by rw [hv]; rfl
  have av : ∀ i, i ≠ s3.1 → agr s5 v i := fun i hi => by rw [hv]; exact ((agr.refl s5 i).wR hi).wR hi
  have fC : FrC s3 s5 := fs4.c.trans f5
  have b5' := b4'.fr f5 g5
  have gv : RdC B n v k2 0 := g5.agr (fun i hi => av i (by omega)) (by omega) (by omega)
  have str5 : StrC s5 (newS σ.1 s1.1) r nm := ((WdC_str str1 f2 (by omega)).fr (fun i hi => (a3 i (by have := hi.1; omega)).trans (fC.agr (Or.inl (by have := hi.2; omega)) (by have := hi.1; omega) (by have := hi.1; omega))) (fun _ hi => hi))
  have gRv : ∀ i, i ≠ s3.1 → gR v i = gR s5 i := fun i hi => (av i hi).2.2.2
  have ag : ∀ i, i < σ.1 → i ≠ 9 → i ≠ 10 → agr σ v i := fun i hi h9 h10 => ((((f1.agr (Or.inl hi) h9 h10).trans (f2.agr (Or.inl (by omega)) h9 h10)).trans (a3 i h9)).trans (fC.agr (Or.inl (by omega)) h9 h10)).trans (av i (by omega))
  have H : ∃ l, gR v t (2 + 2) = l + 1 ∧ gK v l = some kO20 ∧ U_J2_add 1 961 v l s3.1 (fun _ σ81 => K 1 σ81) := by
    refine cr_put (q := s3.1) (kd := 2) (K := fun r82 σ81 => K 1 σ81) (mc := 1) (ms := 961) (σ0 := σ0) (σ := v) (k := k2) (I' := iSetT (iAdd I 2 nm) (5 + iC I 2) v5) hb gv (fun i hi h9 h10 => ag i (by rcases hi with hi | hi <;> omega) h9 h10) ?_ (by omega) ((fd4.trans f5.toD).of_agr (fun i hi _ _ => av i (by omega)) (by omega) (fun i hi _ => (av i (by omega)).1)) h0 (by omega) (by omega) (by omega) (by omega) (by omega) (fun kd' => ?_) (fun S kd' j q' hk' hj hj8 he => ?_) (fun S hlw => ?_) ?_ (fun s6 fd6 z6 b6 => hK2 _ _ (by rw [hv5]; rfl) s6 k2 hk2 hk3 fd6 (by omega) b6)
    · rw [gRv 9 (by omega)]; exact b5'.2.1
    · show fu_ (iC I) 2 (iC I 2 + 1) kd' = _
      by_cases e : kd' = 2
      · subst e; rw [fu_same, if_pos rfl]
      · rw [fu_ne e, if_neg e]
    · refine he.cg ?_ (fun _ => ⟨rfl, rfl, rfl⟩) (fun _ => ⟨rfl, rfl⟩) (fun e => ?_)
      · show fu_ (iN I) (8 * 2 + iC I 2) nm (8 * kd' + j) = _
        refine fu_ne ?_
        intro z
        have : kd' = 2 := by omega
        subst this
        omega
      · subst e
        show fu_ (iT I) (5 + iC I 2) (some v5) (5 + j) = _
        exact fu_ne (by omega)
    · refine hlw.cg ?_ ?_ rfl rfl
      · show fu_ (iT I) (5 + iC I 2) (some v5) 0 = _
        exact fu_ne (by omega)
      · show fu_ (iT I) (5 + iC I 2) (some v5) 1 = _
        exact fu_ne (by omega)
    · have kv : gK v s3.1 = some kO9 := by rw [hv]; exact k5
      refine ⟨⟨by omega, by omega⟩, ⟨Or.inr (Or.inr kv), r, ?_, ?_⟩, fun e => (by cases e), fun e => (by cases e), fun _ => ⟨kv, y, v5, ?_, ?_, ?_⟩⟩
      · rw [hv, gR_wn (by omega)]; exact gR_ws
      · show StrC v _ r (fu_ (iN I) (8 * 2 + iC I 2) nm (8 * 2 + iC I 2))
        rw [fu_same]
        exact str5.fr (fun i hi => av i (by have := hi.2; omega)) (fun i hi => newS_mono hi (Nat.le_refl _) (by omega))
      · rw [hv]; exact gR_ws
      · show fu_ (iT I) (5 + iC I 2) (some v5) (5 + iC I 2) = _
        exact fu_same _ _ _
      · refine (TC.fr (S := newS s4.1 s5.1) (fun i hi => av i (by have := hi.1; omega)) (fun i hi => newS_mono hi (by omega) (by omega)) _ _ _ tc5).ge (by omega)
  obtain ⟨l, l1, l2, l3⟩ := H
  refine ⟨l, ?_, l2, 1, 961, ⟨by omega, by omega⟩, l3⟩
  rw [← l1, gRv t (by omega), (f5.agr (i := t) (Or.inl (by omega)) (by omega) (by omega)).2.2.2, (fs4.2 t (Or.inl (by omega))).2.2.2]
end CB1
