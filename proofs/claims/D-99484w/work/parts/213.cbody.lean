/-! COMPONENT, PURE SIDE: things, menders, trials told. -/
/-- all but the reader's and the fault's cells are as they were -/
def FrDc (σ σ' : CS) : Prop := σ.1 ≤ σ'.1 ∧ (∀ i, i < σ.1 ∨ CB ≤ i → i ≠ 9 → i ≠ 10 → agr σ σ' i) ∧ ∀ i, i < σ.1 ∨ CB ≤ i → gK σ' i = gK σ i
def ErD (mc : Nat) (σ : CS) (E : CS → Prop) (e : Nat × Nat) : Prop := ∀ σ', FrDc σ σ' → σ'.1 ≤ σ.1 + mc → gI σ' 10 6 = nI e.1 → gI σ' 10 7 = nI e.2 → E σ'
section CB0
variable {σ0 σ σ' σ'' : CS} {i j k k' n o p q x mc ms c m tk d t id kd st MC : Nat} {B : Byt} {S S' : Nat → Prop} {w : List Nat} {I I' : Isl}
theorem FrC.toD (h : FrC σ σ') : FrDc σ σ' := ⟨h.1, fun i hi h9 h10 => h.agr hi h9 h10, fun i hi => (h.2 i hi).1⟩
theorem FrDc.refl (σ : CS) : FrDc σ σ := (FrC.refl σ).toD
theorem FrDc.trans (h : FrDc σ σ') (h' : FrDc σ' σ'') : FrDc σ σ'' := ⟨Nat.le_trans h.1 h'.1, fun i hi h9 h10 => (h.2.1 i hi h9 h10).trans (h'.2.1 i (hi.imp (fun z => Nat.lt_of_lt_of_le z h.1) id) h9 h10), fun i hi => (h'.2.2 i (hi.imp (fun z => Nat.lt_of_lt_of_le z h.1) id)).trans (h.2.2 i hi)⟩
theorem FrDc.of_agr (h : FrDc σ0 σ) (f : ∀ i, i < σ0.1 ∨ CB ≤ i → i ≠ 9 → i ≠ 10 → agrX σ σ' i) (hz : σ.1 ≤ σ'.1) (hkk : ∀ i, i < σ0.1 ∨ CB ≤ i → i = 9 ∨ i = 10 → gK σ' i = gK σ i) : FrDc σ0 σ' := by
  refine ⟨Nat.le_trans h.1 hz, fun i hi h9 h10 => (h.2.1 i hi h9 h10).trans (f i hi h9 h10), fun i hi => ?_⟩
  by_cases e : i = 9 ∨ i = 10
  · exact (hkk i hi e).trans (h.2.2 i hi)
  · exact ((f i hi (by omega) (by omega)).1).trans (h.2.2 i hi)
theorem ErD.goD {E : CS → Prop} {e : Nat × Nat} (h : ErD MC σ0 E e) (f : FrDc σ0 σ) (hm : σ.1 + mc ≤ σ0.1 + MC) : ErC mc σ E e := fun s g hs h6 h7 => h s (f.trans g.toD) (by omega) h6 h7
theorem TbO.of {r : Rs (TT × Nat)} : TbO n k (60 * bd n k r + 40) (4500 * bd n k r + 3800) 20 0 2600 40 3800 r := by
  cases r with
  | inl e =>
    show 60 * (n + 6 - k) + 40 ≤ 60 * (n + 6 - k) + 40 ∧ 4500 * (n + 6 - k) + 3800 ≤ 4500 * (n + 6 - k) + 3800
    exact ⟨Nat.le_refl _, Nat.le_refl _⟩
  | inr x =>
    show 60 * (x.2 - k) ≤ 60 * (x.2 - k) + 40 + 20 ∧ 4500 * (x.2 - k) + 2600 ≤ 4500 * (x.2 - k) + 3800 + 0
    exact ⟨by omega, by omega⟩
theorem TbO.le {r : Rs (TT × Nat)} {mc' ms' ca za zb ce ze : Nat} (h : TbO n k mc ms ca za zb ce ze r) (h1 : mc ≤ mc') (h2 : ms ≤ ms') : TbO n k mc' ms' ca za zb ce ze r := by
  cases r with
  | inl e => exact ⟨Nat.le_trans h.1 h1, Nat.le_trans h.2 h2⟩
  | inr x => exact ⟨Nat.le_trans h.1 (Nat.add_le_add_right h1 _), Nat.le_trans h.2 (Nat.add_le_add_right h2 _)⟩
theorem ElC.cg (h : ElC σ S I kd j q) (e1 : iN I' (8 * kd + j) = iN I (8 * kd + j)) (e2 : kd = 0 → iX I' (3 * j) = iX I (3 * j) ∧ iX I' (3 * j + 1) = iX I (3 * j + 1) ∧ iX I' (3 * j + 2) = iX I (3 * j + 2)) (e3 : kd = 1 → iX I' (24 + 2 * j) = iX I (24 + 2 * j) ∧ iX I' (24 + 2 * j + 1) = iX I (24 + 2 * j + 1)) (e4 : kd = 2 → iT I' (5 + j) = iT I (5 + j)) : ElC σ S I' kd j q := by
  obtain ⟨h1, h2, h3, h4, h5⟩ := h
  refine ⟨h1, by rw [e1]; exact h2, fun e => ?_, fun e => ?_, fun e => ?_⟩
  · rw [(e2 e).1, (e2 e).2.1, (e2 e).2.2]; exact h3 e
  · rw [(e3 e).1, (e3 e).2]; exact h4 e
  · rw [e4 e]; exact h5 e
theorem LwC.cg (h : LwC σ S t I) (e1 : iT I' 0 = iT I 0) (e2 : iT I' 1 = iT I 1) (e3 : iV I' = iV I) (e4 : iX I' 40 = iX I 40) : LwC σ S t I' := by
  unfold LwC
  rw [e1, e2, e3, e4]
  exact h
theorem RdC.w5 {v : Int32} (h : RdC B n σ k o) : RdC B n (wI σ 9 5 v) k o := by
  refine ⟨h.1, h.2.1, ?_, ?_, ?_, fun i hi => ?_, fun i hi => ?_⟩
  · rw [gI_wn (by omega)]; exact h.en
  · rw [gI_wn (by omega)]; exact h.at_
  · rw [gI_wn (by omega)]; exact h.op
  · rw [gI_wi (by omega)]; exact h.tp i hi
  · have := h.ko i hi
    rw [CBv] at hi
    exact ⟨this.1, by rw [gI_wi (by omega)]; exact this.2.1, this.2.2⟩
theorem BuC.w5 {v : Int32} (h : BuC B n σ k t I st) : BuC B n (wI σ 9 5 v) k t I st := by
  have hl := h.lt
  obtain ⟨h1, h2, h3, h4, S, h5⟩ := h
  exact ⟨h1.w5, h2, by rw [gI_wi (by omega)]; exact h3, h4, _, h5.grow (fun i hi _ => (agr.refl σ i).wI (by omega)) (Nat.le_refl _)⟩
/-- a new element is added, and the reader goes on -/
theorem cr_put {K : Int32 → CS → Prop} {a0 : CS} (hb : BuC B n a0 k' t I st) (hrd : RdC B n σ k 0) (ag : ∀ i, i < 1296 ∨ (t ≤ i ∧ i < a0.1) → i ≠ 9 → i ≠ 10 → agr a0 σ i) (hto : gR σ 9 6 = t + 1) (hz : a0.1 ≤ σ.1) (f0 : FrDc σ0 σ) (h0 : σ0.1 = t) (hkd : kd < 3) (hc : iC I kd < 8) (hmc : 1 ≤ mc) (hms : 961 ≤ ms) (hcb : σ.1 + 1 ≤ CB) (hI : ∀ kd', iC I' kd' = if kd' = kd then iC I kd + 1 else iC I kd')
    (hel : ∀ (S : Nat → Prop) kd' j q, kd' < 3 → j < iC I kd' → j < 8 → ElC σ S I kd' j q → ElC σ S I' kd' j q) (hlw : ∀ S, LwC σ S t I → LwC σ S t I') (hq : ElC σ (newS a0.1 σ.1) I' kd (iC I kd) q)
    (hk : ∀ σ', FrDc σ0 σ' → σ'.1 ≤ σ.1 + 1 → BuC B n σ' k t I' st → K 1 σ') : ∃ l, gR σ t (2 + kd) = l + 1 ∧ gK σ l = some kO20 ∧ U_J2_add mc ms σ l q K := by
  have hl := hb.lt
  obtain ⟨h1, h2, h3, h4, S, h5⟩ := hb
  have hX := h5.grow (σ' := σ) (fun i h1 h2 => ag i (Or.inr ⟨h1, h2⟩) (by omega) (by omega)) hz
  have hcs : ∀ kd', kd' < 3 → iC I kd' ≤ 8 := fun kd' hk' => by
    obtain ⟨l, -, -, -, h⟩ := hX.size hk'
    exact h
  refine cr_isAdd hX hkd hc hmc hms hcb hI (fun kd' j q hk' hj he => hel _ kd' j q hk' hj (by have := hcs kd' hk'; omega) he) (hlw _) (hq.fr (fun i _ => agr.refl σ i) (fun i hi => Or.inr hi)) fun s z1 z2 fr hX' => ?_
  refine hk s (f0.of_agr (fun i hi _ _ => fr i (by omega)) z1 (fun i hi _ => (fr i (by omega)).1)) z2 ⟨hrd.agr (fun i hi => fr i (by omega)) z1 (by omega), ?_, ?_, h4, _, hX'⟩
  · rw [(fr 9 (by omega)).2.2.2]; exact hto
  · rw [(fr t (by omega)).2.1, (ag t (Or.inr ⟨Nat.le_refl _, by omega⟩) (by omega) (by omega)).2.1]; exact h3
theorem pThg_pr {I' : Isl} (hk : k ≤ n) (e : pThg B n I p k = .inr (I', k')) : k + 6 < k' ∧ k' ≤ n := by
  unfold pThg at e
  split at e
  · cases e
  · obtain ⟨a, h1, e⟩ := rsB_inr e
    have p1 := pNme_pr (nm := a.1) (q := a.2) hk h1
    obtain ⟨b, h2, e⟩ := rsB_inr e
    have p2 := pKN_pr (v := b.1) (q := b.2) p1.2 h2
    obtain ⟨c, h3, e⟩ := rsB_inr e
    have p3 := pKN_pr (v := c.1) (q := c.2) p2.2 h3
    obtain ⟨d, h4, e⟩ := rsB_inr e
    have p4 := pKN_pr (v := d.1) (q := d.2) p3.2 h4
    injection e with e
    injection e with e1 e2
    omega
theorem pMen_pr {I' : Isl} (hk : k ≤ n) (e : pMen B n I p k = .inr (I', k')) : k + 4 < k' ∧ k' ≤ n := by
  unfold pMen at e
  split at e
  · cases e
  · obtain ⟨a, h1, e⟩ := rsB_inr e
    have p1 := pNme_pr (nm := a.1) (q := a.2) hk h1
    obtain ⟨b, h2, e⟩ := rsB_inr e
    have p2 := pKN_pr (v := b.1) (q := b.2) p1.2 h2
    obtain ⟨c, h3, e⟩ := rsB_inr e
    have p3 := pKN_pr (v := c.1) (q := c.2) p2.2 h3
    injection e with e
    injection e with e1 e2
    omega
theorem bd_2 {α : Type} {X : Rs (α × Nat)} (hk : k ≤ n) (h : ∀ v k', X = .inr (v, k') → k + 2 ≤ k') : 2 ≤ bd n k X := by
  cases X with
  | inl e => show 2 ≤ n + 6 - k; omega
  | inr r => have := h r.1 r.2 rfl; show 2 ≤ r.2 - k; omega
theorem WdC_str {a s : Nat} {nm : List Nat} (h : StrC σ (newS a σ.1) s nm) (f : FrC σ σ') (ha : 1296 ≤ a) : StrC σ' (newS a σ.1) s nm := h.fr (fun i hi => f.agr (Or.inl hi.2) (by have := hi.1; omega) (by have := hi.1; omega)) (fun _ hi => hi)
theorem cr_thing {K : Int32 → CS → Prop} {E : CS → Prop} {x1 : Nat} {x2 : Int32} (hb : BuC B n σ k t I st) (hx2 : x2 = nI p) (f0 : FrDc σ0 σ) (h0 : σ0.1 = t) (hM : σ.1 + mc ≤ σ0.1 + MC) (hMB : σ0.1 + MC ≤ CB) (hb1 : 60 * bd n k (pThg B n I p k) + 50 ≤ mc) (hb2 : 4500 * bd n k (pThg B n I p k) + 3800 ≤ ms)
    (hE : ∀ e, pThg B n I p k = .inl e → ErD MC σ0 E e) (hK : ∀ I' k', pThg B n I p k = .inr (I', k') → ∀ σ', FrDc σ0 σ' → σ'.1 ≤ σ.1 + mc → BuC B n σ' k' t I' st → K 1 σ') : U_X2_named_139 mc ms K E x1 x2 (b1 (decide (iC I 0 = 8))) 0 0 σ := by
  have hl := hb.lt
  have hkn := hb.rd.kn
  have h2 := bd_2 (X := pThg B n I p k) hkn (fun v k' e => by have := pThg_pr hkn e; omega)
  unfold pThg at hE hK
  refine cr_most (mc := 0) rfl hx2 (fun e8 => ?_) (fun e8 => ?_)
  · rw [if_pos (of_decide_eq_true e8)] at hE
    exact (hE _ rfl).goD f0 (by omega)
  have e8 := of_decide_eq_false e8
  rw [if_neg e8] at hE hK
  refine ⟨3, 2564, ⟨by omega, by omega⟩, cr_fresh hb (by omega) (by omega) (by omega) (fun e he => ?_) (fun nm q1 hn s1 r f1 z1 b1' str1 => ?_)⟩
  · rw [he] at hE; exact (hE e rfl).goD f0 (by omega)
  rw [hn] at hE hK
  have fd1 := f0.trans f1.toD
  have y1 := f1.1
  refine ⟨3, 2564, ⟨by omega, by omega⟩, cr_kn b1'.rd (t := 0) (lo := 0) (hi := 99) (by omega) (by omega) (by omega) (by omega) rfl (w := worthWd) rfl rfl rfl (by omega) (by omega) (fun e he => ?_) (fun v2 q2 hv2 s2 f2 z2 g2 => ?_)⟩
  · exact (hE e (by show rsB (pKN B n q1 worthWd 0 99) _ = _; rw [he]; rfl)).goD fd1 (by omega)
  have hE2 := fun e (he : rsB (pKN B n q2 useWd 0 99) (fun c => rsB (pKN B n c.2 frailWd 0 9) (fun d => (Sum.inr (iSetX (iSetX (iSetX (iAdd I 0 nm) (3 * iC I 0) v2) (3 * iC I 0 + 1) c.1) (3 * iC I 0 + 2) d.1, d.2) : Rs (Isl × Nat)))) = .inl e) => hE e (by show rsB (pKN B n q1 worthWd 0 99) _ = _; rw [hv2]; exact he)
  have hK2 := fun I' k' (he : rsB (pKN B n q2 useWd 0 99) (fun c => rsB (pKN B n c.2 frailWd 0 9) (fun d => (Sum.inr (iSetX (iSetX (iSetX (iAdd I 0 nm) (3 * iC I 0) v2) (3 * iC I 0 + 1) c.1) (3 * iC I 0 + 2) d.1, d.2) : Rs (Isl × Nat)))) = .inr (I', k')) => hK I' k' (by show rsB (pKN B n q1 worthWd 0 99) _ = _; rw [hv2]; exact he)
  have b2' := b1'.fr f2 g2
  have fd2 := fd1.trans f2.toD
  have y2 := f2.1
  refine ⟨3, 2564, ⟨by omega, by omega⟩, cr_kn g2 (t := 1) (lo := 0) (hi := 99) (by omega) (by omega) (by omega) (by omega) rfl (w := useWd) rfl rfl rfl (by omega) (by omega) (fun e he => ?_) (fun v3 q3 hv3 s3 f3 z3 g3 => ?_)⟩
  · exact (hE2 e (by rw [he]; rfl)).goD fd2 (by omega)
  rw [hv3] at hE2 hK2
  have b3' := b2'.fr f3 g3
  have fd3 := fd2.trans f3.toD
  have y3 := f3.1
  refine ⟨t, b3'.2.1, b3'.kind, ⟨by omega, by omega⟩, by omega, st_ ?_⟩
  obtain ⟨s4, hs4⟩ : ∃ s4, s4 = nC s3 kO7 := ⟨_, rfl⟩
  rw [← hs4]
  have y4 : s4.1 = s3.1 + 1 := by rw [hs4]; rfl
  have fs4 : FrS s3 s4 := by rw [hs4]; exact (FrS.refl s3).nC (by omega)
  have g4 : RdC B n s4 q3 0 := g3.frS fs4 (by omega)
  have b4' := b3'.fr fs4.c g4
  have k4 : gK s4 s3.1 = some kO7 := by rw [hs4]; exact gK_n
  have fd4 := fd3.trans fs4.c.toD
  refine ⟨3, 2564, ⟨by omega, by omega⟩, cr_kn g4 (t := 2) (lo := 0) (hi := 9) (by omega) (by omega) (by omega) (by omega) rfl (w := frailWd) rfl rfl rfl (by omega) (by omega) (fun e he => ?_) (fun v5 q5 hv5 s5 f5 z5 g5 => ?_)⟩
  · exact (hE2 e (by show rsB (pKN B n q3 frailWd 0 9) _ = _; rw [he]; rfl)).goD fd4 (by omega)
  have y5 := f5.1
  have hc5 : s3.1 < CB := by omega
  have k5 : gK s5 s3.1 = some kO7 := by rw [(f5.agr (Or.inl (by omega)) (by omega) (by omega)).1]; exact k4
  refine ⟨r, rfl, hc5, Or.inl k5, st_ ⟨hc5, k5, st_ ⟨hc5, k5, st_ ⟨hc5, k5, st_ ?_⟩⟩⟩⟩
  obtain ⟨v, hv⟩ : ∃ v, v = wI (wI (wI (wR s5 s3.1 0 (r + 1)) s3.1 1 (nI v2)) s3.1 2 (nI v3)) s3.1 3 (nI v5) := ⟨_, rfl⟩
  rw [← hv]
  have yv : v.1 = s5.1 := by rw [hv]; rfl
  have av : ∀ i, i ≠ s3.1 → agr s5 v i := fun i hi => by rw [hv]; exact ((((agr.refl s5 i).wR hi).wI hi).wI hi).wI hi
  have fC : FrC s1 s5 := ((f2.trans f3).trans fs4.c).trans f5
  have b5' := b4'.fr f5 g5
  have gv : RdC B n v q5 0 := g5.agr (fun i hi => av i (by omega)) (by omega) (by omega)
  have str5 := WdC_str str1 fC (by omega)
  have gRv : ∀ i, i ≠ s3.1 → gR v i = gR s5 i := fun i hi => (av i hi).2.2.2
  have H : ∃ l, gR v t (2 + 0) = l + 1 ∧ gK v l = some kO20 ∧ U_J2_add 1 961 v l s3.1 (fun _ σ81 => K 1 σ81) := by
    refine cr_put (q := s3.1) (kd := 0) (K := fun r82 σ81 => K 1 σ81) (mc := 1) (ms := 961) (σ0 := σ0) (σ := v) (k := q5) (I' := iSetX (iSetX (iSetX (iAdd I 0 nm) (3 * iC I 0) v2) (3 * iC I 0 + 1) v3) (3 * iC I 0 + 2) v5) hb gv (fun i hi h9 h10 => ?_) ?_ (by omega) ((fd4.trans f5.toD).of_agr (fun i hi _ _ => av i (by omega)) (by omega) (fun i hi _ => (av i (by omega)).1)) h0 (by omega) ?_ (by omega) (by omega) (by omega) (fun kd' => ?_) (fun S kd' j q' hk' hj hj8 he => ?_) (fun S hlw => ?_) ?_ (fun s6 fd6 z6 b6 => hK2 _ _ (by show rsB (pKN B n q3 frailWd 0 9) _ = _; rw [hv5]; rfl) s6 fd6 (by omega) b6)
    · rcases hi with hi | hi
      · exact ((f1.agr (Or.inl (by omega)) h9 h10).trans (fC.agr (Or.inl (by omega)) h9 h10)).trans (av i (by omega))
      · exact ((f1.agr (Or.inl (by omega)) h9 h10).trans (fC.agr (Or.inl (by omega)) h9 h10)).trans (av i (by omega))
    · rw [gRv 9 (by omega)]; exact b5'.2.1
    · obtain ⟨S, hX⟩ := hb.2.2.2.2
      obtain ⟨-, -, -, -, h⟩ := hX.size (kd := 0) (by omega)
      omega
    · show fu_ (iC I) 0 (iC I 0 + 1) kd' = _
      by_cases e : kd' = 0
      · subst e; rw [fu_same, if_pos rfl]
      · rw [fu_ne e, if_neg e]
    · have hc8 : iC I 0 < 8 := by
        obtain ⟨S, hX⟩ := hb.2.2.2.2
        obtain ⟨-, -, -, -, h⟩ := hX.size (kd := 0) (by omega)
        omega
      refine he.cg ?_ (fun e => ?_) (fun e => ?_) (fun _ => rfl)
      · show fu_ (iN I) (8 * 0 + iC I 0) nm (8 * kd' + j) = _
        refine fu_ne ?_
        intro z
        have : kd' = 0 := by omega
        subst this
        omega
      · subst e
        refine ⟨?_, ?_, ?_⟩
        all_goals
          show fu_ (fu_ (fu_ (iX I) _ _) _ _) _ _ _ = _
          rw [fu_ne (by omega), fu_ne (by omega), fu_ne (by omega)]
      · refine ⟨?_, ?_⟩
        all_goals
          show fu_ (fu_ (fu_ (iX I) _ _) _ _) _ _ _ = _
          rw [fu_ne (by omega), fu_ne (by omega), fu_ne (by omega)]
    · have hc8 : iC I 0 < 8 := by
        obtain ⟨S, hX⟩ := hb.2.2.2.2
        obtain ⟨-, -, -, -, h⟩ := hX.size (kd := 0) (by omega)
        omega
      refine hlw.cg rfl rfl rfl ?_
      show fu_ (fu_ (fu_ (iX I) _ _) _ _) _ _ _ = _
      rw [fu_ne (by omega), fu_ne (by omega), fu_ne (by omega)]
    · have kv : gK v s3.1 = some kO7 := by rw [hv]; exact k5
      refine ⟨⟨by omega, by omega⟩, ⟨Or.inl kv, r, ?_, ?_⟩, fun _ => ⟨kv, ?_, ?_, ?_⟩, fun e => (by cases e), fun e => (by cases e)⟩
      · rw [hv]; exact gR_ws
      · show StrC v _ r (fu_ (iN I) (8 * 0 + iC I 0) nm (8 * 0 + iC I 0))
        rw [fu_same]
        exact str5.fr (fun i hi => av i (by have := hi.2; omega)) (fun i hi => newS_mono hi (Nat.le_refl _) (by omega))
      · show _ = nI (fu_ (fu_ (fu_ (iX I) (3 * iC I 0) v2) (3 * iC I 0 + 1) v3) (3 * iC I 0 + 2) v5 (3 * iC I 0))
        rw [fu_ne (by omega), fu_ne (by omega), fu_same, hv, gI_wn (by omega), gI_wn (by omega)]; exact gI_ws
      · show _ = nI (fu_ (fu_ (fu_ (iX I) (3 * iC I 0) v2) (3 * iC I 0 + 1) v3) (3 * iC I 0 + 2) v5 (3 * iC I 0 + 1))
        rw [fu_ne (by omega), fu_same, hv, gI_wn (by omega)]; exact gI_ws
      · show _ = nI (fu_ (fu_ (fu_ (iX I) (3 * iC I 0) v2) (3 * iC I 0 + 1) v3) (3 * iC I 0 + 2) v5 (3 * iC I 0 + 2))
        rw [fu_same, hv]; exact gI_ws
  obtain ⟨l, l1, l2, l3⟩ := H
  refine ⟨l, ?_, l2, 1, 961, ⟨by omega, by omega⟩, l3⟩
  rw [← l1, gRv t (by omega), (f5.agr (i := t) (Or.inl (by omega)) (by omega) (by omega)).2.2.2, (fs4.2 t (Or.inl (by omega))).2.2.2]
end CB0
