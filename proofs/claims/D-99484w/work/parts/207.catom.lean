/-! COMPONENT, PURE SIDE: parts of sums. -/
section CAt
variable {σ0 σ σ' : CS} {i j k k' n o q x mc ms c m tk d ca za : Nat} {B : Byt} {S S' : Nat → Prop} {PA PF : PTR} {A : Nat → Rs (VV × Nat)}
theorem pMust_pr {c : Nat} (hk : k ≤ n) (hc : c ≠ 256) (e : pMust B n k c = .inr k') : k < k' ∧ k' ≤ n := by
  unfold pMust at e
  split at e
  · rename_i hb
    injection e with e
    have := skp_ge B n k
    have := bt_in hb hc
    omega
  · cases e
theorem pNum_pr {lo hi v : Nat} (hk : k ≤ n) (e : pNum B n k lo hi = .inr (v, k')) : k < k' ∧ k' ≤ n := by
  have := skp_ge B n k
  unfold pNum at e
  simp only at e
  split at e
  · rename_i hb
    simp only [Bool.and_eq_true] at hb
    have h1 := dEn_gt hb.1
    have h2 := dEn_le (B := B) (n := n) (k := skp B n k) (skp_le hk)
    split at e
    · cases e
    · split at e
      · injection e with e
        injection e with e1 e2
        omega
      · cases e
  · cases e
theorem pWord_pr {p : Nat} (hk : k ≤ n) (e : pWord B n k = .inr (p, k')) : k ≤ p ∧ p < k' ∧ k' ≤ n := by
  have := skp_ge B n k
  unfold pWord at e
  split at e
  · rename_i hb
    injection e with e
    injection e with e1 e2
    have h1 := wEn_gt (okW_pL hb)
    have h2 := wEn_le (B := B) (n := n) (k := skp B n k) (skp_le hk)
    omega
  · cases e
theorem pSum_pr (hA : PrA n A) : PrA n (pSum B n A) := by
  rw [chA_sum, chA_pro]
  exact chA_pr (chA_pr hA (by omega) (by omega)) (by omega) (by omega)
theorem rsB_r {α β : Type} (a : α) (f : α → Rs β) : rsB (Sum.inr a) f = f a := rfl
theorem rsB_inr {α β : Type} {r : Rs α} {f : α → Rs β} {b : β} (h : rsB r f = .inr b) : ∃ a, r = .inr a ∧ f a = .inr b := by
  cases r with
  | inl e => cases h
  | inr a => exact ⟨a, rfl, h⟩
theorem pWit_pr {AA : Nat → Nat → Rs (VV × Nat)} {two : Nat} (hA : PrA n (AA (o + 1))) : PrA n (pWit B n AA two o) := by
  intro k v k' hk e
  have hs := pSum_pr (B := B) hA
  have hge := skp_ge B n k
  unfold pWit at e
  split at e
  · rename_i hb
    have hin := bt_in hb (by omega)
    split at e
    · cases e
    · obtain ⟨r, h1, e⟩ := rsB_inr e
      have p1 := hs _ r.1 r.2 hin h1
      split at e
      · obtain ⟨k1, h2, e⟩ := rsB_inr e
        have p2 := pMust_pr p1.2 (by omega) h2
        injection e with e
        injection e with e1 e2
        omega
      · obtain ⟨k1, h2, e⟩ := rsB_inr e
        have p2 := pMust_pr p1.2 (by omega) h2
        obtain ⟨r2, h3, e⟩ := rsB_inr e
        have p3 := hs _ r2.1 r2.2 p2.2 h3
        obtain ⟨k2, h4, e⟩ := rsB_inr e
        have p4 := pMust_pr p3.2 (by omega) h4
        injection e with e
        injection e with e1 e2
        omega
  · cases e
theorem pAtm_pr : ∀ m o, PrA n (pAtm B n tk m o)
  | 0, o => fun k v k' _ e => by cases e
  | m + 1, o => by
    intro k v k' hk e
    have ih := fun o => pAtm_pr m o
    unfold pAtm at e
    split at e
    · exact pWit_pr (ih _) k v k' hk e
    · split at e
      · obtain ⟨r, h1, e⟩ := rsB_inr e
        have p1 := pNum_pr (v := r.1) (k' := r.2) hk h1
        injection e with e
        injection e with e1 e2
        omega
      · obtain ⟨r, h1, e⟩ := rsB_inr e
        have p1 := pWord_pr (p := r.1) (k' := r.2) hk h1
        split at e
        · injection e with e
          injection e with e1 e2
          omega
        · split at e
          · split at e
            · cases e
            · obtain ⟨r2, h2, e⟩ := rsB_inr e
              have p2 := ih _ _ r2.1 r2.2 p1.2.2 h2
              injection e with e
              injection e with e1 e2
              omega
          · split at e
            · have := pWit_pr (ih _) _ v k' p1.2.2 e
              omega
            · split at e
              · have := pWit_pr (ih _) _ v k' p1.2.2 e
                omega
              · cases e
theorem VC.ge {d d' q : Nat} {v : VV} (h : VC tk σ S d q v) (hd : d ≤ d') : VC tk σ S d' q v := by
  have := VC.le h (d' - d)
  rw [show d + (d' - d) = d' by omega] at this
  exact this
theorem TC.ge {d d' q : Nat} {v : TT} (h : TC tk σ S d q v) (hd : d ≤ d') : TC tk σ S d' q v := by
  have := TC.le h (d' - d)
  rw [show d + (d' - d) = d' by omega] at this
  exact this
theorem cr_sum (hA : AtL B n tk d 20 1800 PA A o) (hp : PrA n A) : AtL B n tk (d + 2) 6 1600 (fun mc ms σ K E => U_X2_sum PA PF mc ms σ K E) (pSum B n A) o := by
  have h1 := cr_chU hA hp (by omega) (by omega) (by omega) (by omega) (s1 := 42) (s2 := 47) (by omega)
  have h2 := cr_chU h1 (chA_pr hp (by omega) (by omega)) (by omega) (by omega) (by omega) (by omega) (s1 := 43) (s2 := 45) (by omega)
  rw [chA_sum, chA_pro, chU_sum, chU_pro]
  exact h2
theorem newS_mono {a b a' b' i : Nat} (h : newS a b i) (ha : a' ≤ a) (hb : b ≤ b') : newS a' b' i := ⟨Nat.le_trans ha h.1, Nat.lt_of_lt_of_le h.2 hb⟩
theorem op_1 (h : RdC B n σ k (o + 1)) : gI σ 9 4 - 1 = nI o := by rw [h.op, nI_pred]
theorem cr_w77 {K : Nat → CS → Prop} {E : CS → Prop} {x3 cx zx : Nat} (h : RdC B n σ k (o + 1)) (hE : ∀ e, pMust B n k 41 = .inl e → ErC 0 σ E e) (hK : ∀ k', pMust B n k 41 = .inr k' → ∀ σ', FrC σ σ' → σ'.1 = σ.1 → RdC B n σ' k' o → K x3 σ') : U_X2_within_77 PA PF mc ms K E x3 cx zx σ := by
  have ho := h.oo
  refine cr_must (mc := 0) h (c := 41) rfl (by omega) hE fun k1 e1 _ s f hz g => st_ ?_
  rw [op_1 g]
  exact hK k1 e1 _ (f.wI (Or.inl scR_4)) hz (g.opn (by omega))
theorem nar_bb (b : Bool) : narrow .boolean (.int (b1 b)) = .int (b1 b) ∧ fits .boolean (.int (b1 b)) = true := by cases b <;> exact ⟨rfl, rfl⟩
theorem cr_w68 {K : Nat → CS → Prop} {E : CS → Prop} {a0 pq cx zx : Nat} {a : VV} {b : Bool} (hS : AtL B n tk (d + 2) 6 1600 (fun mc ms σ K E => U_X2_sum PA PF mc ms σ K E) A (o + 1)) (hp : PrA n A) (h : RdC B n σ k (o + 1)) (h5 : gI σ 9 5 = ctx tk) (hf : FrC σ0 σ) (hcb : σ0.1 + mc ≤ CB) (hz : σ.1 ≤ σ0.1 + cx) (hsz : 1296 ≤ σ0.1) (hpq : gK σ pq = some kO14) (hpl : σ0.1 ≤ pq ∧ pq < σ.1) (ha : VC tk σ (fun i => newS σ0.1 σ.1 i ∧ i ≠ pq) (d + 2) a0 a)
    {G : VV → VV} (hG : ∀ w, G w = fun e => if b = true then (if a e ≤ w e then w e else a e) else (if a e ≤ w e then a e else w e))
    (hb1 : cx + 60 * bd n k (rsB (A k) (fun r2 => rsB (pMust B n r2.2 41) (fun k' => .inr (G r2.1, k')))) ≤ mc) (hb2 : zx + 4500 * bd n k (rsB (A k) (fun r2 => rsB (pMust B n r2.2 41) (fun k' => .inr (G r2.1, k')))) ≤ ms)
    (hE : ∀ e, rsB (A k) (fun r2 => rsB (pMust B n r2.2 41) (fun k' => .inr (G r2.1, k'))) = .inl e → ErC mc σ0 E e)
    (hK : ∀ v k', rsB (A k) (fun r2 => rsB (pMust B n r2.2 41) (fun k' => .inr (G r2.1, k'))) = .inr (v, k') → ∀ σ' q, FrC σ0 σ' → σ'.1 ≤ σ0.1 + mc → RdC B n σ' k' o → VC tk σ' (newS σ0.1 σ'.1) (d + 3) q v → K (q + 1) σ') : U_X2_within_68 PA PF mc ms K E (a0 + 1) (b1 b) (pq + 1) (pq + 1) cx zx σ := by
  have hkn := h.kn
  have hn := h.nn
  have ho := h.oo
  have hbd : bd n k (A k) ≤ bd n k (rsB (A k) (fun r2 => rsB (pMust B n r2.2 41) (fun k' => .inr (G r2.1, k')))) := by
    cases hAk : A k with
    | inl e => exact Nat.le_refl _
    | inr r =>
      have p1 := hp _ r.1 r.2 hkn hAk
      show r.2 - k ≤ bd n k (rsB (pMust B n r.2 41) (fun k' => .inr (G r.1, k')))
      cases hm : pMust B n r.2 41 with
      | inl e => show r.2 - k ≤ n + 6 - k; omega
      | inr k2 =>
        have p2 := pMust_pr p1.2 (by omega) hm
        show r.2 - k ≤ k2 - k; omega
  refine ⟨60 * bd n k (A k) - 6, 4500 * bd n k (A k) - 1600, ⟨by omega, by omega⟩, hS _ _ k σ _ _ h h5 (by omega) (by omega) (by omega) (fun e he => ?_) (fun w k1 hv t q ft zt gt vt => ?_)⟩
  · rw [he] at hE
    exact (hE e rfl).go hf (by omega)
  · have p1 := hp _ w k1 hkn hv
    rw [hv] at hE hK
    have hE : ∀ e, rsB (pMust B n k1 41) (fun k' => (.inr (G w, k') : Rs (VV × Nat))) = .inl e → ErC mc σ0 E e := hE
    have hK : ∀ v k', rsB (pMust B n k1 41) (fun k' => (.inr (G w, k') : Rs (VV × Nat))) = .inr (v, k') → ∀ σ' q, FrC σ0 σ' → σ'.1 ≤ σ0.1 + mc → RdC B n σ' k' o → VC tk σ' (newS σ0.1 σ'.1) (d + 3) q v → K (q + 1) σ' := hK
    have ft1 := ft.1
    have hpc : pq < CB := by omega
    have kp : gK t pq = some kO14 := by rw [(ft.agr (Or.inl hpl.2) (by omega) (by omega)).1]; exact hpq
    refine ⟨pq, rfl, a0, rfl, q, rfl, hpc, kp, nar_bb b, st_ ⟨hpc, kp, st_ ⟨hpc, kp, st_ ?_⟩⟩⟩
    obtain ⟨t1, ht1⟩ : ∃ t1, t1 = wR (wR (wI t pq 0 (b1 b)) pq 1 (a0 + 1)) pq 2 (q + 1) := ⟨_, rfl⟩
    rw [← ht1]
    have z1 : t1.1 = t.1 := by rw [ht1]; rfl
    have a1 : ∀ i, i ≠ pq → agr t t1 i := fun i hi => by rw [ht1]; exact (((agr.refl t i).wI hi).wR hi).wR hi
    have g1 : RdC B n t1 k1 (o + 1) := gt.agr (fun i hi => a1 i (by omega)) (by omega) (by omega)
    have f1 : FrC σ0 t1 := by
      rw [ht1]; exact (((hf.trans ft).wI (Or.inr ⟨hpl.1, hpc⟩)).wR ⟨hpl.1, hpc⟩).wR ⟨hpl.1, hpc⟩
    refine cr_w77 g1 (fun e he => ?_) (fun k2 he s fs zs gs => ?_)
    · rw [he] at hE
      exact (hE e rfl).go f1 (by omega)
    · rw [he] at hK
      refine hK _ _ rfl s pq (f1.trans fs) (by omega) gs ?_
      have agp : agr t1 s pq := fs.agr (Or.inl (by omega)) (by omega) (by omega)
      refine ⟨⟨hpl.1, by omega⟩, Or.inr (Or.inr (Or.inr (Or.inl ⟨?_, a0, q, a, w, b, ?_, ?_, ?_, ?_, ?_, hG w⟩)))⟩
      · rw [agp.1, ht1]; exact kp
      · rw [agp.2.1, ht1]; exact gI_ws
      · rw [agp.2.2.2, ht1, gR_wn (by omega)]; exact gR_ws
      · rw [agp.2.2.2, ht1]; exact gR_ws
      · refine VC.fr (S := fun i => newS σ0.1 σ.1 i ∧ i ≠ pq) (fun i hi => ?_) (fun i hi => newS_mono hi.1 (Nat.le_refl _) (by omega)) _ _ _ ha
        have := hi.1.1; have := hi.1.2
        exact ((ft.agr (Or.inl hi.1.2) (by omega) (by omega)).trans (a1 i hi.2)).trans (fs.agr (Or.inl (by omega)) (by omega) (by omega))
      · refine VC.fr (S := newS σ.1 t.1) (fun i hi => ?_) (fun i hi => newS_mono hi (by omega) (by omega)) _ _ _ vt
        have := hi.1; have := hi.2
        exact (a1 i (by omega)).trans (fs.agr (Or.inl (by omega)) (by omega) (by omega))
theorem cr_within {K : Nat → CS → Prop} {E : CS → Prop} {two : Nat} {x1 : Int32} {AA : Nat → Nat → Rs (VV × Nat)} (hx : x1 = nI two) (ht : two ≤ 2) (hS : AtL B n tk (d + 2) 6 1600 (fun mc ms σ K E => U_X2_sum PA PF mc ms σ K E) (pSum B n (AA (o + 1))) (o + 1)) (hp : PrA n (pSum B n (AA (o + 1)))) (h : RdC B n σ k o) (h5 : gI σ 9 5 = ctx tk) (hcb : σ.1 + mc ≤ CB) (hb1 : 60 * bd n k (pWit B n AA two o k) ≤ mc + 20) (hb2 : 4500 * bd n k (pWit B n AA two o k) ≤ ms + 1800)
    (hE : ∀ e, pWit B n AA two o k = .inl e → ErC mc σ E e) (hK : ∀ v k', pWit B n AA two o k = .inr (v, k') → ∀ σ' q, FrC σ σ' → σ'.1 ≤ σ.1 + mc → RdC B n σ' k' o → VC tk σ' (newS σ.1 σ'.1) (d + 3) q v → K (q + 1) σ') : U_X2_within PA PF mc ms σ x1 K E := by
  subst hx
  have hsz := h.sz
  have hkn := h.kn
  have hn := h.nn
  have hge := skp_ge B n k
  unfold pWit at hb1 hb2 hE hK
  refine cr_here h fun s f hs g => ?_
  by_cases e : bt B n (skp B n k) = 40
  · rw [if_pos e] at hb1 hb2 hE hK
    have hin := bt_in e (by omega)
    refine br_t ((cI_eq (d := 40) (bt_le h.by_) (by omega)).mpr e) (cr_opens (mc := mc) g g.at_ (fun e6 => ?_) (fun e6 s1 f1 z1 g1 _ => st_ ?_))
    · rw [if_pos e6] at hE
      exact (hE _ rfl).go f (by omega)
    · rw [if_neg e6] at hb1 hb2 hE hK
      rw [g1.at_, nI_1]
      have g2 : RdC B n (wI s1 9 2 (nI (skp B n k + 1))) (skp B n k + 1) (o + 1) := g1.go (by omega)
      obtain ⟨s2, hs2⟩ : ∃ s2, s2 = wI s1 9 2 (nI (skp B n k + 1)) := ⟨_, rfl⟩
      rw [← hs2] at g2 ⊢
      have z2 : s2.1 = σ.1 := by rw [hs2]; show s1.1 = _; omega
      have f2 : FrC σ s2 := by rw [hs2]; exact (f.trans f1).wI (Or.inl scR_2)
      have c2 := ctx_fr h5 f2 hsz.1
      -- the first sum
      have hbd : 1 + bd n (skp B n k + 1) (pSum B n (AA (o + 1)) (skp B n k + 1)) ≤ bd n k (rsB (pSum B n (AA (o + 1)) (skp B n k + 1)) (fun r => if two = 0 then rsB (pMust B n r.2 41) (fun k' => .inr (r.1, k')) else rsB (pMust B n r.2 44) (fun k1 => rsB (pSum B n (AA (o + 1)) k1) (fun r2 => rsB (pMust B n r2.2 41) (fun k' => .inr ((fun e => if two = 2 then (if r.1 e ≤ r2.1 e then r2.1 e else r.1 e) else (if r.1 e ≤ r2.1 e then r.1 e else r2.1 e)), k')))))) := by
        cases hAk : pSum B n (AA (o + 1)) (skp B n k + 1) with
        | inl z => show 1 + (n + 6 - (skp B n k + 1)) ≤ n + 6 - k; omega
        | inr r =>
          have p1 := hp _ r.1 r.2 hin hAk
          show 1 + (r.2 - (skp B n k + 1)) ≤ _
          have : ∀ X : Rs (VV × Nat), (∀ w k', X = .inr (w, k') → r.2 ≤ k') → 1 + (r.2 - (skp B n k + 1)) ≤ bd n k X := by
            intro X hX
            rw [bd_split (k1 := r.2) (by omega) p1.2 hX]
            omega
          refine this _ (fun w k' hw => ?_)
          rw [rsB_r] at hw
          split at hw
          · obtain ⟨k1, h2, hw⟩ := rsB_inr hw
            have p2 := pMust_pr p1.2 (by omega) h2
            injection hw with hw
            injection hw with e1 e2
            omega
          · obtain ⟨k1, h2, hw⟩ := rsB_inr hw
            have p2 := pMust_pr p1.2 (by omega) h2
            obtain ⟨r2, h3, hw⟩ := rsB_inr hw
            have p3 := hp _ r2.1 r2.2 p2.2 h3
            obtain ⟨k2, h4, hw⟩ := rsB_inr hw
            have p4 := pMust_pr p3.2 (by omega) h4
            injection hw with hw
            injection hw with e1 e2
            omega
      refine ⟨60 * bd n (skp B n k + 1) (pSum B n (AA (o + 1)) (skp B n k + 1)) - 6, 4500 * bd n (skp B n k + 1) (pSum B n (AA (o + 1)) (skp B n k + 1)) - 1600, ⟨by omega, by omega⟩, hS _ _ (skp B n k + 1) s2 _ _ g2 c2 (by omega) (by omega) (by omega) (fun z hz => ?_) (fun v1 k1 hv t q ft zt gt vt => ?_)⟩
      · rw [hz] at hE
        exact (hE z rfl).go f2 (by omega)
      · have p1 := hp _ v1 k1 hin hv
        have e6 : bd n (skp B n k + 1) (pSum B n (AA (o + 1)) (skp B n k + 1)) = k1 - (skp B n k + 1) := by rw [hv]; rfl
        have hm0 : 60 * bd n (skp B n k + 1) (pSum B n (AA (o + 1)) (skp B n k + 1)) - 6 ≤ mc := by omega
        rw [e6] at zt hm0 ⊢
        rw [hv] at hE hK hb1 hb2
        have ft1 := ft.1
        have ct := ctx_fr c2 ft (by omega)
        by_cases h2 : two = 0
        · subst h2
          have hE : ∀ e, rsB (pMust B n k1 41) (fun k' => (.inr (v1, k') : Rs (VV × Nat))) = .inl e → ErC mc σ E e := hE
          have hK : ∀ v k', rsB (pMust B n k1 41) (fun k' => (.inr (v1, k') : Rs (VV × Nat))) = .inr (v, k') → ∀ σ' q, FrC σ σ' → σ'.1 ≤ σ.1 + mc → RdC B n σ' k' o → VC tk σ' (newS σ.1 σ'.1) (d + 3) q v → K (q + 1) σ' := hK
          refine br_t (by decide) (cr_w77 gt (fun z hz => ?_) (fun k2 hz s4 f4 z4 g4 => ?_))
          · rw [hz] at hE
            exact (hE z rfl).go (f2.trans ft) (by omega)
          · rw [hz] at hK
            refine hK _ _ rfl s4 q ((f2.trans ft).trans f4) (by omega) g4 (VC.ge (VC.fr (S := newS s2.1 t.1) (fun i hi => ?_) (fun i hi => newS_mono hi (by omega) (by omega)) _ _ _ vt) (by omega))
            have := hi.1; have := hi.2
            exact f4.agr (Or.inl (by omega)) (by omega) (by omega)
        · have hE : ∀ e, rsB (pMust B n k1 44) (fun k1 => rsB (pSum B n (AA (o + 1)) k1) (fun r2 => rsB (pMust B n r2.2 41) (fun k' => (.inr ((fun e => if two = 2 then (if v1 e ≤ r2.1 e then r2.1 e else v1 e) else (if v1 e ≤ r2.1 e then v1 e else r2.1 e)), k') : Rs (VV × Nat))))) = .inl e → ErC mc σ E e := fun e he => hE e (by show (if two = 0 then _ else _) = _; rw [if_neg h2]; exact he)
          have hK : ∀ v k', rsB (pMust B n k1 44) (fun k1 => rsB (pSum B n (AA (o + 1)) k1) (fun r2 => rsB (pMust B n r2.2 41) (fun k' => (.inr ((fun e => if two = 2 then (if v1 e ≤ r2.1 e then r2.1 e else v1 e) else (if v1 e ≤ r2.1 e then v1 e else r2.1 e)), k') : Rs (VV × Nat))))) = .inr (v, k') → ∀ σ' q, FrC σ σ' → σ'.1 ≤ σ.1 + mc → RdC B n σ' k' o → VC tk σ' (newS σ.1 σ'.1) (d + 3) q v → K (q + 1) σ' := fun v k' he => hK v k' (by show (if two = 0 then _ else _) = _; rw [if_neg h2]; exact he)
          have hb1 : 60 * bd n k (rsB (pMust B n k1 44) (fun k1 => rsB (pSum B n (AA (o + 1)) k1) (fun r2 => rsB (pMust B n r2.2 41) (fun k' => (.inr ((fun e => if two = 2 then (if v1 e ≤ r2.1 e then r2.1 e else v1 e) else (if v1 e ≤ r2.1 e then v1 e else r2.1 e)), k') : Rs (VV × Nat)))))) ≤ mc + 20 := by
            have hb1 : 60 * bd n k (if two = 0 then _ else _) ≤ mc + 20 := hb1
            rw [if_neg h2] at hb1; exact hb1
          have hb2 : 4500 * bd n k (rsB (pMust B n k1 44) (fun k1 => rsB (pSum B n (AA (o + 1)) k1) (fun r2 => rsB (pMust B n r2.2 41) (fun k' => (.inr ((fun e => if two = 2 then (if v1 e ≤ r2.1 e then r2.1 e else v1 e) else (if v1 e ≤ r2.1 e then v1 e else r2.1 e)), k') : Rs (VV × Nat)))))) ≤ ms + 1800 := by
            have hb2 : 4500 * bd n k (if two = 0 then _ else _) ≤ ms + 1800 := hb2
            rw [if_neg h2] at hb2; exact hb2
          refine br_f (fun z => ?_) (cr_must (mc := 0) gt (c := 44) rfl (by omega) (fun z hz => ?_) (fun k2 hz hk2 s4 f4 z4 g4 => ?_))
          · exact absurd z (by rcases (show two = 1 ∨ two = 2 by omega) with rfl | rfl <;> decide)
          · rw [hz] at hE
            exact (hE z rfl).go (f2.trans ft) (by omega)
          · have p2 := pMust_pr p1.2 (by omega) hz
            rw [hz] at hE hK hb1 hb2
            obtain ⟨t5, ht5⟩ : ∃ t5, t5 = nC s4 kO14 := ⟨_, rfl⟩
            have z5 : t5.1 = s4.1 + 1 := by rw [ht5]; rfl
            -- what is left
            have hX : ∀ w k', rsB (pSum B n (AA (o + 1)) k2) (fun r2 => rsB (pMust B n r2.2 41) (fun k' => (.inr ((fun e => if two = 2 then (if v1 e ≤ r2.1 e then r2.1 e else v1 e) else (if v1 e ≤ r2.1 e then v1 e else r2.1 e)), k') : Rs (VV × Nat)))) = .inr (w, k') → k2 ≤ k' := by
              intro w k' hw
              obtain ⟨r2, h3, hw⟩ := rsB_inr hw
              have p3 := hp _ r2.1 r2.2 p2.2 h3
              obtain ⟨k3, h4, hw⟩ := rsB_inr hw
              have p4 := pMust_pr p3.2 (by omega) h4
              injection hw with hw
              injection hw with e1 e2
              omega
            have hb1 : 60 * bd n k (rsB (pSum B n (AA (o + 1)) k2) (fun r2 => rsB (pMust B n r2.2 41) (fun k' => (.inr ((fun e => if two = 2 then (if v1 e ≤ r2.1 e then r2.1 e else v1 e) else (if v1 e ≤ r2.1 e then v1 e else r2.1 e)), k') : Rs (VV × Nat))))) ≤ mc + 20 := hb1
            have hb2 : 4500 * bd n k (rsB (pSum B n (AA (o + 1)) k2) (fun r2 => rsB (pMust B n r2.2 41) (fun k' => (.inr ((fun e => if two = 2 then (if v1 e ≤ r2.1 e then r2.1 e else v1 e) else (if v1 e ≤ r2.1 e then v1 e else r2.1 e)), k') : Rs (VV × Nat))))) ≤ ms + 1800 := hb2
            rw [bd_split (k1 := k2) (by omega) p2.2 hX] at hb1 hb2
            refine ⟨⟨by omega, by omega⟩, by omega, st_ ?_⟩
            rw [← ht5]
            have f5 : FrC σ t5 := by rw [ht5]; exact ((f2.trans ft).trans f4).nC (by omega)
            have fs5 : FrS s4 t5 := by rw [ht5]; exact (FrS.refl s4).nC (by omega)
            have g5 : RdC B n t5 k2 (o + 1) := g4.frS fs5 (by omega)
            have k5 : gK t5 s4.1 = some kO14 := by rw [ht5]; exact gK_n
            have v5 : VC tk t5 (fun i => newS σ.1 t5.1 i ∧ i ≠ s4.1) (d + 2) q v1 := by
              refine VC.fr (S := newS s2.1 t.1) (fun i hi => ?_) (fun i hi => ⟨newS_mono hi (by omega) (by omega), by have := hi.2; omega⟩) _ _ _ vt
              have := hi.1; have := hi.2
              exact (f4.agr (Or.inl (by omega)) (by omega) (by omega)).trans (fs5.2 i (Or.inl (by omega)))
            have go : ∀ b : Bool, (b = true ↔ two = 2) → U_X2_within_68 PA PF mc ms K E (q + 1) (b1 b) (s4.1 + 1) (s4.1 + 1) (0 + (60 * (k1 - (skp B n k + 1)) - 6) + 1) (0 + (4500 * (k1 - (skp B n k + 1)) - 1600) + 3) t5 := by
              intro b hb
              refine cr_w68 (σ0 := σ) (a := v1) (b := b) hS hp g5 (by rw [(fs5.2 9 (Or.inl (by omega))).2.1]; exact ctx_fr ct f4 (by omega)) f5 hcb (by omega) hsz.1 k5 ⟨by omega, by omega⟩ v5 (G := fun w => fun e => if two = 2 then (if v1 e ≤ w e then w e else v1 e) else (if v1 e ≤ w e then v1 e else w e)) (fun w => ?_) (by omega) (by omega) hE hK
              funext e
              by_cases h22 : two = 2
              · rw [if_pos h22, if_pos (hb.mpr h22)]
              · rw [if_neg h22, if_neg (fun z => h22 (hb.mp z))]
            by_cases h22 : two = 2
            · exact bn_f (by rw [h22]; rfl) (go true ⟨fun _ => h22, fun _ => rfl⟩)
            · exact bn_t (fun z => h22 ((nI_eq (b := 2) (by omega) (by omega)).mp z)) (go false ⟨fun z => (by cases z), fun z => absurd z h22⟩)
  · rw [if_neg e] at hE
    exact br_f (fun z => e ((cI_eq (bt_le h.by_) (d := 40) (by omega)).mp z)) (cr_wrong (mc := mc) rfl g.at_ ((hE _ rfl).go f (by omega)))
end CAt
