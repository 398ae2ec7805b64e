/-! PURE SIDE, the model's reader: laws, trials, statements. -/
section TZ
variable {τb τs τ : Sto} {B : Byt} {n k o bs st q : Nat} {C W : List Int32} {I : Isl} {K : Sto → Prop}
theorem CodT.old {τ' : Sto} {w w' cd : Nat} {c c' : List Int32} (hD : TxD τb B n τs τ k w cd c) (hw : w' ≠ w) (h : CodT τs 0 0 cd w' c') : CodT τ 0 0 (cd + c.length) w' c' := by
  obtain ⟨-, -, -, d4, d5, -⟩ := hD
  obtain ⟨a, q1, q2, q3, q4⟩ := h
  rw [Nat.zero_add] at q2 q3
  refine ⟨a, by omega, ?_, ?_, fun i hi => ?_⟩
  · rw [Nat.zero_add, (d4 w' hw).1]; exact q2
  · rw [Nat.zero_add, (d4 w' hw).2]; exact q3
  · have := q4 i hi
    rw [Nat.zero_add] at this ⊢
    rw [d5 _ (by omega)]; exact this
theorem CodT.new {w cd : Nat} {c : List Int32} (hD : TxD τb B n τs τ k w cd c) : CodT τ 0 0 (cd + c.length) w c := by
  obtain ⟨-, -, -, -, -, d6, d7, d8, d9, -⟩ := hD
  exact ⟨cd, Nat.le_refl _, by rw [Nat.zero_add]; exact d7, by rw [Nat.zero_add]; exact d8, fun i hi => by rw [Nat.zero_add]; exact d9 i hi⟩
theorem RI.setT {w cd : Nat} {c : List Int32} {t : TT} (h : RI τb B n τs q I st) (hw : w = 0 ∨ w = 1) (hcd : cd ≤ q) (hl : c.length + q ≤ k) (hd : DnT (kbW w) c t) (hR : IslR τs 0 0 0 0 0 0 cd I) (hD : TxD τb B n τs τ k w cd c) : RI τb B n τ k (iSetT I w t) st := by
  obtain ⟨a1, a2, a3, ⟨b1, b2, b3, b4, b5, b6, b7, b8⟩, -⟩ := h
  obtain ⟨c1, c2, c3, c4, c5, c6, c7⟩ := hR
  have hD' := hD
  obtain ⟨d1, d2, d3, d4, d5, d6, d7, d8, d9, d10, d11⟩ := hD'
  have eT : ∀ j, iT (iSetT I w t) j = if j = w then some t else iT I j := fun j => rfl
  refine ⟨d1, by rw [d10]; exact a2, by rw [d11]; exact a3, ⟨b1, b2, b3, b4, b5, fun j hj => ?_, ?_, b8⟩, cd + c.length, by omega, d6, fun kd hk => ?_, fun kd j hk hj => ?_, fun j hj => ?_, fun j hj => ?_, fun w' hw' h8 h9 => ?_, fun w' t' hw' ht => ?_, fun w' v' hw' hv => ?_⟩
  · rw [eT, if_neg (by omega)]; exact b6 j hj
  · rw [eT, eT, eT, if_neg (by omega), if_neg (by omega), if_neg (by omega)]; exact b7
  · rw [d2 _ _ (by omega)]; exact c1 kd hk
  · rw [d3]; exact c2 kd j hk hj
  · rw [d2 _ _ (by omega)]; exact c3 j hj
  · rw [d2 _ _ (by omega)]; exact c4 j hj
  · rw [eT] at h8
    by_cases e : w' = w
    · rw [if_pos e] at h8; cases h8
    · rw [if_neg e] at h8
      rw [(d4 _ (by omega)).1]; exact c5 w' hw' h8 h9
  · rw [eT] at ht
    by_cases e : w' = w
    · rw [if_pos e] at ht
      cases ht
      subst e
      exact ⟨c, CodT.new hD, hd⟩
    · rw [if_neg e] at ht
      obtain ⟨c', q1, q2⟩ := c6 w' t' hw' ht
      exact ⟨c', CodT.old (τ' := τ) hD e q1, q2⟩
  · have e : w' ≠ w := by
      rintro rfl
      have hv : iV I w' = some v' := hv
      rcases hw with rfl | rfl
      · rw [b8.1] at hv; cases hv
      · rw [b8.2] at hv; cases hv
    obtain ⟨c', q1, q2⟩ := c7 w' v' hw' hv
    exact ⟨c', CodT.old (τ' := τ) hD e q1, q2⟩
theorem RI.setV {w cd : Nat} {c : List Int32} {t : VV} (h : RI τb B n τs q I st) (hw : w = 2 ∨ w = 3 ∨ w = 4) (hcd : cd ≤ q) (hl : c.length + q ≤ k) (hd : DnV (kbW w) c t) (hR : IslR τs 0 0 0 0 0 0 cd I) (hD : TxD τb B n τs τ k w cd c) : RI τb B n τ k (iSetV I w t) st := by
  obtain ⟨a1, a2, a3, ⟨b1, b2, b3, b4, b5, b6, b7, b8⟩, -⟩ := h
  obtain ⟨c1, c2, c3, c4, c5, c6, c7⟩ := hR
  have hD' := hD
  obtain ⟨d1, d2, d3, d4, d5, d6, d7, d8, d9, d10, d11⟩ := hD'
  have eV : ∀ j, iV (iSetV I w t) j = if j = w then some t else iV I j := fun j => rfl
  refine ⟨d1, by rw [d10]; exact a2, by rw [d11]; exact a3, ⟨b1, b2, b3, b4, b5, b6, b7, ?_⟩, cd + c.length, by omega, d6, fun kd hk => ?_, fun kd j hk hj => ?_, fun j hj => ?_, fun j hj => ?_, fun w' hw' h8 h9 => ?_, fun w' t' hw' ht => ?_, fun w' v' hw' hv => ?_⟩
  · rw [eV, eV, if_neg (by omega), if_neg (by omega)]; exact b8
  · rw [d2 _ _ (by omega)]; exact c1 kd hk
  · rw [d3]; exact c2 kd j hk hj
  · rw [d2 _ _ (by omega)]; exact c3 j hj
  · rw [d2 _ _ (by omega)]; exact c4 j hj
  · rw [eV] at h9
    by_cases e : w' = w
    · rw [if_pos e] at h9; cases h9
    · rw [if_neg e] at h9
      rw [(d4 _ (by omega)).1]; exact c5 w' hw' h8 h9
  · have e : w' ≠ w := by
      rintro rfl
      have ht : iT I w' = some t' := ht
      rcases hw with rfl | rfl | rfl
      · rw [b7.1] at ht; cases ht
      · rw [b7.2.1] at ht; cases ht
      · rw [b7.2.2] at ht; cases ht
    obtain ⟨c', q1, q2⟩ := c6 w' t' hw' ht
    exact ⟨c', CodT.old (τ' := τ) hD e q1, q2⟩
  · rw [eV] at hv
    by_cases e : w' = w
    · rw [if_pos e] at hv
      cases hv
      subst e
      exact ⟨c, CodT.new hD, hd⟩
    · rw [if_neg e] at hv
      obtain ⟨c', q1, q2⟩ := c7 w' v' hw' hv
      exact ⟨c', CodT.old (τ' := τ) hD e q1, q2⟩
theorem RI.addTrial {cd : Nat} {c : List Int32} {t : TT} {nm : List Nat} (h : RI τb B n τs q I st) (hc : iC I 2 < 5) (hnm : letW nm) (hcd : cd ≤ q) (hl : c.length + q ≤ k) (hd : DnT 1 c t) (hR : IslR τs 0 0 0 0 0 0 cd I) (hD : TxD τb B n τs τ k (5 + iC I 2) cd c) :
    RI τb B n (sI (sL τ 41 (8 * 2 + iC I 2) (nmL nm)) 40 2 (nI (iC I 2 + 1))) k (iSetT (iAdd I 2 nm) (5 + iC I 2) t) st := by
  obtain ⟨a1, a2, a3, ⟨b1, b2, b3, b4, b5, b6, b7, b8⟩, -⟩ := h
  obtain ⟨c1, c2, c3, c4, c5, c6, c7⟩ := hR
  have hD' := hD
  obtain ⟨d1, d2, d3, d4, d5, d6, d7, d8, d9, d10, d11⟩ := hD'
  have eC : ∀ kd, iC (iSetT (iAdd I 2 nm) (5 + iC I 2) t) kd = if kd = 2 then iC I 2 + 1 else iC I kd := fun kd => rfl
  have eN : ∀ j, iN (iSetT (iAdd I 2 nm) (5 + iC I 2) t) j = if j = 8 * 2 + iC I 2 then nm else iN I j := fun j => rfl
  have eT : ∀ j, iT (iSetT (iAdd I 2 nm) (5 + iC I 2) t) j = if j = 5 + iC I 2 then some t else iT I j := fun j => rfl
  have eX : iX (iSetT (iAdd I 2 nm) (5 + iC I 2) t) = iX I := rfl
  have eV : iV (iSetT (iAdd I 2 nm) (5 + iC I 2) t) = iV I := rfl
  have cod : ∀ w' c', CodT τ 0 0 (cd + c.length) w' c' → CodT (sI (sL τ 41 (8 * 2 + iC I 2) (nmL nm)) 40 2 (nI (iC I 2 + 1))) 0 0 (cd + c.length) w' c' := by
    rintro w' c' ⟨a, q1, q2, q3, q4⟩
    refine ⟨a, q1, ?_, ?_, fun i hi => ?_⟩
    · rw [sI_neI (by omega)]; exact q2
    · rw [sI_neI (by omega)]; exact q3
    · rw [sI_neI (by omega)]; exact q4 i hi
  refine ⟨(d1.l (by omega)).w (by simp [scrI]) (by omega), ?_, ?_, ⟨?_, fun kd j hk hj => ?_, fun t ht => ?_, fun m hm => ?_, b5, fun j hj => ?_, ?_, b8⟩, cd + c.length, by omega, ?_, fun kd hk => ?_, fun kd j hk hj => ?_, fun j hj => ?_, fun j hj => ?_, fun w' hw' h8 h9 => ?_, fun w' t' hw' ht => ?_, fun w' v' hw' hv => ?_⟩
  · rw [sI_neI (by omega)]; show τ.1 0 49 = _; rw [d10]; exact a2
  · rw [sI_neI (by omega)]; show τ.1 0 43 = _; rw [d11]; exact a3
  · rw [eC, eC, eC, if_neg (by omega), if_neg (by omega), if_pos rfl]; omega
  · rw [eC] at hj
    rw [eN]
    by_cases hj2 : 8 * kd + j = 8 * 2 + iC I 2
    · rw [if_pos hj2]; exact hnm
    · rw [if_neg hj2]
      by_cases hk0 : kd = 2
      · subst hk0; rw [if_pos rfl] at hj; exact b2 2 j (by omega) (by omega)
      · rw [if_neg hk0] at hj; exact b2 kd j hk hj
  · rw [eC, if_neg (by omega)] at ht; exact b3 t ht
  · rw [eC, if_neg (by omega)] at hm; exact b4 m hm
  · rw [eC, if_pos rfl] at hj
    rw [eT]
    by_cases e : 5 + j = 5 + iC I 2
    · rw [if_pos e]; rfl
    · rw [if_neg e]; exact b6 j (by omega)
  · rw [eT, eT, eT, if_neg (by omega), if_neg (by omega), if_neg (by omega)]; exact b7
  · rw [sI_neI (by omega)]; exact d6
  · rw [eC]
    have := c1 kd hk
    by_cases hk0 : kd = 2
    · subst hk0; simp [sI_1]
    · rw [if_neg hk0, sI_ne (by omega)]
      show τ.1 40 _ = _
      rw [d2 _ _ (by omega)]; exact this
  · rw [eC] at hj
    rw [eN]
    simp only [sI_2, sL_2, Nat.zero_add, true_and]
    by_cases hj2 : 8 * kd + j = 8 * 2 + iC I 2
    · simp only [hj2]; simp
    · rw [if_neg hj2, if_neg hj2, d3]
      have := c2 kd j hk (by
        by_cases hk0 : kd = 2
        · subst hk0; rw [if_pos rfl] at hj; omega
        · rw [if_neg hk0] at hj; exact hj)
      rw [Nat.zero_add] at this
      exact this
  · rw [eC, if_neg (by omega)] at hj
    rw [sI_neI (by omega)]
    show τ.1 42 _ = _
    rw [d2 _ _ (by omega)]; exact c3 j hj
  · rw [eC, if_neg (by omega)] at hj
    rw [sI_neI (by omega)]
    show τ.1 43 _ = _
    rw [d2 _ _ (by omega)]; exact c4 j hj
  · rw [eT, if_neg (by omega)] at h8
    rw [sI_neI (by omega)]
    show τ.1 46 _ = _
    rw [(d4 _ (by omega)).1]; exact c5 w' hw' h8 h9
  · rw [eC, if_pos rfl] at hw'
    rw [eT] at ht
    by_cases e : w' = 5 + iC I 2
    · rw [if_pos e] at ht
      cases ht
      subst e
      refine ⟨c, cod _ _ (CodT.new hD), ?_⟩
      rw [show kbW (5 + iC I 2) = 1 by unfold kbW; rw [if_neg (by omega), if_neg (by omega)]]
      exact hd
    · rw [if_neg e] at ht
      obtain ⟨c', q1, q2⟩ := c6 w' t' (by omega) ht
      exact ⟨c', cod _ _ (CodT.old (τ' := τ) hD e q1), q2⟩
  · obtain ⟨c', q1, q2⟩ := c7 w' v' hw' hv
    exact ⟨c', cod _ _ (CodT.old (τ' := τ) hD (by omega) q1), q2⟩
theorem codes_test {w tk begun : Nat} {x2 : Int32} (hT : TxT τb B n) (hI : RI τb B n τ q I st) (hw : w = 0 ∨ w = 1) (htk : tk = kbW w) (e2 : x2 = nI begun) (hK : BodK τb B n st q K (pLwT B n I w tk begun q)) : T_codesTold τ (nI w) x2 K := by
  subst e2 htk
  obtain ⟨C, W, o, bs, g, hC⟩ := hI.1.toQ
  obtain ⟨cd, b5, b6, b7⟩ := hI.2.2.2.2
  have hok := hI.2.2.2.1
  have hv0 : iV I w = none := by
    rcases hw with rfl | rfl
    · exact hok.2.2.2.2.2.2.2.1
    · exact hok.2.2.2.2.2.2.2.2
  refine bn_f g.bad ⟨vi_ (by omega) (by omega), ?_⟩
  rw [nI_clamp (by omega)]
  cases ht : iT I w with
  | none =>
    have e46 := b7.2.2.2.2.1 w (by omega) ht hv0
    rw [Nat.zero_add] at e46
    have hun : pLwT B n I w (kbW w) begun q = rsB (pTst B n (kbW w) q) (fun c => .inr (iSetT I w c.1, c.2)) := by unfold pLwT; rw [ht]; rfl
    refine br_t e46 (text_test hT hI (by omega) (by omega) (fun t k' e τs τ' cd c hI' hcd hl hd h48 hR hD => hK.1 _ k' (by rw [hun, e]; rfl) (by omega) _ (hI'.setT hw hcd hl hd hR hD)) (fun kd pl e => ⟨fun τ' g' => (hK.2 kd pl (by rw [hun, e]; rfl)).1 τ' g', fun hkd hpl hpp τs τ' cd c hI' hD => (hK.2 kd pl (by rw [hun, e]; rfl)).2 hkd hpl hpp τ' hD.1⟩))
  | some t =>
    obtain ⟨c, ⟨a, q1, q2, q3, q4⟩, q5⟩ := b7.2.2.2.2.2.1 w t (by omega) ht
    rw [Nat.zero_add] at q2
    have hun : pLwT B n I w (kbW w) begun q = .inl (5, begun) := by unfold pLwT; rw [ht]; rfl
    have hqn := hI.1.2.1
    have hn := hT.1
    refine br_f (fun z => by rw [q2] at z; exact nI_m1 (by omega) z.symm) (T_fail_law g (kd := 5) rfl rfl (by omega) (by omega) fun τ' g' => T_textTold_bad g'.bad ((hK.2 5 begun hun).1 τ' (RFI.ofc hI.1.1 g' hC)))
theorem codes_sum {w tk begun : Nat} {x2 : Int32} (hT : TxT τb B n) (hI : RI τb B n τ q I st) (hw : w = 2 ∨ w = 3 ∨ w = 4) (htk : tk = kbW w) (e2 : x2 = nI begun) (hK : BodK τb B n st q K (pLwV B n I w tk begun q)) : T_codesTold τ (nI w) x2 K := by
  subst e2 htk
  obtain ⟨C, W, o, bs, g, hC⟩ := hI.1.toQ
  obtain ⟨cd, b5, b6, b7⟩ := hI.2.2.2.2
  have hok := hI.2.2.2.1
  have hv0 : iT I w = none := by
    rcases hw with rfl | rfl | rfl
    · exact hok.2.2.2.2.2.2.1.1
    · exact hok.2.2.2.2.2.2.1.2.1
    · exact hok.2.2.2.2.2.2.1.2.2
  refine bn_f g.bad ⟨vi_ (by omega) (by omega), ?_⟩
  rw [nI_clamp (by omega)]
  cases ht : iV I w with
  | none =>
    have e46 := b7.2.2.2.2.1 w (by omega) hv0 ht
    rw [Nat.zero_add] at e46
    have hun : pLwV B n I w (kbW w) begun q = rsB (pVal B n (kbW w) q) (fun c => .inr (iSetV I w c.1, c.2)) := by unfold pLwV; rw [ht]; rfl
    refine br_t e46 (text_sum hT hI hw (fun t k' e τs τ' cd c hI' hcd hl hd h48 hR hD => hK.1 _ k' (by rw [hun, e]; rfl) (by omega) _ (hI'.setV hw hcd hl hd hR hD)) (fun kd pl e τ' g' => (hK.2 kd pl (by rw [hun, e]; rfl)).1 τ' g'))
  | some t =>
    obtain ⟨c, ⟨a, q1, q2, q3, q4⟩, q5⟩ := b7.2.2.2.2.2.2 w t (by omega) ht
    rw [Nat.zero_add] at q2
    have hun : pLwV B n I w (kbW w) begun q = .inl (5, begun) := by unfold pLwV; rw [ht]; rfl
    have hqn := hI.1.2.1
    have hn := hT.1
    refine br_f (fun z => by rw [q2] at z; exact nI_m1 (by omega) z.symm) (T_fail_law g (kd := 5) rfl rfl (by omega) (by omega) fun τ' g' => T_textTold_bad g'.bad ((hK.2 5 begun hun).1 τ' (RFI.ofc hI.1.1 g' hC)))
theorem trial_law (hT : TxT τb B n) (hI : RI τb B n τs k I st) (g : RQ τs B n τ q C W o bs) (hC : C.length ≤ 1602) (hkq : k ≤ q) {begun : Nat} {x1 : Int32} (e : x1 = nI begun) (hK : BodK τb B n st q K (pTri B n I begun q)) : T_trialTold τ x1 K := by
  have hN := hI.nam
  have hTs := hT.fr hI.1.1
  have hcn := hI.2.2.2.1.1
  unfold T_trialTold
  refine T_isFull_law g (kd := 2) (room := 5) rfl rfl e (by omega) (by omega) (hN.1 2 (by omega)) (by omega) (fun hf τ1 g1 => br_f (by decide) ((hK.2 5 begun (by unfold pTri; rw [if_pos hf])).1 _ (RFI.ofc hI.1.1 g1 hC))) (fun hf => br_t rfl ?_)
  have hun : pTri B n I begun q = rsB (pNme B n I q) (fun a => rsB (pWd B n a.2 isWd) (fun b => rsB (pTst B n 1 b) (fun c => .inr (iSetT (iAdd I 2 a.1) (5 + iC I 2) c.1, c.2)))) := by unfold pTri; rw [if_neg hf]
  have fail : ∀ kd pl, pTri B n I begun q = .inl (kd, pl) → ∀ τ', RFc C.length τs τ' kd pl → K τ' := fun kd pl e τ' g' => (hK.2 kd pl e).1 τ' (RFI.ofc hI.1.1 g' hC)
  have hkb : kbW (5 + iC I 2) = 1 := by unfold kbW; rw [if_neg (by omega), if_neg (by omega)]
  refine T_newName_law hTs g hN (fun nm q1 e1 hl τ1 g1 => ?_) (fun kd pl e1 r τ1 g1 => ?_)
  · have r1 := pNme_ge e1
    refine T_asks_law hTs g1 (w := isWd) (by decide) (fun q2 e2 τ2 g2 => ?_) (fun kd pl e2 τ2 g2 => ?_)
    · have r2 := pWd_ge e2
      have hI2 := hI.ofQ g2 (by omega) hC
      refine ⟨vi_ (i := 2) (by omega) (by omega), ?_⟩
      rw [show τ2.1 40 (Int32.toNatClampNeg 2) = nI (iC I 2) from hI2.nam.1 2 (by omega), show (5 : Int32) + nI (iC I 2) = nI (5 + iC I 2) from nI_add 5 _]
      refine text_test hT hI2 (w := 5 + iC I 2) (by omega) (by omega) (fun t k' e τ' τ'' cd c hI' hcd hll hd h48 hR hD => ?_) (fun kd pl e => ?_)
      · rw [hkb] at e hd
        have hb := hD.1.2.2.2.2.1.1
        refine bn_f hb (T_adds_law (kd := 2) (cnt := iC I 2) rfl (by omega) (by rw [hD.2.1 40 2 (by omega)]; exact hI'.nam.1 2 (by omega)) (by omega) ?_)
        exact hK.1 _ k' (by rw [hun, e1]; simp only [rsB]; rw [e2]; simp only [rsB]; rw [e]) (by omega) _ (hI'.addTrial (by omega) hl hcd hll hd hR hD)
      · rw [hkb] at e
        have hr : pTri B n I begun q = .inl (kd, pl) := by rw [hun, e1]; simp only [rsB]; rw [e2]; simp only [rsB]; rw [e]
        refine ⟨fun τ' g' => bn_t g'.2.2.1 ((hK.2 kd pl hr).1 τ' g'), fun hkd hpl hpp τ' τ'' cd c hI' hD => ?_⟩
        have hb := hD.1.2.2.2.2.1.1
        refine bn_f hb (T_adds_law (kd := 2) (cnt := iC I 2) rfl (by omega) (by rw [hD.2.1 40 2 (by omega)]; exact hI'.nam.1 2 (by omega)) (by omega) ?_)
        exact (hK.2 kd pl hr).2 hkd hpl hpp _ ((hD.1.l (by omega)).w (by simp [scrI]) (by omega))
    · refine ⟨vi_ (i := 2) (by omega) (by omega), T_textTold_bad g2.bad (bn_t g2.bad (fail kd pl ?_ _ g2))⟩
      rw [hun, e1]; simp only [rsB]; rw [e2]
  · refine T_asks_bad g1.bad ⟨vi_ (i := 2) (by omega) (by omega), T_textTold_bad g1.bad (bn_t g1.bad (fail kd pl ?_ _ g1))⟩
    rw [hun, e1]; rfl
theorem pMust_gt {c k' : Nat} (e : pMust B n k c = .inr k') : k < k' := by
  unfold pMust at e
  by_cases h : bt B n (skp B n k) = c
  · rw [if_pos h] at e
    have h1 := skp_ge B n k
    have := Sum.inr.inj e
    omega
  · rw [if_neg h] at e; cases e
/-- a statement is told -/
theorem T_statementTold_law (hT : TxT τb B n) (hI : RI τb B n τ k I st) (hsk : skp B n k = k) (hst : st ≤ 80)
    (h1 : st ≠ 80 → ∀ I' k', pStm B n I k = .inr (I', k') → k < k' → ∀ τ', RI τb B n τ' k' I' (st + 1) → K τ') (h0 : st ≠ 80 → ∀ kd pl, pStm B n I k = .inl (kd, pl) → ∀ τ', RFI τb τ' kd pl → K τ') (h80 : st = 80 → ∀ τ', RFI τb τ' 5 k → K τ') : T_statementTold τ K := by
  have hn := hT.1
  obtain ⟨C, W, o, bs, g, hC⟩ := hI.1.toQ
  have hTs := hT.fr hI.1.1
  unfold T_statementTold
  rw [hI.2.1, hI.1.2.2.1]
  by_cases hs : st = 80
  · refine bn_f (by rw [hs]; rfl) (T_fail_law g (kd := 5) rfl rfl (by omega) (by omega) fun τ' g' => h80 hs τ' (RFI.ofc hI.1.1 g' hC))
  refine bn_t (fun z => hs ((nI_eq (b := 80) (by omega) (by omega)).mp z)) ?_
  -- the body, then the sign
  have body : ∀ (w : List Nat), okW B n k = true → wHe B n k = w → BodK τb B n st (wEn B n k) (fun τ' => T_statementTold_197 K τ') (pBod B n I w k (wEn B n k)) := by
    intro w how hwe
    have hun : pStm B n I k = rsB (pBod B n I w k (wEn B n k)) (fun s => rsB (pMust B n s.2 59) (fun k' => .inr (s.1, k'))) := by
      unfold pStm pWord
      rw [hsk, if_pos how]
      unfold wHe at hwe
      rw [hsk] at hwe
      simp only [rsB]
      rw [hwe]
    refine ⟨fun I' k' e hq τ' hI' => stm_197 hT hI' (by omega) (fun k'' e' τ'' hI'' => h1 hs I' k'' (by rw [hun, e]; simp only [rsB]; rw [e']) (by have := pMust_gt e'; have := wEn_ge B n k; omega) τ'' hI'') (fun kd pl e' τ'' g' => h0 hs kd pl (by rw [hun, e]; simp only [rsB]; rw [e']) τ'' g'), fun kd pl e => ⟨fun τ' g' => stm_197_bad g' (fun τ'' g'' => h0 hs kd pl (by rw [hun, e]; rfl) τ'' g''), fun hkd hpl hpp τ' hD => ?_⟩⟩
    subst hkd
    exact stm_197_doom hT hD hpl hpp (fun τ'' g'' => h0 hs 1 pl (by rw [hun, e]; rfl) τ'' g'')
  -- a word is here or not
  have hit : ∀ w, hereW B n k w = true → okW B n k = true ∧ wHe B n k = w := by
    intro w h
    rw [hereW_eq, hsk, Bool.and_eq_true, decide_eq_true_eq] at h
    exact h
  have hge := wEn_ge B n k
  have nb : ∀ w, pBod B n I w k (wEn B n k) = if w = thingWd then pThg B n I k (wEn B n k) else if w = menderWd then pMen B n I k (wEn B n k) else if w = trialWd then pTri B n I k (wEn B n k)
      else if w = standsWd then pLwT B n I 0 1 k (wEn B n k) else if w = fallsWd then pLwT B n I 1 0 k (wEn B n k) else if w = takesWd then pLwV B n I 2 2 k (wEn B n k)
      else if w = fineWd then pLwV B n I 3 2 k (wEn B n k) else if w = firstWd then pLwV B n I 4 0 k (wEn B n k) else if w = catWd then rsB (pNum B n (wEn B n k) 0 100) (fun c => .inr (iSetX I 40 c.1, c.2))
      else .inl (1, k) := fun w => rfl
  have toI : ∀ {τ' : Sto}, RQ τ B n τ' (wEn B n k) C W o bs → RI τb B n τ' (wEn B n k) I st := fun g' => hI.ofQ g' hge hC
  refine T_eats_law hTs g (w := thingWd) (by decide) (fun e0 τ1 g1 => ?_) (fun e0 τ1 g1 => ?_)
  · rw [hsk] at g1
    obtain ⟨how, hwe⟩ := hit _ e0
    exact br_f (by decide) (thing_law hT hI g1 hC hge rfl (by have := body _ how hwe; rw [nb, if_pos rfl] at this; exact this))
  rw [hsk] at g1
  refine br_t rfl (T_eats_law hTs g1 (w := menderWd) (by decide) (fun e1 τ2 g2 => ?_) (fun e1 τ2 g2 => ?_))
  · rw [hsk] at g2
    obtain ⟨how, hwe⟩ := hit _ e1
    exact br_f (by decide) (mender_law hT hI g2 hC hge rfl (by have := body _ how hwe; rw [nb, if_neg (by decide), if_pos rfl] at this; exact this))
  rw [hsk] at g2
  refine br_t rfl (T_eats_law hTs g2 (w := trialWd) (by decide) (fun e2 τ3 g3 => ?_) (fun e2 τ3 g3 => ?_))
  · rw [hsk] at g3
    obtain ⟨how, hwe⟩ := hit _ e2
    exact br_f (by decide) (trial_law hT hI g3 hC hge rfl (by have := body _ how hwe; rw [nb, if_neg (by decide), if_neg (by decide), if_pos rfl] at this; exact this))
  rw [hsk] at g3
  refine br_t rfl (T_eats_law hTs g3 (w := standsWd) (by decide) (fun e3 τ4 g4 => ?_) (fun e3 τ4 g4 => ?_))
  · rw [hsk] at g4
    obtain ⟨how, hwe⟩ := hit _ e3
    exact br_f (by decide) (codes_test (w := 0) (tk := 1) hT (toI g4) (by omega) (by decide) rfl (by have := body _ how hwe; rw [nb, if_neg (by decide), if_neg (by decide), if_neg (by decide), if_pos rfl] at this; exact this))
  rw [hsk] at g4
  refine br_t rfl (T_eats_law hTs g4 (w := fallsWd) (by decide) (fun e4 τ5 g5 => ?_) (fun e4 τ5 g5 => ?_))
  · rw [hsk] at g5
    obtain ⟨how, hwe⟩ := hit _ e4
    exact br_f (by decide) (codes_test (w := 1) (tk := 0) hT (toI g5) (by omega) (by decide) rfl (by have := body _ how hwe; rw [nb, if_neg (by decide), if_neg (by decide), if_neg (by decide), if_neg (by decide), if_pos rfl] at this; exact this))
  rw [hsk] at g5
  refine br_t rfl (T_eats_law hTs g5 (w := takesWd) (by decide) (fun e5 τ6 g6 => ?_) (fun e5 τ6 g6 => ?_))
  · rw [hsk] at g6
    obtain ⟨how, hwe⟩ := hit _ e5
    exact br_f (by decide) (codes_sum (w := 2) (tk := 2) hT (toI g6) (by omega) (by decide) rfl (by have := body _ how hwe; rw [nb, if_neg (by decide), if_neg (by decide), if_neg (by decide), if_neg (by decide), if_neg (by decide), if_pos rfl] at this; exact this))
  rw [hsk] at g6
  refine br_t rfl (T_eats_law hTs g6 (w := fineWd) (by decide) (fun e6 τ7 g7 => ?_) (fun e6 τ7 g7 => ?_))
  · rw [hsk] at g7
    obtain ⟨how, hwe⟩ := hit _ e6
    exact br_f (by decide) (codes_sum (w := 3) (tk := 2) hT (toI g7) (by omega) (by decide) rfl (by have := body _ how hwe; rw [nb, if_neg (by decide), if_neg (by decide), if_neg (by decide), if_neg (by decide), if_neg (by decide), if_neg (by decide), if_pos rfl] at this; exact this))
  rw [hsk] at g7
  refine br_t rfl (T_eats_law hTs g7 (w := firstWd) (by decide) (fun e7 τ8 g8 => ?_) (fun e7 τ8 g8 => ?_))
  · rw [hsk] at g8
    obtain ⟨how, hwe⟩ := hit _ e7
    exact br_f (by decide) (codes_sum (w := 4) (tk := 0) hT (toI g8) (by omega) (by decide) rfl (by have := body _ how hwe; rw [nb, if_neg (by decide), if_neg (by decide), if_neg (by decide), if_neg (by decide), if_neg (by decide), if_neg (by decide), if_neg (by decide), if_pos rfl] at this; exact this))
  rw [hsk] at g8
  refine br_t rfl (T_asks_law hTs g8 (w := catWd) (by decide) (fun q e8 τ9 g9 => ?_) (fun kd pl e8 τ9 g9 => ?_))
  · -- the cat
    unfold pWd at e8
    by_cases hc : hereW B n k catWd = true
    · rw [if_pos hc] at e8
      have e8 := Sum.inr.inj e8
      rw [hsk] at e8
      subst e8
      obtain ⟨how, hwe⟩ := hit _ hc
      have hB := body _ how hwe
      rw [nb, if_neg (by decide), if_neg (by decide), if_neg (by decide), if_neg (by decide), if_neg (by decide), if_neg (by decide), if_neg (by decide), if_neg (by decide), if_pos rfl] at hB
      refine T_number_law hTs g9 (lo := 0) (hi := 100) rfl rfl (by omega) (by omega) (fun v q' e9 τ10 g10 => st_ ?_) (fun kd pl e9 r τ10 g10 => st_ ?_)
      · have hr := pNum_range e9
        have hI2 := hI.ofQ g10 (by omega) hC
        refine hB.1 (iSetX I 40 v) q' (by rw [e9]; rfl) (by omega) _ ?_
        obtain ⟨a1, a2, a3, ⟨b1, b2, b3, b4, b5, b6, b7, b8⟩, cd, a5, a6, c1, c2, c3, c4, c5, c6, c7⟩ := hI2
        have eX : ∀ j, iX (iSetX I 40 v) j = if j = 40 then v else iX I j := fun j => rfl
        have cod : ∀ w' c', CodT τ10 0 0 cd w' c' → CodT (sI τ10 0 43 (nI v)) 0 0 cd w' c' := by
          rintro w' c' ⟨a, q1, q2, q3, q4⟩
          refine ⟨a, q1, ?_, ?_, fun i hi => ?_⟩
          · rw [sI_neI (by omega)]; exact q2
          · rw [sI_neI (by omega)]; exact q3
          · rw [sI_neI (by omega)]; exact q4 i hi
        refine ⟨a1.w (by simp [scrI]) (by omega), ?_, ?_, ⟨b1, b2, fun t ht => ?_, fun m hm => ?_, ?_, b6, b7, b8⟩, cd, a5, ?_, fun kd hk => ?_, c2, fun j hj => ?_, fun j hj => ?_, fun w' hw' h8 h9 => ?_, fun w' t' hw' ht => ?_, fun w' v' hw' hv => ?_⟩
        · rw [sI_ne (by omega)]; exact a2
        · rw [sI_same, eX, if_pos rfl]
        · have ht : t < iC I 0 := ht
          rw [eX, eX, eX, if_neg (by omega), if_neg (by omega), if_neg (by omega)]; exact b3 t ht
        · have hm : m < iC I 1 := hm
          rw [eX, eX, if_neg (by omega), if_neg (by omega)]; exact b4 m hm
        · rw [eX, if_pos rfl]; omega
        · rw [sI_ne (by omega)]; exact a6
        · rw [sI_neI (by omega)]; exact c1 kd hk
        · have hj : j < 3 * iC I 0 := hj
          rw [sI_neI (by omega), eX, if_neg (by omega)]; exact c3 j hj
        · have hj : j < 2 * iC I 1 := hj
          rw [sI_neI (by omega), eX, if_neg (by omega)]; exact c4 j hj
        · rw [sI_neI (by omega)]; exact c5 w' hw' h8 h9
        · obtain ⟨c', q1, q2⟩ := c6 w' t' hw' ht
          exact ⟨c', cod _ _ q1, q2⟩
        · obtain ⟨c', q1, q2⟩ := c7 w' v' hw' hv
          exact ⟨c', cod _ _ q1, q2⟩
      · exact (hB.2 kd pl (by rw [e9]; rfl)).1 _ ((RFI.ofc hI.1.1 g10 hC).w (by simp))
    · rw [if_neg hc] at e8; cases e8
  · -- no word that opens a statement
    have hr : pStm B n I k = .inl (kd, pl) := by
      unfold pWd at e8
      by_cases hc : hereW B n k catWd = true
      · rw [if_pos hc] at e8; cases e8
      · rw [if_neg hc] at e8
        obtain ⟨rfl, rfl⟩ := Prod.mk.inj (Sum.inl.inj e8)
        unfold pStm pWord
        by_cases how : okW B n (skp B n k) = true
        · rw [if_pos how]
          have no : ∀ w, hereW B n k w = false → wHe B n k ≠ w := by
            intro w h z
            rw [hereW_eq, how, z] at h
            simp at h
          show rsB (pBod B n I (wHe B n k) (skp B n k) (wEn B n (skp B n k))) _ = _
          unfold pBod
          rw [if_neg (no _ e0), if_neg (no _ e1), if_neg (no _ e2), if_neg (no _ e3), if_neg (no _ e4), if_neg (no _ e5), if_neg (no _ e6), if_neg (no _ e7), if_neg (no _ (by simpa using hc))]
          rfl
        · rw [if_neg how]; rfl
    refine T_number_bad g9.bad (st_ (stm_197_bad ((RFI.ofc hI.1.1 g9 hC).w (by simp)) fun τ' g' => h0 hs kd pl hr τ' g'))
end TZ
