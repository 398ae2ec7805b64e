/-! PURE SIDE, the model's reader: things, menders. -/
section TM
variable {τb τs τ : Sto} {B : Byt} {n k o bs st q : Nat} {C W : List Int32} {I : Isl} {K : Sto → Prop}
theorem pNum_range {v q' lo hi : Nat} (e : pNum B n k lo hi = .inr (v, q')) : lo ≤ v ∧ v ≤ hi ∧ k ≤ q' := by
  obtain ⟨h1, h2, h3⟩ := pNum_digit e
  have hs := skp_ge B n k
  refine ⟨?_, h2, by omega⟩
  unfold pNum at e
  dsimp only at e
  by_cases hd : (pD (bt B n (skp B n k)) && !(pA B (skp B n k))) = true
  · rw [if_pos hd] at e
    by_cases h4 : 4 < dEn B n (skp B n k) - skp B n k
    · rw [if_pos h4] at e; cases e
    · rw [if_neg h4] at e
      by_cases hr : lo ≤ dV B (skp B n k) (dEn B n (skp B n k) - skp B n k) ∧ dV B (skp B n k) (dEn B n (skp B n k) - skp B n k) ≤ hi
      · rw [if_pos hr] at e
        obtain ⟨rfl, rfl⟩ := Prod.mk.inj (Sum.inr.inj e)
        exact hr.1
      · rw [if_neg hr] at e; cases e
  · rw [if_neg hd] at e; cases e
theorem pWd_ge {w : List Nat} {q' : Nat} (e : pWd B n k w = .inr q') : k ≤ q' := by
  unfold pWd at e
  by_cases h : hereW B n k w = true
  · rw [if_pos h] at e
    have := Sum.inr.inj e
    have h1 := skp_ge B n k
    have h2 := wEn_ge B n (skp B n k)
    omega
  · rw [if_neg h] at e; cases e
theorem pKN_range {w : List Nat} {v q' lo hi : Nat} (e : pKN B n k w lo hi = .inr (v, q')) : lo ≤ v ∧ v ≤ hi ∧ k ≤ q' := by
  unfold pKN at e
  cases e1 : pWd B n k w with
  | inl x => rw [e1] at e; cases e
  | inr q1 =>
    rw [e1] at e
    have e : pNum B n q1 lo hi = .inr (v, q') := e
    have h1 := pWd_ge e1
    obtain ⟨a, b, c⟩ := pNum_range e
    exact ⟨a, b, by omega⟩
theorem pNme_ge {nm : List Nat} {q' : Nat} (e : pNme B n I k = .inr (nm, q')) : k ≤ q' := by
  unfold pNme pWord at e
  by_cases how : okW B n (skp B n k) = true
  · rw [if_pos how] at e
    simp only [rsB] at e
    have h1 := skp_ge B n k
    have h2 := wEn_ge B n (skp B n k)
    split at e
    · cases e
    · split at e
      · cases e
      · split at e
        · cases e
        · obtain ⟨-, rfl⟩ := Prod.mk.inj (Sum.inr.inj e)
          omega
  · rw [if_neg how] at e; cases e
theorem kn_law {K : Int32 → Sto → Prop} (hT : TxT τs B n) (g : RQ τs B n τ q C W o bs) {id : Nat} {w : List Nat} (hp : (id, w) ∈ wTab) {lo hi : Nat} {x1 x2 : Int32} (e1 : x1 = nI lo) (e2 : x2 = nI hi) (hlo : lo < 10 ^ 9) (hhi : hi < 10 ^ 9)
    (h1 : ∀ v q', pKN B n q w lo hi = .inr (v, q') → ∀ τ', RQ τs B n τ' q' C W o bs → K (nI v) τ') (h0 : ∀ kd pl, pKN B n q w lo hi = .inl (kd, pl) → ∀ r τ', RFc C.length τs τ' kd pl → K r τ') : T_asks τ id (fun τ1 => T_number τ1 x1 x2 K) := by
  refine T_asks_law hT g hp (fun q1 e τ1 g1 => ?_) (fun kd pl e τ1 g1 => T_number_bad g1.bad (h0 kd pl (by unfold pKN; rw [e]; rfl) _ τ1 g1))
  exact T_number_law hT g1 e1 e2 hlo hhi (fun v q' e' τ2 g2 => h1 v q' (by unfold pKN; rw [e]; exact e') τ2 g2) (fun kd pl e' r τ2 g2 => h0 kd pl (by unfold pKN; rw [e]; exact e') r τ2 g2)
theorem RI.addThing (h : RI τb B n τ k I st) (hc : iC I 0 < 8) {nm : List Nat} (hl : letW nm) {w u f : Nat} (hw : w ≤ 99) (hu : u ≤ 99) (hf : f ≤ 9) :
    RI τb B n (sI (sI (sI (sI (sL τ 41 (8 * 0 + iC I 0) (nmL nm)) 40 0 (nI (iC I 0 + 1))) 42 (3 * iC I 0) (nI w)) 42 (3 * iC I 0 + 1) (nI u)) 42 (3 * iC I 0 + 2) (nI f)) k
      (iSetX (iSetX (iSetX (iAdd I 0 nm) (3 * iC I 0) w) (3 * iC I 0 + 1) u) (3 * iC I 0 + 2) f) st := by
  obtain ⟨a1, a2, a3, ⟨b1, b2, b3, b4, b5, b6, b7, b8⟩, cd, a5, a6, c1, c2, c3, c4, c5, c6, c7⟩ := h
  have eC : ∀ kd, iC (iSetX (iSetX (iSetX (iAdd I 0 nm) (3 * iC I 0) w) (3 * iC I 0 + 1) u) (3 * iC I 0 + 2) f) kd = if kd = 0 then iC I 0 + 1 else iC I kd := fun kd => rfl
  have eN : ∀ j, iN (iSetX (iSetX (iSetX (iAdd I 0 nm) (3 * iC I 0) w) (3 * iC I 0 + 1) u) (3 * iC I 0 + 2) f) j = if j = 8 * 0 + iC I 0 then nm else iN I j := fun j => rfl
  have eX : ∀ j, iX (iSetX (iSetX (iSetX (iAdd I 0 nm) (3 * iC I 0) w) (3 * iC I 0 + 1) u) (3 * iC I 0 + 2) f) j = if j = 3 * iC I 0 + 2 then f else if j = 3 * iC I 0 + 1 then u else if j = 3 * iC I 0 then w else iX I j := fun j => rfl
  have eT : iT (iSetX (iSetX (iSetX (iAdd I 0 nm) (3 * iC I 0) w) (3 * iC I 0 + 1) u) (3 * iC I 0 + 2) f) = iT I := rfl
  have eV : iV (iSetX (iSetX (iSetX (iAdd I 0 nm) (3 * iC I 0) w) (3 * iC I 0 + 1) u) (3 * iC I 0 + 2) f) = iV I := rfl
  refine ⟨((((a1.l (by omega)).w (by simp [scrI]) (by omega)).w (by simp [scrI]; omega) (by omega)).w (by simp [scrI]; omega) (by omega)).w (by simp [scrI]; omega) (by omega), ?_, ?_, ⟨?_, ?_, ?_, ?_, ?_, ?_, ?_, ?_⟩, cd, a5, ?_, ?_, ?_, ?_, ?_, ?_, ?_, ?_⟩
  · simp only [sI_1, sL_1]; simpa using a2
  · rw [eX, if_neg (by omega), if_neg (by omega), if_neg (by omega)]; simp only [sI_1, sL_1]; simpa using a3
  · rw [eC, eC, eC, if_pos rfl, if_neg (by omega), if_neg (by omega)]; omega
  · intro kd j hk hj
    rw [eC] at hj
    rw [eN]
    by_cases hj2 : 8 * kd + j = 8 * 0 + iC I 0
    · rw [if_pos hj2]; exact hl
    · rw [if_neg hj2]
      by_cases hk0 : kd = 0
      · subst hk0; rw [if_pos rfl] at hj; exact b2 0 j (by omega) (by omega)
      · rw [if_neg hk0] at hj; exact b2 kd j hk hj
  · intro t ht
    rw [eC, if_pos rfl] at ht
    rw [eX, eX, eX]
    by_cases htc : t = iC I 0
    · subst htc
      rw [if_neg (by omega), if_neg (by omega), if_pos rfl, if_neg (by omega), if_pos rfl, if_pos rfl]
      exact ⟨hw, hu, hf⟩
    · rw [if_neg (by omega), if_neg (by omega), if_neg (by omega), if_neg (by omega), if_neg (by omega), if_neg (by omega), if_neg (by omega), if_neg (by omega), if_neg (by omega)]
      exact b3 t (by omega)
  · intro m hm
    rw [eC, if_neg (by omega)] at hm
    rw [eX, eX, if_neg (by omega), if_neg (by omega), if_neg (by omega), if_neg (by omega), if_neg (by omega), if_neg (by omega)]
    exact b4 m hm
  · rw [eX, if_neg (by omega), if_neg (by omega), if_neg (by omega)]; exact b5
  · intro j hj; rw [eT]; exact b6 j hj
  · rw [eT]; exact b7
  · rw [eV]; exact b8
  · simp only [sI_1, sL_1]; simpa using a6
  · intro kd hk
    rw [eC]
    have := c1 kd hk
    by_cases hk0 : kd = 0
    · subst hk0; simp [sI_1]
    · rw [if_neg hk0]; simp only [sI_1, sL_1]; simpa [hk0] using this
  · intro kd j hk hj
    rw [eC] at hj
    rw [eN]
    simp only [sI_2, sL_2, Nat.zero_add, true_and]
    by_cases hj2 : 8 * kd + j = 8 * 0 + iC I 0
    · simp only [hj2]; simp
    · have hne : ¬ (8 * kd + j = 8 * 0 + iC I 0) := hj2
      rw [if_neg (by omega), if_neg hne]
      have := c2 kd j hk (by
        by_cases hk0 : kd = 0
        · subst hk0; rw [if_pos rfl] at hj; omega
        · rw [if_neg hk0] at hj; exact hj)
      rw [Nat.zero_add] at this
      exact this
  · intro j hj
    rw [eC, if_pos rfl] at hj
    rw [eX]
    simp only [sI_1, sL_1, Nat.zero_add, true_and]
    by_cases j2 : j = 3 * iC I 0 + 2
    · simp [j2]
    · rw [if_neg j2, if_neg j2]
      by_cases j1 : j = 3 * iC I 0 + 1
      · simp [j1]
      · rw [if_neg j1, if_neg j1]
        by_cases j0 : j = 3 * iC I 0
        · simp [j0]
        · rw [if_neg j0, if_neg j0, if_neg (by omega)]
          have := c3 j (by omega)
          rw [Nat.zero_add] at this; exact this
  · intro j hj
    rw [eC, if_neg (by omega)] at hj
    rw [eX, if_neg (by omega), if_neg (by omega), if_neg (by omega)]
    have := c4 j hj
    simp only [sI_1, sL_1]; simpa using this
  · intro w' hw' h8 h9
    have := c5 w' hw' h8 h9
    simp only [sI_1, sL_1]; simpa using this
  · intro w' t hw' ht
    obtain ⟨c, ⟨a, q1, q2, q3, q4⟩, q5⟩ := c6 w' t hw' ht
    refine ⟨c, ⟨a, q1, ?_, ?_, fun i hi => ?_⟩, q5⟩
    · simp only [sI_1, sL_1]; simpa using q2
    · simp only [sI_1, sL_1]; simpa using q3
    · have := q4 i hi
      simp only [sI_1, sL_1]; simpa using this
  · intro w' t hw' ht
    obtain ⟨c, ⟨a, q1, q2, q3, q4⟩, q5⟩ := c7 w' t hw' ht
    refine ⟨c, ⟨a, q1, ?_, ?_, fun i hi => ?_⟩, q5⟩
    · simp only [sI_1, sL_1]; simpa using q2
    · simp only [sI_1, sL_1]; simpa using q3
    · have := q4 i hi
      simp only [sI_1, sL_1]; simpa using this
theorem thing_law (hT : TxT τb B n) (hI : RI τb B n τs k I st) (g : RQ τs B n τ q C W o bs) (hC : C.length ≤ 1602) (hkq : k ≤ q) {begun : Nat} {x1 : Int32} (e : x1 = nI begun) (hK : BodK τb B n st q K (pThg B n I begun q)) : T_thingTold τ x1 K := by
  have hN := hI.nam
  have hTs := hT.fr hI.1.1
  have hcn := hI.2.2.2.1.1
  unfold T_thingTold
  refine T_isFull_law g (kd := 0) (room := 8) rfl rfl e (by omega) (by omega) (hN.1 0 (by omega)) (by omega) (fun hf τ1 g1 => br_f (by decide) ((hK.2 5 begun (by unfold pThg; rw [if_pos hf])).1 _ (RFI.ofc hI.1.1 g1 hC))) (fun hf => br_t rfl ?_)
  have hun : pThg B n I begun q = rsB (pNme B n I q) (fun a => rsB (pKN B n a.2 worthWd 0 99) (fun b => rsB (pKN B n b.2 useWd 0 99) (fun c => rsB (pKN B n c.2 frailWd 0 9) (fun d =>
    .inr (iSetX (iSetX (iSetX (iAdd I 0 a.1) (3 * iC I 0) b.1) (3 * iC I 0 + 1) c.1) (3 * iC I 0 + 2) d.1, d.2))))) := by unfold pThg; rw [if_neg hf]
  have fail : ∀ kd pl, pThg B n I begun q = .inl (kd, pl) → ∀ τ', RFc C.length τs τ' kd pl → K τ' := fun kd pl e τ' g' => (hK.2 kd pl e).1 τ' (RFI.ofc hI.1.1 g' hC)
  refine T_newName_law hTs g hN (fun nm q1 e1 hl τ1 g1 => ?_) (fun kd pl e1 r τ1 g1 => ?_)
  · have r1 := pNme_ge e1
    refine kn_law hTs g1 (w := worthWd) (by decide) (lo := 0) (hi := 99) rfl rfl (by omega) (by omega) (fun v2 q2 e2 τ2 g2 => ?_) (fun kd pl e2 r τ2 g2 => ?_)
    · have r2 := pKN_range e2
      refine kn_law hTs g2 (w := useWd) (by decide) (lo := 0) (hi := 99) rfl rfl (by omega) (by omega) (fun v3 q3 e3 τ3 g3 => ?_) (fun kd pl e3 r τ3 g3 => ?_)
      · have r3 := pKN_range e3
        refine kn_law hTs g3 (w := frailWd) (by decide) (lo := 0) (hi := 9) rfl rfl (by omega) (by omega) (fun v4 q4 e4 τ4 g4 => ?_) (fun kd pl e4 r τ4 g4 => ?_)
        · have r4 := pKN_range e4
          have hI4 := hI.ofQ g4 (by omega) hC
          refine br_t g4.bad (T_adds_law (kd := 0) (cnt := iC I 0) rfl (by omega) (hI4.nam.1 0 (by omega)) (by omega) ?_)
          rw [show (3 : Int32) * nI (iC I 0) = nI (3 * iC I 0) by show nI 3 * _ = _; rw [nI_mul], show nI (3 * iC I 0) + (1 : Int32) = nI (3 * iC I 0 + 1) from nI_add _ 1, show nI (3 * iC I 0) + (2 : Int32) = nI (3 * iC I 0 + 2) from nI_add _ 2, nI_clamp (by omega), nI_clamp (by omega), nI_clamp (by omega)]
          refine ⟨vi_ (by omega) (by omega), st_ ⟨vi_ (by omega) (by omega), st_ ⟨vi_ (by omega) (by omega), st_ ?_⟩⟩⟩
          refine hK.1 _ q4 ?_ (by omega) _ (hI4.addThing (by omega) hl r2.2.1 r3.2.1 r4.2.1)
          rw [hun, e1]; simp only [rsB]; rw [e2]; simp only [rsB]; rw [e3]; simp only [rsB]; rw [e4]
        · refine br_f g4.bad (fail kd pl ?_ _ g4)
          rw [hun, e1]; simp only [rsB]; rw [e2]; simp only [rsB]; rw [e3]; simp only [rsB]; rw [e4]
      · refine T_asks_bad g3.bad (T_number_bad g3.bad (br_f g3.bad (fail kd pl ?_ _ g3)))
        rw [hun, e1]; simp only [rsB]; rw [e2]; simp only [rsB]; rw [e3]
    · refine T_asks_bad g2.bad (T_number_bad g2.bad (T_asks_bad g2.bad (T_number_bad g2.bad (br_f g2.bad (fail kd pl ?_ _ g2)))))
      rw [hun, e1]; simp only [rsB]; rw [e2]
  · refine T_asks_bad g1.bad (T_number_bad g1.bad (T_asks_bad g1.bad (T_number_bad g1.bad (T_asks_bad g1.bad (T_number_bad g1.bad (br_f g1.bad (fail kd pl ?_ _ g1)))))))
    rw [hun, e1]; rfl
theorem RI.addMender (h : RI τb B n τ k I st) (hc : iC I 1 < 4) {nm : List Nat} (hl : letW nm) {w u : Nat} (hw : w ≤ 9) (hu : 1 ≤ u ∧ u ≤ 24) :
    RI τb B n (sI (sI (sI (sL τ 41 (8 * 1 + iC I 1) (nmL nm)) 40 1 (nI (iC I 1 + 1))) 43 (2 * iC I 1) (nI w)) 43 (2 * iC I 1 + 1) (nI u)) k
      (iSetX (iSetX (iAdd I 1 nm) (24 + 2 * iC I 1) w) (24 + 2 * iC I 1 + 1) u) st := by
  obtain ⟨a1, a2, a3, ⟨b1, b2, b3, b4, b5, b6, b7, b8⟩, cd, a5, a6, c1, c2, c3, c4, c5, c6, c7⟩ := h
  have eC : ∀ kd, iC (iSetX (iSetX (iAdd I 1 nm) (24 + 2 * iC I 1) w) (24 + 2 * iC I 1 + 1) u) kd = if kd = 1 then iC I 1 + 1 else iC I kd := fun kd => rfl
  have eN : ∀ j, iN (iSetX (iSetX (iAdd I 1 nm) (24 + 2 * iC I 1) w) (24 + 2 * iC I 1 + 1) u) j = if j = 8 * 1 + iC I 1 then nm else iN I j := fun j => rfl
  have eX : ∀ j, iX (iSetX (iSetX (iAdd I 1 nm) (24 + 2 * iC I 1) w) (24 + 2 * iC I 1 + 1) u) j = if j = 24 + 2 * iC I 1 + 1 then u else if j = 24 + 2 * iC I 1 then w else iX I j := fun j => rfl
  have eT : iT (iSetX (iSetX (iAdd I 1 nm) (24 + 2 * iC I 1) w) (24 + 2 * iC I 1 + 1) u) = iT I := rfl
  have eV : iV (iSetX (iSetX (iAdd I 1 nm) (24 + 2 * iC I 1) w) (24 + 2 * iC I 1 + 1) u) = iV I := rfl
  refine ⟨(((a1.l (by omega)).w (by simp [scrI]) (by omega)).w (by simp [scrI]; omega) (by omega)).w (by simp [scrI]; omega) (by omega), ?_, ?_, ⟨?_, ?_, ?_, ?_, ?_, ?_, ?_, ?_⟩, cd, a5, ?_, ?_, ?_, ?_, ?_, ?_, ?_, ?_⟩
  · simp only [sI_1, sL_1]; simpa using a2
  · rw [eX, if_neg (by omega), if_neg (by omega)]; simp only [sI_1, sL_1]; simpa using a3
  · rw [eC, eC, eC, if_pos rfl, if_neg (by omega), if_neg (by omega)]; omega
  · intro kd j hk hj
    rw [eC] at hj
    rw [eN]
    by_cases hj2 : 8 * kd + j = 8 * 1 + iC I 1
    · rw [if_pos hj2]; exact hl
    · rw [if_neg hj2]
      by_cases hk0 : kd = 1
      · subst hk0; rw [if_pos rfl] at hj; exact b2 1 j (by omega) (by omega)
      · rw [if_neg hk0] at hj; exact b2 kd j hk hj
  · intro t ht
    rw [eC, if_neg (by omega)] at ht
    rw [eX, eX, eX, if_neg (by omega), if_neg (by omega), if_neg (by omega), if_neg (by omega), if_neg (by omega), if_neg (by omega)]
    exact b3 t (by omega)
  · intro m hm
    rw [eC, if_pos rfl] at hm
    rw [eX, eX]
    by_cases hmc : m = iC I 1
    · subst hmc
      rw [if_neg (by omega), if_pos rfl, if_pos rfl]
      exact ⟨hw, hu⟩
    · rw [if_neg (by omega), if_neg (by omega), if_neg (by omega), if_neg (by omega)]
      exact b4 m (by omega)
  · rw [eX, if_neg (by omega), if_neg (by omega)]; exact b5
  · intro j hj; rw [eT]; exact b6 j hj
  · rw [eT]; exact b7
  · rw [eV]; exact b8
  · simp only [sI_1, sL_1]; simpa using a6
  · intro kd hk
    rw [eC]
    have := c1 kd hk
    by_cases hk0 : kd = 1
    · subst hk0; simp [sI_1]
    · rw [if_neg hk0]; simp only [sI_1, sL_1]; simpa [hk0] using this
  · intro kd j hk hj
    rw [eC] at hj
    rw [eN]
    simp only [sI_2, sL_2, Nat.zero_add, true_and]
    by_cases hj2 : 8 * kd + j = 8 * 1 + iC I 1
    · simp only [hj2]; simp
    · rw [if_neg hj2, if_neg hj2]
      have := c2 kd j hk (by
        by_cases hk0 : kd = 1
        · subst hk0; rw [if_pos rfl] at hj; omega
        · rw [if_neg hk0] at hj; exact hj)
      rw [Nat.zero_add] at this
      exact this
  · intro j hj
    rw [eC, if_neg (by omega)] at hj
    rw [eX, if_neg (by omega), if_neg (by omega)]
    have := c3 j hj
    simp only [sI_1, sL_1]; simpa using this
  · intro j hj
    rw [eC, if_pos rfl] at hj
    rw [eX]
    simp only [sI_1, sL_1, Nat.zero_add, true_and]
    by_cases j1 : j = 2 * iC I 1 + 1
    · rw [if_pos j1, if_pos (show 24 + j = 24 + 2 * iC I 1 + 1 by omega)]
    · rw [if_neg j1, if_neg (show ¬ 24 + j = 24 + 2 * iC I 1 + 1 by omega)]
      by_cases j0 : j = 2 * iC I 1
      · rw [if_pos j0, if_pos (show 24 + j = 24 + 2 * iC I 1 by omega)]
      · rw [if_neg j0, if_neg (show ¬ 24 + j = 24 + 2 * iC I 1 by omega), if_neg (by omega)]
        have := c4 j (by omega)
        rw [Nat.zero_add] at this; exact this
  · intro w' hw' h8 h9
    have := c5 w' hw' h8 h9
    simp only [sI_1, sL_1]; simpa using this
  · intro w' t hw' ht
    obtain ⟨c, ⟨a, q1, q2, q3, q4⟩, q5⟩ := c6 w' t hw' ht
    refine ⟨c, ⟨a, q1, ?_, ?_, fun i hi => ?_⟩, q5⟩
    · simp only [sI_1, sL_1]; simpa using q2
    · simp only [sI_1, sL_1]; simpa using q3
    · have := q4 i hi
      simp only [sI_1, sL_1]; simpa using this
  · intro w' t hw' ht
    obtain ⟨c, ⟨a, q1, q2, q3, q4⟩, q5⟩ := c7 w' t hw' ht
    refine ⟨c, ⟨a, q1, ?_, ?_, fun i hi => ?_⟩, q5⟩
    · simp only [sI_1, sL_1]; simpa using q2
    · simp only [sI_1, sL_1]; simpa using q3
    · have := q4 i hi
      simp only [sI_1, sL_1]; simpa using this
theorem mender_law (hT : TxT τb B n) (hI : RI τb B n τs k I st) (g : RQ τs B n τ q C W o bs) (hC : C.length ≤ 1602) (hkq : k ≤ q) {begun : Nat} {x1 : Int32} (e : x1 = nI begun) (hK : BodK τb B n st q K (pMen B n I begun q)) : T_menderTold τ x1 K := by
  have hN := hI.nam
  have hTs := hT.fr hI.1.1
  have hcn := hI.2.2.2.1.1
  unfold T_menderTold
  refine T_isFull_law g (kd := 1) (room := 4) rfl rfl e (by omega) (by omega) (hN.1 1 (by omega)) (by omega) (fun hf τ1 g1 => br_f (by decide) ((hK.2 5 begun (by unfold pMen; rw [if_pos hf])).1 _ (RFI.ofc hI.1.1 g1 hC))) (fun hf => br_t rfl ?_)
  have hun : pMen B n I begun q = rsB (pNme B n I q) (fun a => rsB (pKN B n a.2 skillWd 0 9) (fun b => rsB (pKN B n b.2 hoursWd 1 24) (fun c =>
    .inr (iSetX (iSetX (iAdd I 1 a.1) (24 + 2 * iC I 1) b.1) (24 + 2 * iC I 1 + 1) c.1, c.2)))) := by unfold pMen; rw [if_neg hf]
  have fail : ∀ kd pl, pMen B n I begun q = .inl (kd, pl) → ∀ τ', RFc C.length τs τ' kd pl → K τ' := fun kd pl e τ' g' => (hK.2 kd pl e).1 τ' (RFI.ofc hI.1.1 g' hC)
  refine T_newName_law hTs g hN (fun nm q1 e1 hl τ1 g1 => ?_) (fun kd pl e1 r τ1 g1 => ?_)
  · have r1 := pNme_ge e1
    refine kn_law hTs g1 (w := skillWd) (by decide) (lo := 0) (hi := 9) rfl rfl (by omega) (by omega) (fun v2 q2 e2 τ2 g2 => ?_) (fun kd pl e2 r τ2 g2 => ?_)
    · have r2 := pKN_range e2
      refine kn_law hTs g2 (w := hoursWd) (by decide) (lo := 1) (hi := 24) rfl rfl (by omega) (by omega) (fun v3 q3 e3 τ3 g3 => ?_) (fun kd pl e3 r τ3 g3 => ?_)
      · have r3 := pKN_range e3
        have hI4 := hI.ofQ g3 (by omega) hC
        refine br_t g3.bad (T_adds_law (kd := 1) (cnt := iC I 1) rfl (by omega) (hI4.nam.1 1 (by omega)) (by omega) ?_)
        rw [show (2 : Int32) * nI (iC I 1) = nI (2 * iC I 1) by show nI 2 * _ = _; rw [nI_mul], show nI (2 * iC I 1) + (1 : Int32) = nI (2 * iC I 1 + 1) from nI_add _ 1, nI_clamp (by omega), nI_clamp (by omega)]
        refine ⟨vi_ (by omega) (by omega), st_ ⟨vi_ (by omega) (by omega), st_ ?_⟩⟩
        refine hK.1 _ q3 ?_ (by omega) _ (hI4.addMender (by omega) hl r2.2.1 ⟨r3.1, r3.2.1⟩)
        rw [hun, e1]; simp only [rsB]; rw [e2]; simp only [rsB]; rw [e3]
      · refine br_f g3.bad (fail kd pl ?_ _ g3)
        rw [hun, e1]; simp only [rsB]; rw [e2]; simp only [rsB]; rw [e3]
    · refine T_asks_bad g2.bad (T_number_bad g2.bad (br_f g2.bad (fail kd pl ?_ _ g2)))
      rw [hun, e1]; simp only [rsB]; rw [e2]
  · refine T_asks_bad g1.bad (T_number_bad g1.bad (T_asks_bad g1.bad (T_number_bad g1.bad (br_f g1.bad (fail kd pl ?_ _ g1)))))
    rw [hun, e1]; rfl
end TM
