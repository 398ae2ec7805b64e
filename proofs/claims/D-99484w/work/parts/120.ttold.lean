/-! PURE SIDE, the model's reader: what is told lies in the store; texts. -/
theorem fu_same {α : Type} (f : Nat → α) (a : Nat) (v : α) : fu_ f a v a = v := by simp [fu_]
theorem fu_ne {α : Type} {f : Nat → α} {a i : Nat} {v : α} (h : i ≠ a) : fu_ f a v i = f i := by simp [fu_, h]
def kbW (w : Nat) : Nat := if w = 1 ∨ w = 4 then 0 else if w = 2 ∨ w = 3 then 2 else 1
def CodT (τ : Sto) (fo off cd w : Nat) (c : List Int32) : Prop := ∃ a : Nat, a + c.length ≤ cd ∧ τ.1 46 (fo + w) = nI a ∧ τ.1 47 (fo + w) = nI (a + c.length) ∧ ∀ i, i < c.length → τ.1 48 (off + (a + i)) = c.getD i 0
/-- an island in the store: counts, names, things, menders, where codes are, codes, from these places on -/
def IslR (τ : Sto) (co no to mo fo off cd : Nat) (I : Isl) : Prop :=
  (∀ kd, kd < 3 → τ.1 40 (co + kd) = nI (iC I kd)) ∧
  (∀ kd j, kd < 3 → j < iC I kd → τ.2.1 41 (no + (8 * kd + j)) = nmL (iN I (8 * kd + j))) ∧
  (∀ j, j < 3 * iC I 0 → τ.1 42 (to + j) = nI (iX I j)) ∧
  (∀ j, j < 2 * iC I 1 → τ.1 43 (mo + j) = nI (iX I (24 + j))) ∧
  (∀ w, w < 5 → iT I w = none → iV I w = none → τ.1 46 (fo + w) = -1) ∧
  (∀ w t, w < 5 + iC I 2 → iT I w = some t → ∃ c, CodT τ fo off cd w c ∧ DnT (kbW w) c t) ∧
  (∀ w v, w < 5 → iV I w = some v → ∃ c, CodT τ fo off cd w c ∧ DnV (kbW w) c v)
def IslOK (I : Isl) : Prop :=
  (iC I 0 ≤ 8 ∧ iC I 1 ≤ 4 ∧ iC I 2 ≤ 5) ∧ (∀ kd j, kd < 3 → j < iC I kd → letW (iN I (8 * kd + j))) ∧
  (∀ t, t < iC I 0 → iX I (3 * t) ≤ 99 ∧ iX I (3 * t + 1) ≤ 99 ∧ iX I (3 * t + 2) ≤ 9) ∧
  (∀ m, m < iC I 1 → iX I (24 + 2 * m) ≤ 9 ∧ 1 ≤ iX I (24 + 2 * m + 1) ∧ iX I (24 + 2 * m + 1) ≤ 24) ∧ iX I 40 ≤ 100 ∧
  (∀ j, j < iC I 2 → (iT I (5 + j)).isSome = true) ∧ (iT I 2 = none ∧ iT I 3 = none ∧ iT I 4 = none) ∧ iV I 0 = none ∧ iV I 1 = none
def scrI (i j : Nat) : Prop := (i = 0 ∧ (j = 2 ∨ j = 4 ∨ j = 5 ∨ j = 6 ∨ j = 38 ∨ j = 43 ∨ j = 48 ∨ j = 49 ∨ j = 50 ∨ j = 92 ∨ j = 94 ∨ j = 95 ∨ j = 96)) ∨ i = 92 ∨ i = 94 ∨ (i = 40 ∧ j < 3) ∨ (i = 42 ∧ j < 24) ∨ (i = 43 ∧ j < 8) ∨ (i = 46 ∧ j < 10) ∨ (i = 47 ∧ j < 10) ∨ (i = 48 ∧ j < 1600)
def FrI (τb τ : Sto) : Prop := (∀ i j, ¬ scrI i j → τ.1 i j = τb.1 i j) ∧ ∀ i j, ¬ (i = 41 ∧ j < 24) → τ.2.1 i j = τb.2.1 i j
def RD (τb : Sto) (B : Byt) (n : Nat) (τ : Sto) (k : Nat) : Prop := FrI τb τ ∧ k ≤ n ∧ τ.1 0 2 = nI k ∧ EnO B n k (τ.1 0 4) ∧ (τ.1 0 5 = 0 ∧ τ.1 0 6 = -1) ∧ ∃ c, c ≤ 1602 ∧ τ.1 0 92 = nI c
def RFI (τb τ : Sto) (kd pl : Nat) : Prop := FrI τb τ ∧ τ.1 0 5 = nI kd ∧ ¬ τ.1 0 5 = 0 ∧ τ.1 0 6 = nI pl ∧ ∃ c, c ≤ 1602 ∧ τ.1 0 92 = nI c
def RI (τb : Sto) (B : Byt) (n : Nat) (τ : Sto) (k : Nat) (I : Isl) (st : Nat) : Prop :=
  RD τb B n τ k ∧ τ.1 0 49 = nI st ∧ τ.1 0 43 = nI (iX I 40) ∧ IslOK I ∧ ∃ cd, cd ≤ k ∧ τ.1 0 48 = nI cd ∧ IslR τ 0 0 0 0 0 0 cd I
theorem scrQ_I {i j : Nat} (h : scrQ i j) : scrI i j := by
  unfold scrQ at h; unfold scrI
  rcases h with ⟨h, h'⟩ | h | h
  · left; exact ⟨h, by omega⟩
  · exact Or.inr (Or.inl h)
  · exact Or.inr (Or.inr (Or.inl h))
theorem FrI.q {τb τ τ' : Sto} (h : FrI τb τ) (h' : FrQ τ τ') : FrI τb τ' := by
  refine ⟨fun i j hij => ?_, fun i j hij => ?_⟩
  · rw [h'.1 i j (fun z => hij (scrQ_I z))]; exact h.1 i j hij
  · rw [h'.2]; exact h.2 i j hij
theorem FrI.w {τb τ : Sto} (h : FrI τb τ) {i j : Nat} {v : Int32} (hs : scrI i j) : FrI τb (sI τ i j v) := by
  refine ⟨fun a b hab => ?_, h.2⟩
  rw [sI_1, if_neg]
  · exact h.1 a b hab
  · rintro ⟨rfl, rfl⟩; exact hab hs
theorem FrI.l {τb τ : Sto} (h : FrI τb τ) {j : Nat} {v : Int64} (hs : j < 24) : FrI τb (sL τ 41 j v) := by
  refine ⟨fun a b hab => by rw [sL_1]; exact h.1 a b hab, fun a b hab => ?_⟩
  rw [sL_2, if_neg]
  · exact h.2 a b hab
  · rintro ⟨rfl, rfl⟩; exact hab ⟨rfl, hs⟩
theorem FrI.refl (τ : Sto) : FrI τ τ := ⟨fun _ _ _ => rfl, fun _ _ _ => rfl⟩
theorem FrQ.refl (τ : Sto) : FrQ τ τ := ⟨fun _ _ _ => rfl, rfl⟩
theorem nI_any (x : Int32) : ∃ w, x = nI w := by
  refine ⟨x.toBitVec.toNat, ?_⟩
  apply Int32.toBitVec_inj.1
  show x.toBitVec = BitVec.ofNat 32 x.toBitVec.toNat
  simp
theorem TxT.fr {τb τ : Sto} {B : Byt} {n : Nat} (hT : TxT τb B n) (h : FrI τb τ) : TxT τ B n := by
  obtain ⟨h1, h2, h3, h4, h5⟩ := hT
  refine ⟨h1, ?_, fun i hi => ?_, h4, fun p hp i hi => ?_⟩
  · rw [h.1 0 3 (by simp [scrI])]; exact h2
  · rw [h.1 1 i (by simp [scrI])]; exact h3 i hi
  · rw [h.1 p.1 i]
    · exact h5 p hp i hi
    · have : ∀ p, p ∈ wTab → p.1 ≠ 0 ∧ p.1 ≠ 92 ∧ p.1 ≠ 94 ∧ p.1 ≠ 40 ∧ p.1 ≠ 42 ∧ p.1 ≠ 43 ∧ p.1 ≠ 46 ∧ p.1 ≠ 47 ∧ p.1 ≠ 48 := by decide
      have := this p hp
      simp [scrI, this]
section TD
variable {τb τs τ : Sto} {B : Byt} {n k o bs st : Nat} {C W : List Int32} {I : Isl}
/-- any state that reads is a reader's state -/
theorem RD.toQ (h : RD τb B n τ k) : ∃ (C W : List Int32) (o bs : Nat), RQ τ B n τ k C W o bs ∧ C.length ≤ 1602 := by
  obtain ⟨h1, h2, h3, h4, h5, c, h6, h7⟩ := h
  obtain ⟨w, hw⟩ := nI_any (τ.1 0 94)
  obtain ⟨o, ho⟩ := nI_any (τ.1 0 95)
  obtain ⟨bs, hbs⟩ := nI_any (τ.1 0 96)
  refine ⟨(List.range c).map (τ.1 92), ((List.range w).map (τ.1 94)).reverse, o, bs, ⟨FrQ.refl τ, h2, h3, h4, ⟨h5.1, rfl⟩, ⟨?_, ?_⟩, ⟨?_, ?_⟩, ho, hbs⟩, by simpa using h6⟩
  · simpa using h7
  · intro i hi
    simp only [List.length_map, List.length_range] at hi
    simp [List.getD_eq_getElem?_getD, hi]
  · simpa using hw
  · intro i hi
    simp only [List.length_reverse, List.length_map, List.length_range] at hi
    simp [List.getD_eq_getElem?_getD, hi]
theorem RD.ofQ (hs : FrI τb τs) (h6 : τs.1 0 6 = -1) (h : RQ τs B n τ k C W o bs) (hc : C.length ≤ 1602) : RD τb B n τ k := ⟨hs.q h.fr, h.kn, h.at_, h.en, ⟨h.bad, by rw [h.bp]; exact h6⟩, C.length, hc, h.cl⟩
theorem RFI.ofc {z kd pl : Nat} (hs : FrI τb τs) (h : RFc z τs τ kd pl) (hz : z ≤ 1602) : RFI τb τ kd pl := by
  obtain ⟨h1, h2, h3, h4, c, h5, h6⟩ := h
  exact ⟨hs.q h1, h2, h3, h4, c, by omega, h6⟩
theorem RFI.w {kd pl j : Nat} {v : Int32} (h : RFI τb τ kd pl) (hj : j = 43 ∨ j = 49) : RFI τb (sI τ 0 j v) kd pl := by
  obtain ⟨h1, h2, h3, h4, c, h5, h6⟩ := h
  refine ⟨h1.w (by rcases hj with rfl | rfl <;> simp [scrI]), ?_, ?_, ?_, c, h5, ?_⟩
  all_goals rw [sI_ne (by rcases hj with rfl | rfl <;> simp)]
  · exact h2
  · exact h3
  · exact h4
  · exact h6
theorem RD.w {i j : Nat} {v : Int32} (h : RD τb B n τ k) (hs : scrI i j) (hj : i ≠ 0 ∨ j = 43 ∨ j = 48 ∨ j = 49 ∨ j = 50) : RD τb B n (sI τ i j v) k := by
  obtain ⟨h1, h2, h3, h4, h5, c, h6, h7⟩ := h
  refine ⟨h1.w hs, h2, ?_, ?_, ⟨?_, ?_⟩, c, h6, ?_⟩
  all_goals rw [sI_ne (by rintro ⟨rfl, rfl⟩; omega)]
  · exact h3
  · exact h4
  · exact h5.1
  · exact h5.2
  · exact h7
theorem RD.l {j : Nat} {v : Int64} (h : RD τb B n τ k) (hs : j < 24) : RD τb B n (sL τ 41 j v) k := by
  obtain ⟨h1, h2, h3, h4, h5, c, h6, h7⟩ := h
  exact ⟨h1.l hs, h2, h3, h4, h5, c, h6, h7⟩
/-- the same island in another store -/
theorem IslR.congr {τ τ' : Sto} {co no to mo fo off cd : Nat} (h : IslR τ co no to mo fo off cd I) (e : ∀ i j, i = 40 ∨ i = 42 ∨ i = 43 ∨ i = 46 ∨ i = 47 ∨ i = 48 → τ'.1 i j = τ.1 i j) (e2 : ∀ j, τ'.2.1 41 j = τ.2.1 41 j) : IslR τ' co no to mo fo off cd I := by
  obtain ⟨h1, h2, h3, h4, h5, h6, h7⟩ := h
  have hcod : ∀ w c, CodT τ fo off cd w c → CodT τ' fo off cd w c := by
    rintro w c ⟨a, q1, q2, q3, q4⟩
    exact ⟨a, q1, by rw [e _ _ (by omega)]; exact q2, by rw [e _ _ (by omega)]; exact q3, fun i hi => by rw [e _ _ (by omega)]; exact q4 i hi⟩
  refine ⟨fun kd hk => by rw [e _ _ (by omega)]; exact h1 kd hk, fun kd j hk hj => by rw [e2]; exact h2 kd j hk hj, fun j hj => by rw [e _ _ (by omega)]; exact h3 j hj, fun j hj => by rw [e _ _ (by omega)]; exact h4 j hj, fun w hw h8 h9 => by rw [e _ _ (by omega)]; exact h5 w hw h8 h9, fun w t hw ht => ?_, fun w v hw hv => ?_⟩
  · obtain ⟨c, q1, q2⟩ := h6 w t hw ht
    exact ⟨c, hcod w c q1, q2⟩
  · obtain ⟨c, q1, q2⟩ := h7 w v hw hv
    exact ⟨c, hcod w c q1, q2⟩
/-- reading on leaves what is told -/
theorem RI.ofQ (h : RI τb B n τs k I st) {k' : Nat} (g : RQ τs B n τ k' C W o bs) (hk : k ≤ k') (hc : C.length ≤ 1602) : RI τb B n τ k' I st := by
  obtain ⟨h1, h2, h3, h4, cd, h5, h6, h7⟩ := h
  refine ⟨RD.ofQ h1.1 h1.2.2.2.2.1.2 g hc, ?_, ?_, h4, cd, by omega, ?_, ?_⟩
  · rw [g.fr.1 0 49 (by simp [scrQ])]; exact h2
  · rw [g.fr.1 0 43 (by simp [scrQ])]; exact h3
  · rw [g.fr.1 0 48 (by simp [scrQ])]; exact h6
  · exact h7.congr (fun i j hi => g.fr.1 i j (by unfold scrQ; omega)) (fun j => by rw [g.fr.2])
theorem RI.nam (h : RI τb B n τs k I st) : NamT τs I := by
  obtain ⟨h1, h2, h3, h4, cd, h5, h6, h7⟩ := h
  refine ⟨fun kd hk => ?_, fun kd hk => ?_, fun kd j hk hj => ⟨?_, h4.2.1 kd j hk hj⟩⟩
  · have := h7.1 kd hk
    rw [Nat.zero_add] at this; exact this
  · have := h4.1
    have : kd = 0 ∨ kd = 1 ∨ kd = 2 := by omega
    rcases this with rfl | rfl | rfl <;> omega
  · have := h7.2.1 kd j hk hj
    rw [Nat.zero_add] at this; exact this
/-- what the statement's end does -/
theorem stm_197 {K : Sto → Prop} (hT : TxT τb B n) (h : RI τb B n τ k I st) (hst : st < 1000)
    (h1 : ∀ k', pMust B n k 59 = .inr k' → ∀ τ', RI τb B n τ' k' I (st + 1) → K τ') (h0 : ∀ kd pl, pMust B n k 59 = .inl (kd, pl) → ∀ τ', RFI τb τ' kd pl → K τ') : T_statementTold_197 K τ := by
  obtain ⟨C, W, o, bs, g, hC⟩ := h.1.toQ
  refine T_asksSign_law (hT.fr h.1.1) g (c := 59) rfl (by omega) (by decide) (by decide) (fun q e τ1 g1 => st_ ?_) (fun kd pl e τ1 g1 => st_ (h0 kd pl e _ ((RFI.ofc h.1.1 g1 hC).w (by simp))))
  have hq : k ≤ q := by
    unfold pMust at e
    by_cases hh : bt B n (skp B n k) = 59
    · rw [if_pos hh] at e
      have := skp_ge B n k
      have := Sum.inr.inj e
      omega
    · rw [if_neg hh] at e; cases e
  have h2 := h.ofQ g1 hq hC
  obtain ⟨a1, a2, a3, a4, cd, a5, a6, a7⟩ := h2
  rw [a2, nI_1]
  refine h1 q e _ ⟨a1.w (by simp [scrI]) (by omega), sI_same .., ?_, a4, cd, a5, ?_, ?_⟩
  · rw [sI_ne (by simp)]; exact a3
  · rw [sI_ne (by simp)]; exact a6
  · exact a7.congr (fun i j hi => sI_ne (by omega)) (fun j => rfl)
theorem stm_197_bad {K : Sto → Prop} {kd pl : Nat} (h : RFI τb τ kd pl) (hk : ∀ τ', RFI τb τ' kd pl → K τ') : T_statementTold_197 K τ := T_asksSign_bad h.2.2.1 (st_ (hk _ (h.w (by simp))))
theorem stm_197_doom {K : Sto → Prop} {pl : Nat} (hT : TxT τb B n) (h : RD τb B n τ pl) (hl : pL (bt B n pl) = true) (hs : skp B n pl = pl) (hk : ∀ τ', RFI τb τ' 1 pl → K τ') : T_statementTold_197 K τ := by
  obtain ⟨C, W, o, bs, g, hC⟩ := h.toQ
  have hne : bt B n pl ≠ 59 := by intro z; rw [z] at hl; exact absurd hl (by decide)
  refine T_asksSign_law (hT.fr h.1) g (c := 59) rfl (by omega) (by decide) (by decide) (fun q e => ?_) (fun kd pl' e τ1 g1 => ?_)
  · unfold pMust at e; rw [hs, if_neg hne] at e; cases e
  · unfold pMust at e; rw [hs, if_neg hne] at e
    obtain ⟨rfl, rfl⟩ := Prod.mk.inj (Sum.inl.inj e)
    exact st_ (hk _ ((RFI.ofc h.1 g1 hC).w (by simp)))
/-- what a statement's body comes to -/
def BodK (τb : Sto) (B : Byt) (n st q : Nat) (K : Sto → Prop) (r : Rs (Isl × Nat)) : Prop :=
  (∀ I' k', r = .inr (I', k') → q ≤ k' → ∀ τ', RI τb B n τ' k' I' st → K τ') ∧ (∀ kd pl, r = .inl (kd, pl) → (∀ τ', RFI τb τ' kd pl → K τ') ∧ (kd = 1 → pL (bt B n pl) = true → skp B n pl = pl → ∀ τ', RD τb B n τ' pl → K τ'))
end TD
