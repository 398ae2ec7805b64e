/-! PURE SIDE, the model's reader: texts told. -/
section TX
variable {τb τs τ : Sto} {B : Byt} {n k o bs st q : Nat} {C W : List Int32} {I : Isl} {K : Sto → Prop}
theorem T_kindBy_law {KI : Int32 → Sto → Prop} {w : Nat} (hw : w < 10) (hk : KI (nI (kbW w)) τ) : T_kindBy τ (nI w) KI := by
  have h : w = 0 ∨ w = 1 ∨ w = 2 ∨ w = 3 ∨ w = 4 ∨ w = 5 ∨ w = 6 ∨ w = 7 ∨ w = 8 ∨ w = 9 := by omega
  unfold T_kindBy
  rcases h with rfl | rfl | rfl | rfl | rfl | rfl | rfl | rfl | rfl | rfl <;> repeat (first | exact hk | refine br_t (by decide) ?_ | refine br_f (by decide) ?_ | refine bn_t (by decide) ?_ | refine bn_f (by decide) ?_)
/-- a text has been told as number w: its codes c lie behind the others -/
def TxD (τb : Sto) (B : Byt) (n : Nat) (τs τ : Sto) (k w cd : Nat) (c : List Int32) : Prop :=
  RD τb B n τ k ∧ (∀ i j, i = 40 ∨ i = 42 ∨ i = 43 → τ.1 i j = τs.1 i j) ∧ (∀ j, τ.2.1 41 j = τs.2.1 41 j) ∧ (∀ j, j ≠ w → τ.1 46 j = τs.1 46 j ∧ τ.1 47 j = τs.1 47 j) ∧ (∀ j, j < cd → τ.1 48 j = τs.1 48 j) ∧
  τ.1 0 48 = nI (cd + c.length) ∧ τ.1 46 w = nI cd ∧ τ.1 47 w = nI (cd + c.length) ∧ (∀ i, i < c.length → τ.1 48 (cd + i) = c.getD i 0) ∧ τ.1 0 49 = τs.1 0 49 ∧ τ.1 0 43 = τs.1 0 43
theorem text_80 {w cd : Nat} {c : List Int32} {τq : Sto} {k' : Nat} (hw : w < 10) (hcd : cd + c.length ≤ 1600) (hg : FrI τb τq) (h6 : τq.1 0 6 = -1) (g : RQ τq B n τ k' c [] o bs) (h48 : τq.1 0 48 = nI cd)
    (hk : ∀ τ', TxD τb B n τq τ' k' w cd c → K τ') : T_textTold_60 K (nI w) τ := by
  unfold T_textTold_60
  refine br_t g.bad ⟨vi_ (by omega) (by omega), st_ ⟨c.length + 1, ?_⟩⟩
  rw [nI_clamp (by omega), g.fr.1 0 48 (by simp [scrQ]), h48]
  have hD : RD τb B n τ k' := RD.ofQ hg h6 g (by omega)
  have lp : ∀ (d f i : Nat) (τ' : Sto), c.length - i = d → d < f → i ≤ c.length → RD τb B n τ' k' → (∀ a b, a = 40 ∨ a = 42 ∨ a = 43 → τ'.1 a b = τq.1 a b) → (∀ j, τ'.2.1 41 j = τq.2.1 41 j) → (∀ j, j ≠ w → τ'.1 46 j = τq.1 46 j ∧ τ'.1 47 j = τq.1 47 j) → (∀ j, j < cd → τ'.1 48 j = τq.1 48 j) → τ'.1 0 48 = nI (cd + i) → τ'.1 46 w = nI cd → (∀ j, j < i → τ'.1 48 (cd + j) = c.getD j 0) → τ'.1 0 49 = τq.1 0 49 → τ'.1 0 43 = τq.1 0 43 → τ'.1 0 92 = nI c.length → (∀ j, τ'.1 92 j = τ.1 92 j) → T_textTold_80 K (nI w) f (nI i) τ' := by
    intro d
    induction d with
    | zero =>
      intro f i τ' hd hf hi r1 r2 r3 r4 r5 r6 r7 r8 r9 r10 r11 r12
      obtain ⟨f, rfl⟩ : ∃ f', f = f' + 1 := ⟨f - 1, by omega⟩
      obtain rfl : i = c.length := by omega
      unfold T_textTold_80
      rw [r11, nI_clamp (by omega)]
      refine br_t (nI_le (Nat.le_refl _) (by omega)) ⟨vi_ (by omega) (by omega), st_ (hk _ ?_)⟩
      rw [r6]
      refine ⟨r1.w (by simp [scrI]; omega) (by omega), fun a b hab => ?_, r3, fun j hj => ?_, fun j hj => ?_, ?_, ?_, sI_same .., fun j hj => ?_, ?_, ?_⟩
      · rw [sI_neI (by omega)]; exact r2 a b hab
      · rw [sI_neI (by omega), sI_ne (by omega)]; exact r4 j hj
      · rw [sI_neI (by omega)]; exact r5 j hj
      · rw [sI_neI (by omega)]; exact r6
      · rw [sI_neI (by omega)]; exact r7
      · rw [sI_neI (by omega)]; exact r8 j hj
      · rw [sI_neI (by omega)]; exact r9
      · rw [sI_neI (by omega)]; exact r10
    | succ d ih =>
      intro f i τ' hd hf hi r1 r2 r3 r4 r5 r6 r7 r8 r9 r10 r11 r12
      obtain ⟨f, rfl⟩ : ∃ f', f = f' + 1 := ⟨f - 1, by omega⟩
      unfold T_textTold_80
      rw [r11]
      refine br_f (nI_ge (by omega) (by omega)) ⟨vi_ (by omega) (by omega), by rw [r6]; exact vi_ (by omega) (by omega), st_ (st_ ?_)⟩
      rw [r6, nI_clamp (by omega), nI_clamp (by omega), sI_neI (by omega), r6, nI_1, nI_1, r12 i, g.cc i (by omega)]
      have rd : RD τb B n (sI (sI τ' 48 (cd + i) (c.getD i 0)) 0 48 (nI (cd + i + 1))) k' := (r1.w (i := 48) (by simp [scrI]; omega) (by omega)).w (by simp [scrI]) (by omega)
      refine ih f (i + 1) _ (by omega) (by omega) (by omega) rd (fun a b hab => ?_) r3 (fun j hj => ?_) (fun j hj => ?_) (sI_same ..) ?_ (fun j hj => ?_) ?_ ?_ ?_ (fun j => ?_)
      · rw [sI_neI (by omega), sI_neI (by omega)]; exact r2 a b hab
      · rw [sI_neI (by omega), sI_neI (by omega), sI_neI (by omega), sI_neI (by omega)]; exact r4 j hj
      · rw [sI_neI (by omega), sI_ne (by omega)]; exact r5 j hj
      · rw [sI_neI (by omega), sI_neI (by omega)]; exact r7
      · rw [sI_neI (by omega)]
        by_cases e : j = i
        · subst e; rw [sI_same]
        · rw [sI_ne (by omega)]; exact r8 j (by omega)
      · rw [sI_ne (by omega), sI_neI (by omega)]; exact r9
      · rw [sI_ne (by omega), sI_neI (by omega)]; exact r10
      · rw [sI_ne (by omega), sI_neI (by omega)]; exact r11
      · rw [sI_neI (by omega), sI_neI (by omega)]; exact r12 j
  refine lp c.length _ 0 _ (by omega) (by omega) (by omega) (hD.w (by simp [scrI]; omega) (by omega)) (fun a b hab => ?_) (fun j => ?_) (fun j hj => ?_) (fun j hj => ?_) ?_ (sI_same ..) (fun j hj => absurd hj (by omega)) ?_ ?_ ?_ (fun j => ?_)
  · rw [sI_neI (by omega)]; exact g.fr.1 a b (by unfold scrQ; omega)
  · show τ.2.1 41 j = _; rw [g.fr.2]
  · rw [sI_ne (by omega), sI_neI (by omega)]; exact ⟨g.fr.1 46 j (by simp [scrQ]), g.fr.1 47 j (by simp [scrQ])⟩
  · rw [sI_neI (by omega)]; exact g.fr.1 48 j (by simp [scrQ])
  · rw [sI_neI (by omega), g.fr.1 0 48 (by simp [scrQ])]; exact h48
  · rw [sI_neI (by omega)]; exact g.fr.1 0 49 (by simp [scrQ])
  · rw [sI_neI (by omega)]; exact g.fr.1 0 43 (by simp [scrQ])
  · rw [sI_neI (by omega)]; exact g.cl
  · rw [sI_neI (by omega)]
/-- the reader begins a text -/
theorem RI.begins (h : RI τb B n τ k I st) (tk : Nat) : RI τb B n (sI (sI (sI (sI (sI τ 0 50 (nI tk)) 0 92 0) 0 94 0) 0 95 0) 0 96 0) k I st ∧ RQ (sI (sI (sI (sI (sI τ 0 50 (nI tk)) 0 92 0) 0 94 0) 0 95 0) 0 96 0) B n (sI (sI (sI (sI (sI τ 0 50 (nI tk)) 0 92 0) 0 94 0) 0 95 0) 0 96 0) k [] [] 0 0 := by
  obtain ⟨⟨h1, h2, h3, h4, h5, c, h6, h7⟩, a2, a3, a4, cd, a5, a6, a7⟩ := h
  have e0 : ∀ j, j ≠ 50 → j ≠ 92 → j ≠ 94 → j ≠ 95 → j ≠ 96 → (sI (sI (sI (sI (sI τ 0 50 (nI tk)) 0 92 0) 0 94 0) 0 95 0) 0 96 0).1 0 j = τ.1 0 j := fun j g1 g2 g3 g4 g5 => by
    rw [sI_ne (by omega), sI_ne (by omega), sI_ne (by omega), sI_ne (by omega), sI_ne (by omega)]
  have e1 : ∀ i j, i ≠ 0 → (sI (sI (sI (sI (sI τ 0 50 (nI tk)) 0 92 0) 0 94 0) 0 95 0) 0 96 0).1 i j = τ.1 i j := fun i j hi => by
    rw [sI_neI hi, sI_neI hi, sI_neI hi, sI_neI hi, sI_neI hi]
  have e92 : (sI (sI (sI (sI (sI τ 0 50 (nI tk)) 0 92 0) 0 94 0) 0 95 0) 0 96 0).1 0 92 = 0 := by
    rw [sI_ne (by omega), sI_ne (by omega), sI_ne (by omega), sI_same]
  refine ⟨⟨⟨((((h1.w (by simp [scrI])).w (by simp [scrI])).w (by simp [scrI])).w (by simp [scrI])).w (by simp [scrI]), h2, ?_, ?_, ⟨?_, ?_⟩, 0, by omega, e92⟩, ?_, ?_, a4, cd, a5, ?_, ?_⟩, FrQ.refl _, h2, ?_, ?_, ⟨?_, rfl⟩, ⟨e92, fun i hi => by cases hi⟩, ⟨?_, fun i hi => by cases hi⟩, ?_, sI_same ..⟩
  · rw [e0 2 (by omega) (by omega) (by omega) (by omega) (by omega)]; exact h3
  · rw [e0 4 (by omega) (by omega) (by omega) (by omega) (by omega)]; exact h4
  · rw [e0 5 (by omega) (by omega) (by omega) (by omega) (by omega)]; exact h5.1
  · rw [e0 6 (by omega) (by omega) (by omega) (by omega) (by omega)]; exact h5.2
  · rw [e0 49 (by omega) (by omega) (by omega) (by omega) (by omega)]; exact a2
  · rw [e0 43 (by omega) (by omega) (by omega) (by omega) (by omega)]; exact a3
  · rw [e0 48 (by omega) (by omega) (by omega) (by omega) (by omega)]; exact a6
  · exact a7.congr (fun i j hi => e1 i j (by omega)) (fun j => rfl)
  · rw [e0 2 (by omega) (by omega) (by omega) (by omega) (by omega)]; exact h3
  · rw [e0 4 (by omega) (by omega) (by omega) (by omega) (by omega)]; exact h4
  · rw [e0 5 (by omega) (by omega) (by omega) (by omega) (by omega)]; exact h5.1
  · rw [sI_ne (by omega), sI_ne (by omega), sI_same]; rfl
  · rw [sI_ne (by omega), sI_same]; rfl
theorem T_textTold_bad {x1 : Int32} (h : ¬ τ.1 0 5 = 0) (hk : K τ) : T_textTold τ x1 K := br_f h hk
/-- a test is told as number w -/
theorem text_test {w : Nat} (hT : TxT τb B n) (hI : RI τb B n τ q I st) (hw : w < 10) (hwt : w ≠ 2 ∧ w ≠ 3 ∧ w ≠ 4)
    (h1 : ∀ t k', pTst B n (kbW w) q = .inr (t, k') → ∀ τs τ' cd c, RI τb B n τs q I st → cd ≤ q → c.length + q ≤ k' → DnT (kbW w) c t → τs.1 0 48 = nI cd → IslR τs 0 0 0 0 0 0 cd I → TxD τb B n τs τ' k' w cd c → K τ')
    (h0 : ∀ kd pl, pTst B n (kbW w) q = .inl (kd, pl) → (∀ τ', RFI τb τ' kd pl → K τ') ∧ (kd = 1 → pL (bt B n pl) = true → skp B n pl = pl → ∀ τs τ' cd c, RI τb B n τs q I st → TxD τb B n τs τ' pl w cd c → K τ')) : T_textTold τ (nI w) K := by
  have hn := hT.1
  have hqn := hI.1.2.1
  refine br_t hI.1.2.2.2.2.1.1 (T_kindBy_law hw (st_ (st_ (st_ (st_ (st_ ?_))))))
  obtain ⟨hI2, g⟩ := hI.begins (kbW w)
  have h50 : (sI (sI (sI (sI (sI τ 0 50 (nI (kbW w))) 0 92 0) 0 94 0) 0 95 0) 0 96 0).1 0 50 = nI (kbW w) := by
    rw [sI_ne (by omega), sI_ne (by omega), sI_ne (by omega), sI_ne (by omega), sI_same]
  generalize (sI (sI (sI (sI (sI τ 0 50 (nI (kbW w))) 0 92 0) 0 94 0) 0 95 0) 0 96 0) = τq at hI2 g h50 ⊢
  have hTq := hT.fr hI2.1.1
  obtain ⟨cd, b5, b6, b7⟩ := hI2.2.2.2.2
  have hkb : kbW w < 4 := by unfold kbW; split <;> (try split) <;> omega
  have main : T_qTest τq (fun τ12 => T_textTold_60 K (nI w) τ12) := by
    refine T_qTest_law (m := 12) (z0 := q) (K := fun τ12 => T_textTold_60 K (nI w) τ12) hTq hkb h50 g (by omega) (by omega) (by simp) (fun t k' e c hd hl τ' g' => ?_) (fun kd pl e => ⟨fun τ' g' => ?_, fun hkd how hpl hpp τ' C' o' hl g' => ?_⟩)
    · rw [List.nil_append] at g'
      have := g'.kn
      exact text_80 hw (by omega) hI2.1.1 hI2.1.2.2.2.2.1.2 g' b6 fun τ'' hD => h1 t k' e τq τ'' cd c hI2 b5 hl hd b6 b7 hD
    · exact br_f g'.bad ((h0 kd pl e).1 τ' (RFI.ofc hI2.1.1 g' (by omega)))
    · have := g'.kn
      exact text_80 hw (by omega) hI2.1.1 hI2.1.2.2.2.2.1.2 g' b6 fun τ'' hD => (h0 kd pl e).2 hkd hpl hpp τq τ'' cd C' hI2 hD
  rw [h50]
  by_cases hk1 : kbW w = 1
  · exact br_t (by rw [hk1]; rfl) main
  · refine br_f (fun z => hk1 ((nI_eq (b := 1) (by omega) (by omega)).mp z)) ?_
    have hw1 : w = 1 := by
      unfold kbW at hk1
      by_cases h : w = 1 ∨ w = 4
      · omega
      · rw [if_neg h, if_neg (by omega)] at hk1; exact absurd rfl hk1
    exact bn_f (by rw [hw1]; rfl) main
/-- a sum is told as number w -/
theorem text_sum {w : Nat} (hT : TxT τb B n) (hI : RI τb B n τ q I st) (hw : w = 2 ∨ w = 3 ∨ w = 4)
    (h1 : ∀ t k', pVal B n (kbW w) q = .inr (t, k') → ∀ τs τ' cd c, RI τb B n τs q I st → cd ≤ q → c.length + q ≤ k' → DnV (kbW w) c t → τs.1 0 48 = nI cd → IslR τs 0 0 0 0 0 0 cd I → TxD τb B n τs τ' k' w cd c → K τ')
    (h0 : ∀ kd pl, pVal B n (kbW w) q = .inl (kd, pl) → ∀ τ', RFI τb τ' kd pl → K τ') : T_textTold τ (nI w) K := by
  have hn := hT.1
  have hqn := hI.1.2.1
  refine br_t hI.1.2.2.2.2.1.1 (T_kindBy_law (by omega) (st_ (st_ (st_ (st_ (st_ ?_))))))
  obtain ⟨hI2, g⟩ := hI.begins (kbW w)
  have h50 : (sI (sI (sI (sI (sI τ 0 50 (nI (kbW w))) 0 92 0) 0 94 0) 0 95 0) 0 96 0).1 0 50 = nI (kbW w) := by
    rw [sI_ne (by omega), sI_ne (by omega), sI_ne (by omega), sI_ne (by omega), sI_same]
  generalize (sI (sI (sI (sI (sI τ 0 50 (nI (kbW w))) 0 92 0) 0 94 0) 0 95 0) 0 96 0) = τq at hI2 g h50 ⊢
  have hTq := hT.fr hI2.1.1
  obtain ⟨cd, b5, b6, b7⟩ := hI2.2.2.2.2
  have hkb : kbW w = 0 ∨ kbW w = 2 := by rcases hw with rfl | rfl | rfl <;> decide
  rw [h50]
  refine br_f (fun z => absurd ((nI_eq (b := 1) (by omega) (by omega)).mp z) (by omega)) (bn_t (fun z => absurd ((nI_eq (b := 1) (by omega) (by omega)).mp z) (by omega)) ?_)
  refine T_qSums_law (m := 12) (K := fun τ12 => T_textTold_60 K (nI w) τ12) hTq (by omega) h50 g (by omega) (by omega) (by simp) (fun v W' e => by cases e) (fun t k' e c hd hl τ' g' => ?_) (fun kd pl e τ' g' => ?_)
  · rw [List.nil_append] at g'
    have := g'.kn
    exact text_80 (by omega) (by omega) hI2.1.1 hI2.1.2.2.2.2.1.2 g' b6 fun τ'' hD => h1 t k' e τq τ'' cd c hI2 b5 hl hd b6 b7 hD
  · exact br_f g'.bad (h0 kd pl e τ' (RFI.ofc hI2.1.1 g' (by omega)))
end TX
