/-! PURE SIDE, the model's reader: behind a part. -/
def GKs (K : Sto → Prop) (x1 : Int32) (f : Nat) : Int32 → Sto → Prop := fun r6 τ5 => ((r6 = 0 → (T_qSums_15 K x1 f 0 τ5)) ∧ (¬ r6 = 0 → (T_qSums_15 K x1 f 1 τ5)))
def PKs (K : Sto → Prop) (x1 : Int32) (f : Nat) : Sto → Prop := fun τ4 => ((¬ (τ4.1 0 5) = 0 → (T_qSums_15 K x1 f 0 τ4)) ∧ ((τ4.1 0 5) = 0 → (T_qGoesOn τ4 (GKs K x1 f))))
/-- behind a part; a part has ended; a part is asked: for all fuels that are enough -/
def GoG (τ0 : Sto) (B : Byt) (n bs : Nat) (K : Sto → Prop) (x1 : Int32) (k : Nat) (C W : List Int32) (o : Nat) : Prop := ∀ (f h : Nat) (τ : Sto), n - k < f → n - k < h → RQ τ0 B n τ k C W o bs → T_qGoesOn_0 (GKs K x1 f) h τ
def GoE (τ0 : Sto) (B : Byt) (n bs : Nat) (K : Sto → Prop) (x1 : Int32) (k : Nat) (C W : List Int32) (o : Nat) : Prop := ∀ (f : Nat) (KK : Sto → Prop) (τ : Sto), n - k < f → (∀ (τ' : Sto) (C' W' : List Int32) (o' : Nat), RQ τ0 B n τ' k C' W' o' bs → (∀ h, n - k < h → T_qGoesOn_0 (GKs K x1 f) h τ') → KK τ') → RQ τ0 B n τ k C W o bs → T_qEndsPart τ KK
def GoP (τ0 : Sto) (B : Byt) (n bs : Nat) (K : Sto → Prop) (x1 : Int32) (k : Nat) (C W : List Int32) (o : Nat) : Prop := ∀ (f g : Nat) (τ : Sto), n - k < f → n - k + 1 < g → RQ τ0 B n τ k C W o bs → T_qPartTold_2 (PKs K x1 f) g 1 τ
def FFs (τ0 : Sto) (z : Nat) (K : Sto → Prop) (kd pl : Nat) : Prop := ∀ τ', RFc z τ0 τ' kd pl → K τ'
def mulI (x : Int32) : Prop := x = 3 ∨ x = 4
theorem mulI.op {x : Int32} (h : mulI x) : opI x := h.elim (fun h => Or.inr (Or.inr (Or.inl h))) (fun h => Or.inr (Or.inr (Or.inr h)))
def topN (P : Int32 → Prop) (W : List Int32) : Prop := ∀ v W', W = v :: W' → ¬ P v
section TG
variable {τ0 τ : Sto} {B : Byt} {n k o bs : Nat} {C W : List Int32} {K : Sto → Prop} {x1 : Int32}
theorem RFc.w {z kd pl : Nat} (h : RFc z τ0 τ kd pl) {j : Nat} {v : Int32} (hj : j = 2 ∨ j = 95 ∨ j = 96 ∨ j = 38) : RFc z τ0 (sI τ 0 j v) kd pl := by
  obtain ⟨h1, h2, h3, h4, c, h5, h6⟩ := h
  refine ⟨h1.w (by rcases hj with h | h | h | h <;> simp [scrQ, h]), ?_, ?_, ?_, c, h5, ?_⟩
  all_goals rw [sI_ne (by rcases hj with h | h | h | h <;> simp [h])]
  · exact h2
  · exact h3
  · exact h4
  · exact h6
theorem T_qCode_bad {K : Sto → Prop} {z kd pl : Nat} {v : Int32} (h : RFc z τ0 τ kd pl) (hz : z < 1690) (hk : ∀ τ', RFc (z + 1) τ0 τ' kd pl → K τ') : T_qCode τ v K := by
  obtain ⟨h1, h2, h3, h4, c, h5, h6⟩ := h
  unfold T_qCode
  rw [h6]
  refine ⟨vi_ (by omega) (by omega), st_ (st_ (hk _ ?_))⟩
  rw [nI_clamp (by omega), sI_neI (by simp), h6, nI_1]
  refine ⟨(h1.w (by simp [scrQ])).w (by simp [scrQ]), ?_, ?_, ?_, c + 1, by omega, sI_same ..⟩
  all_goals rw [sI_ne (by simp), sI_neI (by simp)]
  · exact h2
  · exact h3
  · exact h4
theorem T_qEndsPart_bad {K : Sto → Prop} (h : ¬ τ.1 0 5 = 0) (hk : K τ) : T_qEndsPart τ K := ⟨1, by unfold T_qEndsPart_0; exact bn_t h hk⟩
theorem sums_bad {f kd pl : Nat} (hF : FFs τ0 1601 K kd pl) (h : RFc 1601 τ0 τ kd pl) (hf : 0 < f) (x2 : Int32) : T_qSums_15 K x1 f x2 τ := by
  obtain ⟨f, rfl⟩ : ∃ f', f = f' + 1 := ⟨f - 1, by omega⟩
  have h53 : ∃ n53, T_qSums_53 K x1 n53 τ := ⟨1, by unfold T_qSums_53; exact bn_t h.bad (st_ (hF _ (h.w (by simp))))⟩
  unfold T_qSums_15
  exact ⟨fun _ => h53, fun _ => bn_t h.bad h53⟩
theorem PKs_bad {f kd pl : Nat} (hF : FFs τ0 1601 K kd pl) (h : RFc 1601 τ0 τ kd pl) (hf : 0 < f) : PKs K x1 f τ := bn_t h.bad (sums_bad hF h hf 0)
theorem GKs_bad {f kd pl : Nat} (hF : FFs τ0 1601 K kd pl) (h : RFc 1601 τ0 τ kd pl) (hf : 0 < f) (r : Int32) : GKs K x1 f r τ := ⟨fun _ => sums_bad hF h hf 0, fun _ => sums_bad hF h hf 1⟩
theorem part_bad {f g kd pl : Nat} (hF : FFs τ0 1601 K kd pl) (h : RFc 1601 τ0 τ kd pl) (hf : 0 < f) (hg : 0 < g) : T_qPartTold_2 (PKs K x1 f) g 1 τ := by
  obtain ⟨g, rfl⟩ : ∃ g', g = g' + 1 := ⟨g - 1, by omega⟩
  unfold T_qPartTold_2
  refine br_f (by decide) (bn_t h.bad ?_)
  unfold T_qPartTold_186
  exact br_f h.bad (PKs_bad hF h hf)
theorem goE_stop (hw : W.length < 1700) (hb : bs ≤ W.length) (hs : W.length = bs ∨ ∃ v W', W = v :: W' ∧ v < 60) (h : GoG τ0 B n bs K x1 k C W o) : GoE τ0 B n bs K x1 k C W o := by
  intro f KK τ hf hKK g
  exact T_qEndsPart_stop g hw hb hs (hKK τ C W o g (fun h' hh => h f h' τ hf hh g))
theorem goE_of (hw : W.length < 1700) (hc : C.length < 1600) (hb : bs ≤ W.length) (h : GoE τ0 B n bs K x1 k (C ++ [60]) W o) : GoE τ0 B n bs K x1 k C (60 :: W) (o + 1) := by
  intro f KK τ hf hKK g
  exact T_qEndsPart_of g hw hc hb (by decide) (fun τ' g' => h f KK τ' hf hKK g')
/-- the operators that wait are told, another waits -/
theorem T_qGoesOn_162_law {K : Int32 → Sto → Prop} {x : Int32} (hW : topN mulI W) (hw : W.length < 1650) : ∀ (pend C : List Int32) (f : Nat) (τ : Sto), (∀ y, y ∈ pend → mulI y) → pend.length < f → pend.length ≤ 40 → C.length + pend.length ≤ 1600 → RQ τ0 B n τ k C (pend ++ W) o bs → (∀ τ', RQ τ0 B n τ' k (C ++ pend) (x :: W) o bs → K 1 τ') → T_qGoesOn_162 K x f τ := by
  intro pend
  induction pend with
  | nil =>
    intro C f τ hp hf hl hc h hk
    obtain ⟨f, rfl⟩ : ∃ f', f = f' + 1 := ⟨f - 1, by omega⟩
    rw [List.nil_append] at h
    unfold T_qGoesOn_162
    have fin : vp_in (τ.1 0 94) 1700 ∧ (∀ τ23 : Sto, τ23 = sI τ 94 (Int32.toNatClampNeg (τ.1 0 94)) x → (∀ τ24 : Sto, τ24 = sI τ23 0 94 ((τ23.1 0 94) + 1) → (K 1 τ24))) := by
      rw [h.wl]
      refine ⟨vi_ (by omega) (by omega), st_ (st_ ?_)⟩
      rw [nI_clamp (by omega), sI_neI (by simp), h.wl, nI_1]
      exact hk _ (by rw [List.append_nil]; exact h.push x)
    match W, h, hW, hw with
    | [], h, _, _ => exact T_qIsOn_nil h (bn_f rfl (T_qIsOn_nil h (br_t rfl fin)))
    | v :: W', h, hW, hw =>
      have hv := hW v W' rfl
      rw [List.length_cons] at hw
      refine T_qIsOn_law h (by omega) ?_
      rw [decide_eq_false (fun z => hv (Or.inl z))]
      refine bn_f rfl (T_qIsOn_law h (by omega) ?_)
      rw [decide_eq_false (fun z => hv (Or.inr z))]
      exact br_t rfl fin
  | cons y pend ih =>
    intro C f τ hp hf hl hc h hk
    obtain ⟨f, rfl⟩ : ∃ f', f = f' + 1 := ⟨f - 1, by omega⟩
    rw [List.cons_append] at h
    rw [List.length_cons] at hf hl hc
    have hll : (pend ++ W).length < 1700 := by rw [List.length_append]; omega
    unfold T_qGoesOn_162
    have fin : T_qDrops τ (fun τ20 => T_qGoesOn_162 K x f τ20) := by
      refine T_qDrops_law h (by omega) hll fun τ' g => ?_
      refine ih (C ++ [y]) f τ' (fun z hz => hp z (by simp [hz])) (by omega) (by omega) (by simp; omega) g (fun τ'' g' => hk τ'' ?_)
      rw [List.append_assoc] at g'
      exact g'
    rcases hp y (by simp) with rfl | rfl
    · exact T_qIsOn_law h hll (bn_t (by decide) fin)
    · exact T_qIsOn_law h hll (bn_f (by decide) (T_qIsOn_law h hll (br_f (by decide) fin)))
theorem T_qGoesOn_247_law {K : Int32 → Sto → Prop} {x : Int32} (hW : topN opI W) (hw : W.length < 1650) : ∀ (pend C : List Int32) (f : Nat) (τ : Sto), (∀ y, y ∈ pend → opI y) → pend.length < f → pend.length ≤ 40 → C.length + pend.length ≤ 1600 → RQ τ0 B n τ k C (pend ++ W) o bs → (∀ τ', RQ τ0 B n τ' k (C ++ pend) (x :: W) o bs → K 1 τ') → T_qGoesOn_247 K x f τ := by
  intro pend
  induction pend with
  | nil =>
    intro C f τ hp hf hl hc h hk
    obtain ⟨f, rfl⟩ : ∃ f', f = f' + 1 := ⟨f - 1, by omega⟩
    rw [List.nil_append] at h
    unfold T_qGoesOn_247
    have fin : vp_in (τ.1 0 94) 1700 ∧ (∀ τ23 : Sto, τ23 = sI τ 94 (Int32.toNatClampNeg (τ.1 0 94)) x → (∀ τ24 : Sto, τ24 = sI τ23 0 94 ((τ23.1 0 94) + 1) → (K 1 τ24))) := by
      rw [h.wl]
      refine ⟨vi_ (by omega) (by omega), st_ (st_ ?_)⟩
      rw [nI_clamp (by omega), sI_neI (by simp), h.wl, nI_1]
      exact hk _ (by rw [List.append_nil]; exact h.push x)
    match W, h, hW, hw with
    | [], h, _, _ => exact T_qIsOn_nil h (bn_f rfl (T_qIsOn_nil h (bn_f rfl (T_qIsOn_nil h (bn_f rfl (T_qIsOn_nil h (br_t rfl fin)))))))
    | v :: W', h, hW, hw =>
      have hv := hW v W' rfl
      rw [List.length_cons] at hw
      refine T_qIsOn_law h (by omega) ?_
      rw [decide_eq_false (fun z => hv (Or.inr (Or.inr (Or.inl z))))]
      refine bn_f rfl (T_qIsOn_law h (by omega) ?_)
      rw [decide_eq_false (fun z => hv (Or.inr (Or.inr (Or.inr z))))]
      refine bn_f rfl (T_qIsOn_law h (by omega) ?_)
      rw [decide_eq_false (fun z => hv (Or.inl z))]
      refine bn_f rfl (T_qIsOn_law h (by omega) ?_)
      rw [decide_eq_false (fun z => hv (Or.inr (Or.inl z)))]
      exact br_t rfl fin
  | cons y pend ih =>
    intro C f τ hp hf hl hc h hk
    obtain ⟨f, rfl⟩ : ∃ f', f = f' + 1 := ⟨f - 1, by omega⟩
    rw [List.cons_append] at h
    rw [List.length_cons] at hf hl hc
    have hll : (pend ++ W).length < 1700 := by rw [List.length_append]; omega
    unfold T_qGoesOn_247
    have fin : T_qDrops τ (fun τ20 => T_qGoesOn_247 K x f τ20) := by
      refine T_qDrops_law h (by omega) hll fun τ' g => ?_
      refine ih (C ++ [y]) f τ' (fun z hz => hp z (by simp [hz])) (by omega) (by omega) (by simp; omega) g (fun τ'' g' => hk τ'' ?_)
      rw [List.append_assoc] at g'
      exact g'
    rcases hp y (by simp) with rfl | rfl | rfl | rfl
    · exact T_qIsOn_law h hll (bn_f (by decide) (T_qIsOn_law h hll (bn_f (by decide) (T_qIsOn_law h hll (bn_t (by decide) fin)))))
    · exact T_qIsOn_law h hll (bn_f (by decide) (T_qIsOn_law h hll (bn_f (by decide) (T_qIsOn_law h hll (bn_f (by decide) (T_qIsOn_law h hll (br_f (by decide) fin)))))))
    · exact T_qIsOn_law h hll (bn_t (by decide) fin)
    · exact T_qIsOn_law h hll (bn_f (by decide) (T_qIsOn_law h hll (bn_t (by decide) fin)))
end TG
