/-! COMPONENT, PURE SIDE: image. -/
theorem shr8_I : ∀ d, d < 1000 → nI d >>> ((8 : Int32) &&& 31) = nI (d / 256) := by decide +kernel
theorem low_I : ∀ d, d < 1000 → (nI d &&& 255).toBitVec.toNat = d % 256 := by decide +kernel
section CIm
variable {σ σ' : CS} {a : AS} {K : Int32 → CS → Prop} {n : Nat} {O : Nat → Nat}
theorem RC.ou (h : RC a σ) (f : FrO (fun i => i = 1295) (fun j => j = 19) σ σ') (o : OuC σ' O n) : RC (aOut a O n) σ' := by
  have hcb := CBv
  have hz := h.1.1
  have ag : ∀ i, i ≠ 0 → i < 1295 → agr σ σ' i := fun i h0 hi => f.2.2.2.1 i (Or.inl (by omega)) (fun z => by have : i = 1295 := z; omega) h0
  exact h.up f (fun i z => by have : i = 1295 := z; omega) (fun j z => by have : j = 19 := z; omega) (h.rw74 (fun i h1 h2 => ag i (by omega) (by omega))) (h.2.1.mv (f.2.2.2.2.2.2 2 (by omega)) (ag 8 (by omega) (by omega)).2.1) (h.2.2.1.mv (f.2.2.2.2.2.2 3 (by omega)) (f.2.2.2.2.2.2 4 (by omega)) (ag 15 (by omega) (by omega)).2.1) o
theorem co_writes {K : Unit → CS → Prop} {k v : Nat} {x : Int32} (ex : vp_nar .byte ((Int32.toInt8 x).toInt32) = sB v) (h : RC (aOut a O k) σ) (hk43 : k < 43) (hv : O k = v) (hv2 : v < 256) (hk : ∀ σ', RC (aOut a O (k + 1)) σ' → (∀ i, i ≠ 0 → i ≠ 1295 → agr σ σ' i) → K () σ') : U_X0_writes σ x K := by
  obtain ⟨o1, o2, o3⟩ := h.2.2.2.2.2.2.2.2
  have o2 : gI σ 0 19 = nI k := o2
  have o3 : ∀ i, i < k → gI σ 1295 i = sB (O i) ∧ O i < 256 := o3
  unfold U_X0_writes
  rw [o2, nI_clamp (by omega), ex, nI_1]
  refine st_ ⟨vi_ hk43 (by omega), st_ (hk _ ?_ (fun i h0 h1 => ((agr.refl σ i).wI h0).wI h1))⟩
  have f : FrO (fun i => i = 1295) (fun j => j = 19) σ (wI (wI σ 0 19 (nI (k + 1))) 1295 k (sB v)) := by
    refine FrO.wI (FrO.wI (FrO.refl h.z) ?_) ?_
    · exact Or.inr ⟨rfl, rfl⟩
    · exact Or.inl ⟨by omega, rfl⟩
  refine h.ou f ⟨hk43, ?_, fun i hi => ?_⟩
  · rw [gI_wi (by omega)]; exact gI_ws
  · by_cases e : i = k
    · subst e; rw [hv]; exact ⟨gI_ws, hv2⟩
    · rw [gI_wn (by omega), gI_wi (by omega)]; exact o3 i (by omega)
theorem co_check {B : Nat → Nat} {x0 len : Nat} (hL : gK σ x0 = some (.inr (1, len))) (hn : n ≤ len) (hn2 : len ≤ 1600) (hB : ∀ k, k < n → gI σ x0 k = sB (B k) ∧ B k < 256) (hk : K (nI (ckN B n)) σ) : U_X0_check σ x0 (nI n) K := by
  refine ⟨n + 1, ?_⟩
  have lp : ∀ (d g k : Nat), n - k = d → d < g → k ≤ n → U_X0_check_5 K x0 (nI n) g (nI (ckN B k)) (nI k) σ := by
    intro d
    induction d with
    | zero =>
      intro g k hd hg hkn
      obtain ⟨g, rfl⟩ : ∃ f', g = f' + 1 := ⟨g - 1, by omega⟩
      obtain rfl : k = n := by omega
      unfold U_X0_check_5
      exact br_t (nI_le (by omega) (by omega)) hk
    | succ d ih =>
      intro g k hd hg hkn
      obtain ⟨g, rfl⟩ : ∃ f', g = f' + 1 := ⟨g - 1, by omega⟩
      unfold U_X0_check_5
      obtain ⟨h1, h2⟩ := hB k (by omega)
      rw [nI_clamp (by omega), h1, sB_255 _ h2, mod251 (ckN_lt B k) h2, nI_1]
      refine br_f (nI_ge (by omega) (by omega)) ⟨gKN hL, ?_, fun y e => ?_⟩
      · rw [gN_of hL]; exact vi_ (by omega) (by omega)
      · subst e
        exact ih g (k + 1) (by omega) (by omega) (by omega)
  exact lp n _ 0 rfl (by omega) (by omega)
theorem co_image (h : RC a σ) (ha : AOK a) (hk : ∀ σ', RC (sp_image a).2 σ' → K (sp_image a).1 σ') : U_X0_image σ K := by
  have hb := ha.ib
  have hc := hb.1
  have hd := ha.2.1.1
  unfold sp_image at hk
  have hBd := ha.2.1.bd
  obtain ⟨O, hO⟩ : ∃ O, O = imO (aS a).1 (iC (aI a) 0) := ⟨_, rfl⟩
  rw [← hO] at hk
  have hV : ∀ k, k < 2 + 5 * iC (aI a) 0 → O k = imV (aS a).1 k := fun k hk' => by rw [hO]; unfold imO; rw [if_pos hk']
  have f0 : FrO (fun i => i = 1295) (fun j => j = 19) σ (wI σ 0 19 0) := by
    refine FrO.wI (FrO.refl h.z) ?_
    exact Or.inr ⟨rfl, rfl⟩
  have r0 : RC (aOut a O 0) (wI σ 0 19 0) := h.ou f0 ⟨by omega, gI_ws, fun i hi => absurd hi (by omega)⟩
  have s0 := h.2.2.2.2.1.1.1
  refine st_ ?_
  rw [gI_wn (by omega), s0.1, shr8_I _ (by omega)]
  refine co_writes (v := (aS a).1 0 / 256) (by_I _ (by omega)) r0 (by omega) (by rw [hV 0 (by omega)]; rfl) (by omega) fun s1 r1 g1 => ?_
  have e1 : gI s1 16 0 = nI ((aS a).1 0) := by
    rw [(g1 16 (by omega) (by omega)).2.1, gI_wi (by omega)]; exact s0.1
  rw [e1]
  refine co_writes (v := (aS a).1 0 % 256) (by rw [byt_I, low_I _ (by omega)]) r1 (by omega) (by rw [hV 1 (by omega)]; rfl) (by omega) fun s2 r2 g2 => ⟨iC (aI a) 0 + 1, ?_⟩
  have lp : ∀ (d f t : Nat) (s2 : CS), iC (aI a) 0 - t = d → d < f → t ≤ iC (aI a) 0 → RC (aOut a O (2 + 5 * t)) s2 → U_X0_image_32 K f (nI t) s2 := by
    intro d
    induction d with
    | zero =>
      intro f t s2 hd hf ht r2
      obtain ⟨f, rfl⟩ : ∃ f', f = f' + 1 := ⟨f - 1, by omega⟩
      obtain rfl : t = iC (aI a) 0 := by omega
      unfold U_X0_image_32
      refine cb_things (show IsR s2 (aI a) from r2.is) (br_t (nI_le (by omega) (by omega)) ?_)
      obtain ⟨o1, o2, o3⟩ := r2.2.2.2.2.2.2.2.2
      have o2 : gI s2 0 19 = nI (2 + 5 * iC (aI a) 0) := o2
      have o3 : ∀ i, i < 2 + 5 * iC (aI a) 0 → gI s2 1295 i = sB (O i) ∧ O i < 256 := o3
      rw [o2]
      have ck := ckN_lt (imV (aS a).1) (2 + 5 * iC (aI a) 0)
      refine co_check (B := imV (aS a).1) (len := 43) (r2.sta 1295 (by omega)) (by omega) (by omega) (fun k hk' => by rw [← hV k hk']; exact o3 k hk') (co_writes (v := ckN (imV (aS a).1) (2 + 5 * iC (aI a) 0)) (by_I _ (by omega)) r2 (by omega) (by rw [hO]; unfold imO; rw [if_neg (by omega)]) (by omega) fun s3 r3 _ => ?_)
      have e3 : gI s3 0 19 = nI (2 + 5 * iC (aI a) 0 + 1) := r3.2.2.2.2.2.2.2.2.2.1
      have r3 : RC (aOut a O (3 + 5 * iC (aI a) 0)) s3 := by rw [show 3 + 5 * iC (aI a) 0 = 2 + 5 * iC (aI a) 0 + 1 by omega]; exact r3
      rw [e3, show 2 + 5 * iC (aI a) 0 + 1 = 3 + 5 * iC (aI a) 0 by omega]
      exact hk s3 r3
    | succ d ih =>
      intro f t s2 hd hf ht r2
      obtain ⟨f, rfl⟩ : ∃ f', f = f' + 1 := ⟨f - 1, by omega⟩
      have v8 : vp_in (nI t) 8 := vi_ (by omega) (by omega)
      obtain ⟨w1, w2, w3, w4, w5⟩ := (show StA s2 16 (aS a).1 from r2.2.2.2.2.1.1.1).2 t (by omega)
      have b1 := hBd.2.1 (1 + 5 * t) (by omega) (by omega)
      have b2 := hBd.2.1 (2 + 5 * t) (by omega) (by omega)
      have b3 := hBd.2.1 (3 + 5 * t) (by omega) (by omega)
      have b4 := hBd.2.1 (4 + 5 * t) (by omega) (by omega)
      have b5 := hBd.2.2 t (by omega)
      have hVt : ∀ j, j < 5 → O (2 + 5 * t + j) = (aS a).1 (1 + j + 5 * t) := fun j hj => by
        rw [hV _ (by omega)]
        unfold imV
        rw [if_neg (by omega), if_neg (by omega)]
        rw [show 2 + 5 * t + j - 1 = 1 + j + 5 * t by omega]
      unfold U_X0_image_32
      refine cb_things (show IsR s2 (aI a) from r2.is) (br_f (nI_ge (by omega) (by omega)) ?_)
      rw [nI_clamp (by omega), nI_1]
      rw [show gI s2 17 t = _ from w1]
      refine ⟨v8, co_writes (by_I _ (by omega)) r2 (by omega) (hVt 0 (by omega)) (by omega) fun s3 r3 g3 => ⟨v8, ?_⟩⟩
      rw [(g3 18 (by omega) (by omega)).2.1, show gI s2 18 t = _ from w2]
      refine co_writes (by_I _ (by omega)) r3 (by omega) (hVt 1 (by omega)) (by omega) fun s4 r4 g4 => ⟨v8, ?_⟩
      rw [(g4 19 (by omega) (by omega)).2.1, (g3 19 (by omega) (by omega)).2.1, show gI s2 19 t = _ from w3]
      refine co_writes (by_I _ (by omega)) r4 (by omega) (hVt 2 (by omega)) (by omega) fun s5 r5 g5 => ⟨v8, ?_⟩
      rw [(g5 20 (by omega) (by omega)).2.1, (g4 20 (by omega) (by omega)).2.1, (g3 20 (by omega) (by omega)).2.1, show gI s2 20 t = _ from w4]
      refine co_writes (by_I _ (by omega)) r5 (by omega) (hVt 3 (by omega)) (by omega) fun s6 r6 g6 => ⟨v8, ?_⟩
      rw [(g6 21 (by omega) (by omega)).2.1, (g5 21 (by omega) (by omega)).2.1, (g4 21 (by omega) (by omega)).2.1, (g3 21 (by omega) (by omega)).2.1, show gI s2 21 t = _ from w5]
      have h4 := hVt 4 (by omega)
      rcases (show (aS a).1 (5 + 5 * t) = 0 ∨ (aS a).1 (5 + 5 * t) = 1 by omega) with e | e
      · rw [e]
        refine br_t rfl (co_writes (v := 0) (by_I 0 (by omega)) r6 (by omega) (by rw [show 2 + 5 * t + 1 + 1 + 1 + 1 = 2 + 5 * t + 4 by omega, h4]; exact e) (by omega) fun s7 r7 _ => ih f (t + 1) s7 (by omega) (by omega) (by omega) ?_)
        rw [show 2 + 5 * (t + 1) = 2 + 5 * t + 1 + 1 + 1 + 1 + 1 by omega]; exact r7
      · rw [e]
        refine br_f (by decide) (co_writes (v := 1) (by_I 1 (by omega)) r6 (by omega) (by rw [show 2 + 5 * t + 1 + 1 + 1 + 1 = 2 + 5 * t + 4 by omega, h4]; exact e) (by omega) fun s7 r7 _ => ih f (t + 1) s7 (by omega) (by omega) (by omega) ?_)
        rw [show 2 + 5 * (t + 1) = 2 + 5 * t + 1 + 1 + 1 + 1 + 1 by omega]; exact r7
  exact lp (iC (aI a) 0) _ 0 s2 rfl (by omega) (by omega) r2
end CIm
