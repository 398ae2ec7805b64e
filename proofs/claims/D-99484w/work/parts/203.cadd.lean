/-! COMPONENT, PURE SIDE: lists and texts that grow. -/
def LsX (σ : CS) (q ar cap m : Nat) (el : Nat → Nat) : Prop := gK σ q = some kO20 ∧ gI σ q 2 = nI m ∧ gR σ q 1 = ar + 1 ∧ gK σ ar = some (.inr (5, cap)) ∧ m ≤ cap ∧ (cap ≤ 4000 ∧ 0 < cap) ∧ ∀ j, j < m → gR σ ar j = el j + 1
def SbX (σ : CS) (q yb cap m : Nat) (sg : Nat → Nat) : Prop := gK σ q = some kO22 ∧ gI σ q 1 = 0 ∧ gI σ q 3 = nI m ∧ gR σ q 0 = yb + 1 ∧ gK σ yb = some (.inr (1, cap)) ∧ m ≤ cap ∧ cap ≤ 9000 ∧ ∀ j, j < m → gI σ yb j = nI (sg j) ∧ (sg j = 42 ∨ sg j = 43 ∨ sg j = 45 ∨ sg j = 47)
section CA
variable {σ0 σ σ' σ'' : CS} {i j a b q x m ar cap yb mc ms : Nat} {el sg : Nat → Nat} {S : Nat → Prop}
theorem LsX.fr (h : LsX σ q ar cap m el) (f1 : agr σ σ' q) (f2 : agr σ σ' ar) : LsX σ' q ar cap m el := by
  obtain ⟨h1, h2, h3, h4, h5, h6, h7⟩ := h
  exact ⟨by rw [f1.1]; exact h1, by rw [f1.2.1]; exact h2, by rw [f1.2.2.2]; exact h3, by rw [f2.1]; exact h4, h5, h6, fun j hj => by rw [f2.2.2.2]; exact h7 j hj⟩
theorem SbX.fr (h : SbX σ q yb cap m sg) (f1 : agr σ σ' q) (f2 : agr σ σ' yb) : SbX σ' q yb cap m sg := by
  obtain ⟨h1, h2, h3, h4, h5, h6, h7, h8⟩ := h
  exact ⟨by rw [f1.1]; exact h1, by rw [f1.2.1]; exact h2, by rw [f1.2.1]; exact h3, by rw [f1.2.2.2]; exact h4, by rw [f2.1]; exact h5, h6, h7, fun j hj => by rw [f2.2.1]; exact h8 j hj⟩
theorem LsX.c (h : LsX σ q ar cap m el) (hm : m ≤ 2000) (h1 : S q) (h2 : S ar) : LsC σ S q m el := ⟨h1, h.1, h.2.1, hm, ar, cap, h2, h.2.2.1, h.2.2.2.1, h.2.2.2.2.1, h.2.2.2.2.2.1.1, h.2.2.2.2.2.2⟩
theorem SbX.c (h : SbX σ q yb cap m sg) (hm : m ≤ 2000) (h1 : S q) (h2 : S yb) : SbC σ S q m sg := ⟨h1, h.1, h.2.1, h.2.2.1, hm, yb, cap, h2, h.2.2.2.1, h.2.2.2.2.1, h.2.2.2.2.2.1, h.2.2.2.2.2.2.1, h.2.2.2.2.2.2.2⟩
theorem isC.k {nm : String} (h : isC nm σ q) (e : gK σ' q = gK σ q) : isC nm σ' q := by
  obtain ⟨ci, C, T, N, ks, h1, h2⟩ := h
  exact ⟨ci, C, T, N, ks, e.trans h1, h2⟩
theorem agr.wC {sp dp n : Nat} (h : agr σ σ' i) (hi : i ≠ a) : agr σ (wC σ' b a sp dp n) i := by
  refine ⟨h.1, ?_, h.2.2.1, ?_⟩
  · funext j; show (if i = a then _ else gI σ' i j) = _; rw [if_neg hi, h.2.1]
  · funext j; show (if i = a then _ else gR σ' i j) = _; rw [if_neg hi, h.2.2.2]
theorem gR_wC {n : Nat} (hj : j < n) : gR (wC σ b a 0 0 n) a j = gR σ b j := by
  show (if a = a then va_cpy (gR σ b) (gR σ a) 0 0 n j else _) = _
  rw [if_pos rfl]
  unfold va_cpy
  rw [if_pos ⟨Nat.zero_le _, by omega⟩, Nat.zero_add, Nat.sub_zero]
theorem gI_wC {n : Nat} (hj : j < n) : gI (wC σ b a 0 0 n) a j = gI σ b j := by
  show (if a = a then va_cpy (gI σ b) (gI σ a) 0 0 n j else _) = _
  rw [if_pos rfl]
  unfold va_cpy
  rw [if_pos ⟨Nat.zero_le _, by omega⟩, Nat.zero_add, Nat.sub_zero]
theorem half_I : ∀ m, m < 1300 → nI m >>> ((1 : Int32) &&& 31) = nI (m / 2) := by decide +kernel
theorem cl_0 : Int32.toNatClampNeg 0 = 0 := by decide
theorem cr_newLen {K : Int32 → CS → Prop} {c u v : Nat} (hc : c ≤ 10000) (hu : 0 < u) (hu2 : u ≤ 10000) (hv : v ≤ 10000) (hk : K (nI (c + (if u < v then v else u))) σ) : U_J10_newLength σ (nI c) (nI u) (nI v) K := by
  have go : ∀ w, 0 < w → w ≤ 10000 → K (nI (c + w)) σ → (((nI c + nI w) ≤ (0 : Int32) → False) ∧ (¬ (nI c + nI w) ≤ (0 : Int32) → (((2147483639 : Int32) < (nI c + nI w) → False) ∧ (¬ (2147483639 : Int32) < (nI c + nI w) → K (nI c + nI w) σ)))) := by
    intro w h0 h1 hk
    rw [nI_add]
    exact br_f (nI_nle (by omega) (by omega)) (br_f (show ¬ nI 2147483639 < nI (c + w) from nI_nlt (by omega) (by omega)) hk)
  unfold U_J10_newLength U_J12_max
  by_cases h : u < v
  · rw [if_pos h] at hk
    exact br_t (nI_lt h (by omega)) (go v (by omega) hv hk)
  · rw [if_neg h] at hk
    exact br_f (nI_nlt (by omega) (by omega)) (go u hu hu2 hk)
/-- the list's last step -/
theorem cr_add11 {K : Unit → CS → Prop} {cx zx : Nat} {x3 : Int32} (e : x3 = nI m) (h1 : gK σ q = some kO20) (ha : gK σ ar = some (.inr (5, cap))) (hm : m < cap) (hcap : cap ≤ 4000) (hq : q < CB) (har : ar < CB) (hx : isC "java/lang/Object" σ x) (hk : K () (wI (wR σ ar m (x + 1)) q 2 (nI (m + 1)))) : U_J2_add_2_11 mc ms K q x (ar + 1) x3 cx zx σ := by
  subst e
  refine ⟨ar, rfl, har, gKN ha, hx, ?_, st_ ⟨hq, h1, st_ ?_⟩⟩
  · rw [gN_of ha]; exact vi_ hm (by omega)
  · rw [nI_clamp (by omega), nI_1]; exact hk
/-- a list takes one more -/
theorem cr_add {K : Int32 → CS → Prop} (h : LsX σ q ar cap m el) (hm : m ≤ 640) (hmc : m < cap ∨ (1 ≤ mc ∧ 961 ≤ ms)) (hq : q < σ.1) (har : ar < σ.1) (hqa : q ≠ ar) (hcb : σ.1 + 1 ≤ CB) (hO : ∀ j, j < m → isC "java/lang/Object" σ (el j)) (hx : isC "java/lang/Object" σ x) (hxo : x ≠ σ.1) (heo : ∀ j, j < m → el j ≠ σ.1)
    (hk : ∀ σ' ar' cap', σ.1 ≤ σ'.1 → σ'.1 ≤ σ.1 + 1 → (∀ i, i < σ.1 ∨ CB ≤ i → i ≠ q → i ≠ ar → agr σ σ' i) → (ar' = ar ∨ (σ.1 ≤ ar' ∧ ar' < σ'.1)) → LsX σ' q ar' cap' (m + 1) (fu_ el m x) → K 1 σ') : U_J2_add mc ms σ q x K := by
  obtain ⟨h1, h2, h3, h4, h5, ⟨h6, h6'⟩, h7⟩ := h
  have hqc : q < CB := by omega
  have e2 : gI (wI σ q 0 (gI σ q 0 + 1)) q 2 = nI m := (gI_wn (by omega)).trans h2
  refine ⟨h1, hqc, h1, st_ ⟨h1, h1, ar, h3, h1, mc, ms, ⟨by omega, by omega⟩, gKN h4, ?_⟩⟩
  rw [show gN (wI σ q 0 (gI σ q 0 + 1)) ar = cap from gN_of (σ := wI σ q 0 (gI σ q 0 + 1)) h4, e2]
  by_cases c : m < cap
  · refine bn_t (fun z => ?_) (cr_add11 rfl h1 h4 c h6 hqc (by omega) (hx.k rfl) ?_)
    · have := (nI_eq (a := m) (b := cap) (by omega) (by omega)).mp z
      omega
    refine hk _ ar cap (Nat.le_refl _) (Nat.le_succ _) (fun i _ hi1 hi2 => ((((agr.refl σ i).wI hi1).wR hi2).wI hi1)) (Or.inl rfl) ⟨h1, gI_ws, (gR_wn (by omega)).trans h3, h4, by omega, ⟨h6, h6'⟩, fun j hj => ?_⟩
    by_cases z : j = m
    · subst z; rw [fu_same]; exact gR_ws
    · rw [fu_ne z]; exact (gR_wn (by omega)).trans (h7 j (by omega))
  · obtain rfl : m = cap := by omega
    obtain ⟨hmc1, hmc2⟩ := hmc.resolve_left c
    refine bn_f rfl ⟨h1, mc, ms, ⟨by omega, by omega⟩, h1, h1, mc, ms, ⟨by omega, by omega⟩, h1, ar, h3, gKN h4, ?_⟩
    rw [show gN (wI σ q 0 (gI σ q 0 + 1)) ar = m from gN_of (σ := wI σ q 0 (gI σ q 0 + 1)) h4, e2, nI_1]
    refine br_t (nI_lt (a := 0) h6' (by omega)) ?_
    rw [show Int32.ofNat m = nI m from rfl, nI_sub (by omega), half_I m (by omega), show m + 1 - m = 1 by omega]
    refine cr_newLen (by omega) (by omega) (by omega) (by omega) ?_
    obtain ⟨w, hw⟩ : ∃ w, w = m + (if 1 < m / 2 then m / 2 else 1) := ⟨_, rfl⟩
    rw [← hw]
    have hw1 : m < w ∧ w ≤ 961 := by
      rw [hw]
      split <;> omega
    refine ⟨h1, ar, h3, mc, ms, ⟨by omega, by omega⟩, gKN h4, mc, ms, ⟨by omega, by omega⟩, nI_pos (by omega), ?_⟩
    rw [nI_clamp (by omega)]
    obtain ⟨s1, hs1⟩ : ∃ s1, s1 = wI σ q 0 (gI σ q 0 + 1) := ⟨_, rfl⟩
    rw [← hs1]
    have z1 : s1.1 = σ.1 := by rw [hs1]; rfl
    have a1 : ∀ i, i ≠ q → agr σ s1 i := fun i hi => by rw [hs1]; exact (agr.refl σ i).wI hi
    have k1 : ∀ i, gK s1 i = gK σ i := fun i => by rw [hs1]; rfl
    have r1 : ∀ i, gR s1 i = gR σ i := fun i => by rw [hs1]; rfl
    refine ⟨by omega, ⟨hmc1, by omega⟩, by omega, st_ ?_⟩
    obtain ⟨s2, hs2⟩ : ∃ s2, s2 = nC s1 (.inr (5, w)) := ⟨_, rfl⟩
    rw [← hs2]
    have z2 : s2.1 = σ.1 + 1 := by rw [hs2]; show s1.1 + 1 = _; rw [z1]
    have a2 : ∀ i, i ≠ σ.1 → agr s1 s2 i := fun i hi => by rw [hs2]; exact (agr.refl s1 i).nC (by omega)
    have k2 : gK s2 ar = some (.inr (5, m)) := by rw [(a2 ar (by omega)).1, k1]; exact h4
    have kn : gK s2 s1.1 = some (.inr (5, w)) := by rw [hs2]; exact gK_n
    rw [gN_of k2]
    refine ⟨k2, br_f (nI_nlt (by omega) (by omega)) ?_⟩
    dsimp only
    rw [gN_of k2, gN_of kn, show Int32.ofNat m = nI m from rfl, nI_clamp (by omega), cl_0, z1]
    rw [z1] at kn
    refine ⟨⟨by omega, by omega⟩, ⟨k2, kn⟩, ⟨by decide, by decide, nI_pos (by omega)⟩, ⟨by omega, by omega⟩, fun i hi => ⟨fun z => absurd z (by decide), fun _ => Or.inr ⟨el i, ?_, ?_⟩⟩, st_ ?_⟩
    · rw [Nat.zero_add, (a2 ar (by omega)).2.2.2, r1]; exact h7 i hi
    · exact (hO i hi).k (by rw [(a2 _ (heo i hi)).1, k1])
    obtain ⟨s3, hs3⟩ : ∃ s3, s3 = wC s2 ar σ.1 0 0 m := ⟨_, rfl⟩
    rw [← hs3]
    have a3 : ∀ i, i ≠ σ.1 → agr s2 s3 i := fun i hi => by rw [hs3]; exact (agr.refl s2 i).wC hi
    have k3 : ∀ i, gK s3 i = gK s2 i := fun i => by rw [hs3]; rfl
    have kq : gK s3 q = some kO20 := by rw [k3, (a2 q (by omega)).1, k1]; exact h1
    refine ⟨hqc, kq, st_ (cr_add11 rfl kq (by rw [show gK (wR s3 q 1 (σ.1 + 1)) σ.1 = gK s3 σ.1 from rfl, k3]; exact kn) hw1.1 (by omega) hqc (by omega) (hx.k ?_) ?_)⟩
    · show gK s3 x = gK σ x
      rw [k3, (a2 x hxo).1, k1]
    have a4 : ∀ i, i ≠ σ.1 → i ≠ q → agr σ s3 i := fun i hi hq' => ((a1 i hq').trans (a2 i hi)).trans (a3 i hi)
    have z3 : s3.1 = σ.1 + 1 := by rw [hs3]; exact z2
    refine hk _ σ.1 w (by show σ.1 ≤ s3.1; omega) (by show s3.1 ≤ _; omega) (fun i hi hi1 hi2 => ?_) (Or.inr ⟨Nat.le_refl _, by show σ.1 < s3.1; omega⟩) ⟨kq, gI_ws, ?_, (k3 _).trans kn, by omega, ⟨by omega, by omega⟩, fun j hj => ?_⟩
    · exact (((a4 i (by omega) hi1).wR hi1).wR (by omega)).wI hi1
    · show gR (wR (wR s3 q 1 (σ.1 + 1)) σ.1 m (x + 1)) q 1 = _
      rw [gR_wn (by omega)]; exact gR_ws
    · show gR (wR (wR s3 q 1 (σ.1 + 1)) σ.1 m (x + 1)) σ.1 j = _
      by_cases z : j = m
      · subst z; rw [fu_same]; exact gR_ws
      · rw [fu_ne z, gR_wn (by omega), gR_wn (by omega), hs3, gR_wC (by omega), (a2 ar (by omega)).2.2.2, r1]
        exact h7 j (by omega)
theorem shl_0 (x : Int32) : x <<< ((0 : Int32) &&& 31) = x := by
  rw [show ((0 : Int32) &&& 31) = 0 by decide]
  exact Int32.shiftLeft_zero
theorem sgn_I {s : Nat} (h : s = 42 ∨ s = 43 ∨ s = 45 ∨ s = 47) : fits .byte (.int (nI s)) = true ∧ vp_nar .byte ((Int32.toInt8 (nI s)).toInt32) = nI s ∧ ¬ (255 : Int32) < nI s := by
  rcases h with rfl | rfl | rfl | rfl <;> exact ⟨by decide, by decide, by decide⟩
/-- the builder's last step -/
theorem cr_app {K : Nat → CS → Prop} {s : Nat} (hs : s = 42 ∨ s = 43 ∨ s = 45 ∨ s = 47) (h : SbX σ q yb cap m sg) (hm : m ≤ 640) (hmc : m < cap ∨ (1 ≤ mc ∧ 1282 ≤ ms)) (hq : q < σ.1) (hyb : yb < σ.1) (hqa : q ≠ yb) (hcb : σ.1 + 1 ≤ CB)
    (hk : ∀ σ' yb' cap', σ.1 ≤ σ'.1 → σ'.1 ≤ σ.1 + 1 → (∀ i, i < σ.1 ∨ CB ≤ i → i ≠ q → i ≠ yb → agr σ σ' i) → (yb' = yb ∨ (σ.1 ≤ yb' ∧ yb' < σ'.1)) → SbX σ' q yb' cap' (m + 1) (fu_ sg m s) → K (q + 1) σ') : U_J15_append mc ms σ q (nI s) K := by
  obtain ⟨h1, h2, h3, h4, h5, h6, h7, h8⟩ := h
  obtain ⟨g1, g2, g3⟩ := sgn_I hs
  have hqc : q < CB := by omega
  -- what follows when there is room
  have fin : ∀ (s1 : CS) (y c : Nat), gK s1 q = some kO22 → gI s1 q 1 = 0 → gI s1 q 3 = nI m → gR s1 q 0 = y + 1 → gK s1 y = some (.inr (1, c)) → m < c → c ≤ 9000 → y < CB → q ≠ y → (K (q + 1) (wI (wI s1 q 3 (nI (m + 1))) y m (nI s))) → (gK s1 q = some kO22 ∧ (U_J14_isLatin1 s1 q (fun r6 σ5 => (((r6 = 0 → (False)) ∧ (¬ r6 = 0 → (U_J9_canEncode σ5 (nI s) (fun r8 σ7 => (((r8 = 0 → (False)) ∧ (¬ r8 = 0 → (gK σ7 q = some kO22 ∧ (gK σ7 q = some kO22 ∧ (q < CB ∧ (gK σ7 q = some kO22 ∧ (∀ σ9 : CS, σ9 = wI σ7 q 3 ((gI σ7 q 3) + 1) → (∃ q10, (gR σ7 q 0) = q10 + 1 ∧ (q10 < CB ∧ (gK σ9 q10 = some (.inr (1, gN σ9 q10)) ∧ (vp_in (gI σ7 q 3) (gN σ9 q10) ∧ (∀ σ12 : CS, σ12 = wI σ9 q10 (Int32.toNatClampNeg (gI σ7 q 3)) (vp_nar .byte ((Int32.toInt8 (nI s)).toInt32)) → (K (q + 1) σ12)))))))))))))))))))))) := by
    intro s1 y c k1 k2 k3 k4 k5 k6 k7 k8 k9 hk
    refine ⟨k1, k1, bn_f k2 (br_f (by decide) (br_f g3 (br_f (by decide) ⟨k1, k1, hqc, k1, st_ ⟨y, k4, k8, gKN (σ := wI s1 q 3 (gI s1 q 3 + 1)) k5, ?_, st_ ?_⟩⟩)))⟩
    · rw [gN_of (σ := wI s1 q 3 (gI s1 q 3 + 1)) k5, k3]; exact vi_ k6 (by omega)
    · rw [k3, nI_1, nI_clamp (by omega), g2]; exact hk
  refine ⟨h1, mc, ms, ⟨by omega, by omega⟩, h1, h1, mc, ms, ⟨by omega, by omega⟩, h1, yb, h4, gKN h5, h1, ?_⟩
  rw [gN_of h5, h2, h3, shr_0, nI_1, show Int32.ofNat cap = nI cap from rfl]
  by_cases c : m < cap
  · refine br_t ?_ (fin σ yb cap h1 h2 h3 h4 h5 c h7 (by omega) hqa ?_)
    · rw [Int32.le_iff_toInt_le]
      have e : (nI (m + 1) - nI cap).toInt = (m + 1 : Int) - cap := by
        rw [Int32.toInt_sub, nI_toInt (by omega), nI_toInt (by omega), Int.bmod_eq_of_le (by omega) (by omega)]
        omega
      rw [e, Int32.toInt_zero]; omega
    refine hk _ yb cap (Nat.le_refl _) (Nat.le_succ _) (fun i _ hi1 hi2 => ((agr.refl σ i).wI hi1).wI hi2) (Or.inl rfl) ⟨h1, ?_, ?_, h4, h5, by omega, h7, fun j hj => ?_⟩
    · rw [gI_wn (by omega), gI_wn (by omega)]; exact h2
    · rw [gI_wn (by omega)]; exact gI_ws
    · by_cases z : j = m
      · subst z; rw [fu_same]; exact ⟨gI_ws, hs⟩
      · rw [fu_ne z, gI_wn (by omega), gI_wn (by omega)]; exact h8 j (by omega)
  · obtain rfl : m = cap := by omega
    obtain ⟨hmc1, hmc2⟩ := hmc.resolve_left c
    refine br_f ?_ ⟨h1, h1, h1, yb, h4, gKN h5, h1, h1, ?_⟩
    · rw [nI_sub (by omega), show m + 1 - m = 1 by omega]; decide
    rw [gN_of h5, h2, shl_0, shl_0, show Int32.ofNat m = nI m from rfl, nI_sub (by omega), show m + 1 - m = 1 by omega, show (nI m + 2 : Int32) = nI (m + 2) from nI_add m 2]
    refine cr_newLen (by omega) (by omega) (by omega) (by omega) ?_
    rw [if_pos (by omega)]
    obtain ⟨w, hw⟩ : ∃ w, w = m + (m + 2) := ⟨_, rfl⟩
    rw [← hw]
    refine bn_t (fun z => ?_) ⟨h1, h1, yb, h4, mc, ms, ⟨by omega, by omega⟩, gKN h5, ?_⟩
    · have := (nI_eq (a := w) (b := 2147483647) (by omega) (by omega)).mp z
      omega
    rw [h2, shr_0, shl_0, gN_of h5, show Int32.ofNat m = nI m from rfl]
    refine bn_t (fun z => ?_) ⟨nI_pos (by omega), ?_⟩
    · have := (nI_eq (a := w) (b := m) (by omega) (by omega)).mp z
      omega
    rw [nI_clamp (by omega)]
    refine ⟨by omega, ⟨hmc1, by omega⟩, by omega, st_ ?_⟩
    obtain ⟨s2, hs2⟩ : ∃ s2, s2 = nC σ (.inr (1, w)) := ⟨_, rfl⟩
    rw [← hs2]
    have z2 : s2.1 = σ.1 + 1 := by rw [hs2]; rfl
    have a2 : ∀ i, i ≠ σ.1 → agr σ s2 i := fun i hi => by rw [hs2]; exact (agr.refl σ i).nC hi
    have k2 : gK s2 yb = some (.inr (1, m)) := by rw [(a2 yb (by omega)).1]; exact h5
    have kn : gK s2 σ.1 = some (.inr (1, w)) := by rw [hs2]; exact gK_n
    rw [gN_of k2]
    refine ⟨k2, br_f (nI_nlt (by omega) (by omega)) ?_⟩
    dsimp only
    rw [gN_of k2, gN_of kn, show Int32.ofNat m = nI m from rfl, nI_clamp (by omega), cl_0]
    refine ⟨⟨by omega, by omega⟩, ⟨k2, kn⟩, ⟨by decide, by decide, nI_pos (by omega)⟩, ⟨by omega, by omega⟩, fun i hi => ⟨fun _ => ?_, fun z => absurd z (by decide)⟩, st_ ?_⟩
    · rw [Nat.zero_add, (a2 yb (by omega)).2.1, (h8 i hi).1]; exact (sgn_I (h8 i hi).2).1
    obtain ⟨s3, hs3⟩ : ∃ s3, s3 = wC s2 yb σ.1 0 0 m := ⟨_, rfl⟩
    rw [← hs3]
    have a3 : ∀ i, i ≠ σ.1 → agr s2 s3 i := fun i hi => by rw [hs3]; exact (agr.refl s2 i).wC hi
    have k3 : ∀ i, gK s3 i = gK s2 i := fun i => by rw [hs3]; rfl
    have kq : gK s3 q = some kO22 := by rw [k3, (a2 q (by omega)).1]; exact h1
    have a4 : ∀ i, i ≠ σ.1 → agr σ s3 i := fun i hi => (a2 i hi).trans (a3 i hi)
    have z3 : s3.1 = σ.1 + 1 := by rw [hs3]; exact z2
    refine ⟨hqc, kq, st_ (fin (wR s3 q 0 (σ.1 + 1)) σ.1 w kq ?_ ?_ gR_ws ((k3 _).trans kn) (by omega) (by omega) (by omega) (by omega) ?_)⟩
    · show gI s3 q 1 = 0
      rw [(a4 q (by omega)).2.1]; exact h2
    · show gI s3 q 3 = _
      rw [(a4 q (by omega)).2.1]; exact h3
    refine hk _ σ.1 w (by show σ.1 ≤ s3.1; omega) (by show s3.1 ≤ _; omega) (fun i hi hi1 hi2 => ?_) (Or.inr ⟨Nat.le_refl _, by show σ.1 < s3.1; omega⟩) ⟨kq, ?_, ?_, gR_ws, (k3 _).trans kn, by omega, by omega, fun j hj => ?_⟩
    · exact (((a4 i (by omega)).wR hi1).wI hi1).wI (by omega)
    · rw [gI_wn (by omega), gI_wn (by omega)]
      show gI s3 q 1 = 0
      rw [(a4 q (by omega)).2.1]; exact h2
    · rw [gI_wn (by omega)]; exact gI_ws
    · by_cases z : j = m
      · subst z; rw [fu_same]; exact ⟨gI_ws, hs⟩
      · rw [fu_ne z, gI_wn (by omega), gI_wn (by omega)]
        show gI s3 σ.1 j = _ ∧ _
        rw [hs3, gI_wC (by omega), (a2 yb (by omega)).2.1]
        exact h8 j (by omega)
end CA
