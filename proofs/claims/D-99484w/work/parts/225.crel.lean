/-! COMPONENT, PURE SIDE: the component holds a state of the whole. -/
def BaC (σ : CS) : Prop := (1296 ≤ σ.1 ∧ σ.1 ≤ CB) ∧ KoC σ ∧ StaC σ
def TpC (σ : CS) (B : Byt) (n : Nat) : Prop := n ≤ 1600 ∧ gI σ 0 2 = nI n ∧ (∀ i, i < 1600 → gI σ 8 i = sB (B i)) ∧ ∀ i, B i < 256
def FlC (σ : CS) (fk fp : Int32) (rf : Nat → Int32) : Prop := gI σ 0 3 = fk ∧ gI σ 0 4 = fp ∧ ∀ i, i < 6 → gI σ 15 i = rf i
def NwC (σ : CS) (s : St) : Prop := StC σ 16 s ∧ gI σ 16 9 = -1
def KpC (σ : CS) (U : List St) : Prop := U.length ≤ 20 ∧ gI σ 0 15 = nI U.length ∧ (∀ k, k < 20 → RwC σ (135 + 58 * k) 0 (fun _ => 0)) ∧ ∃ p : Nat → Nat, (∀ k, k < 20 → gR σ 134 k = 135 + 58 * p k + 1 ∧ p k < 20) ∧ (∀ k k', k < 20 → k' < 20 → p k = p k' → k = k') ∧ ∀ (j : Nat) s, U[j]? = some s → StC σ (135 + 58 * p (U.length - 1 - j)) s
def OuC (σ : CS) (O : Nat → Nat) (n : Nat) : Prop := n ≤ 43 ∧ gI σ 0 19 = nI n ∧ ∀ i, i < n → gI σ 1295 i = sB (O i) ∧ O i < 256
def RC (a : AS) (σ : CS) : Prop := BaC σ ∧ TpC σ (aTp a) (aTn a) ∧ FlC σ (aFk a) (aFp a) (aRf a) ∧ IsR σ (aI a) ∧ NwC σ (aS a) ∧ RwC σ 74 0 (fun _ => 0) ∧ KpC σ (aU a) ∧ gL σ 0 16 = aSd a ∧ OuC σ (aOu a) (aOn a)
/-- what the laws of operations know of a state of the whole -/
def AOK (a : AS) : Prop := IslOK (aI a) ∧ StOK (aS a) ∧ (∀ (j : Nat) s, (aU a)[j]? = some s → StOK s) ∧ (∀ fl, FsB (aI a) fl) ∧ (0 ≤ aSd a ∧ aSd a < 2147483648)
/-- cells that RC does not rest on -/
def scC (i : Nat) : Prop := i = 9 ∨ i = 10 ∨ i = 11 ∨ i = 12 ∨ i = 13 ∨ i = 14 ∨ i = 132 ∨ i = 133
def FrO (P J : Nat → Prop) (σ σ' : CS) : Prop := σ.1 ≤ σ'.1 ∧ σ'.1 ≤ CB ∧ (∀ i, i < σ.1 ∨ CB ≤ i → gK σ' i = gK σ i) ∧ (∀ i, i < σ.1 ∨ CB ≤ i → ¬ P i → i ≠ 0 → agr σ σ' i) ∧ gR σ' 0 = gR σ 0 ∧ gL σ' 0 = gL σ 0 ∧ ∀ j, ¬ J j → gI σ' 0 j = gI σ 0 j
abbrev noJ : Nat → Prop := fun _ => False
section CRl
variable {σ σ' σ'' : CS} {a : AS} {P Q J : Nat → Prop} {ob i : Nat} {B : Byt} {n : Nat} {fk fp : Int32} {rf : Nat → Int32} {s : St} {U : List St} {O : Nat → Nat}
theorem TpC.mv (h : TpC σ B n) (h0 : gI σ' 0 2 = gI σ 0 2) (h8 : gI σ' 8 = gI σ 8) : TpC σ' B n := ⟨h.1, h0.trans h.2.1, fun i hi => by rw [h8]; exact h.2.2.1 i hi, h.2.2.2⟩
theorem FlC.mv (h : FlC σ fk fp rf) (h3 : gI σ' 0 3 = gI σ 0 3) (h4 : gI σ' 0 4 = gI σ 0 4) (h5 : gI σ' 15 = gI σ 15) : FlC σ' fk fp rf := ⟨h3.trans h.1, h4.trans h.2.1, fun i hi => by rw [h5]; exact h.2.2 i hi⟩
theorem StC.mv (h : StC σ ob s) (f : ∀ i, ob ≤ i → i < ob + 58 → agr σ σ' i) : StC σ' ob s := ⟨h.1.fr (fun i h1 h2 => (f i h1 (by omega)).2.1), by rw [(f ob (Nat.le_refl _) (by omega)).2.1]; exact h.2.1, h.2.2.1, h.2.2.2.fr h.2.2.1 (fun i h1 h2 => f i (by omega) (by omega))⟩
theorem NwC.mv (h : NwC σ s) (f : ∀ i, 16 ≤ i → i < 74 → agr σ σ' i) : NwC σ' s := ⟨h.1.mv f, by rw [(f 16 (by omega) (by omega)).2.1]; exact h.2⟩
theorem KpC.mv (h : KpC σ U) (h0 : gI σ' 0 15 = gI σ 0 15) (f : ∀ i, 134 ≤ i → i < 1295 → agr σ σ' i) : KpC σ' U := by
  obtain ⟨a1, a2, a3, p, p1, p2, p3⟩ := h
  refine ⟨a1, h0.trans a2, fun k hk => (a3 k hk).fr (by omega) (fun i h1 h2 => f i (by omega) (by omega)), p, fun k hk => ?_, p2, fun j s hj => (p3 j s hj).mv (fun i h1 h2 => ?_)⟩
  · rw [(f 134 (by omega) (by omega)).2.2.2]; exact p1 k hk
  · have hj : j < U.length := by
      rcases Nat.lt_or_ge j U.length with hlt | hge
      · exact hlt
      · rw [List.getElem?_eq_none hge] at hj; cases hj
    have := (p1 (U.length - 1 - j) (by omega)).2
    exact f i (by omega) (by omega)
theorem OuC.mv (h : OuC σ O n) (h0 : gI σ' 0 19 = gI σ 0 19) (h1 : gI σ' 1295 = gI σ 1295) : OuC σ' O n := ⟨h.1, h0.trans h.2.1, fun i hi => by rw [h1]; exact h.2.2 i hi⟩
theorem BaC.mv (h : BaC σ) (hz : σ.1 ≤ σ'.1) (hc : σ'.1 ≤ CB) (hK : ∀ i, i < σ.1 ∨ CB ≤ i → gK σ' i = gK σ i) (hC : ∀ i, CB ≤ i → agr σ σ' i) : BaC σ' := by
  obtain ⟨⟨b1, b2⟩, b3, b4⟩ := h
  refine ⟨⟨by omega, hc⟩, fun i hi => ?_, fun i hi => ?_⟩
  · obtain ⟨c1, c2, c3, c4⟩ := hC i hi
    rw [c1, c2, c4]; exact b3 i hi
  · rw [hK i (Or.inl (by omega))]; exact b4 i hi
theorem FrX.toO (h : FrX P σ σ') (hc : σ.1 ≤ CB) (hP : ¬ P 0) : FrO P noJ σ σ' := ⟨Nat.le_of_eq h.1.symm, by rw [h.1]; exact hc, fun i _ => h.2.1 i, fun i _ hi _ => h.2.2 i hi, (h.2.2 0 hP).2.2.2, (h.2.2 0 hP).2.2.1, fun j _ => by rw [(h.2.2 0 hP).2.1]⟩
theorem RC.z (h : RC a σ) : σ.1 ≤ CB := h.1.1.2
theorem RC.ko (h : RC a σ) : KoC σ := h.1.2.1
theorem RC.sta (h : RC a σ) : StaC σ := h.1.2.2
theorem RC.of (h : RC a σ) (f : FrO P J σ σ') (hP : ∀ i, P i → scC i ∨ obP 74 i) (hJ : ∀ j, J j → j = 13 ∨ j = 17) (hr : RwC σ' 74 0 (fun _ => 0)) : RC a σ' := by
  obtain ⟨b, t, fl, is, nw, -, kp, sd, ou⟩ := h
  obtain ⟨f1, f2, f3, f4, f5, f6, f7⟩ := f
  have hz := b.1.1
  have hcb := CBv
  have nP : ∀ i, (i = 8 ∨ i = 15 ∨ (16 ≤ i ∧ i < 74) ∨ (134 ≤ i) ∨ (0 < i ∧ i < 8)) → ¬ P i := fun i hi z => by
    rcases hP i z with h | h
    · unfold scC at h; omega
    · unfold obP at h; omega
  have ag : ∀ i, (i = 8 ∨ i = 15 ∨ (16 ≤ i ∧ i < 74) ∨ (134 ≤ i ∧ i < 1296) ∨ (0 < i ∧ i < 8)) → agr σ σ' i := fun i hi => f4 i (Or.inl (by omega)) (nP i (by omega)) (by omega)
  have g0 : ∀ j, j ≠ 13 → j ≠ 17 → gI σ' 0 j = gI σ 0 j := fun j h1 h2 => f7 j (fun z => by have := hJ j z; omega)
  refine ⟨b.mv f1 f2 f3 (fun i hi => f4 i (Or.inr hi) (nP i (by omega)) (by omega)), t.mv (g0 2 (by omega) (by omega)) (ag 8 (by omega)).2.1, fl.mv (g0 3 (by omega) (by omega)) (g0 4 (by omega) (by omega)) (ag 15 (by omega)).2.1, is.fr (by rw [f5]) (fun i hi => ?_) f1, nw.mv (fun i h1 h2 => ag i (by omega)), hr, kp.mv (g0 15 (by omega) (by omega)) (fun i h1 h2 => ag i (by omega)), by rw [f6]; exact sd, ou.mv (g0 19 (by omega) (by omega)) (ag 1295 (by omega)).2.1⟩
  rcases hi with h | h
  · exact ag i (by omega)
  · exact f4 i (Or.inl h.2) (nP i (by omega)) (by omega)
theorem RC.sc (h : RC a σ) (f : FrX P σ σ') (hP : ∀ i, P i → scC i) : RC a σ' :=
  h.of (f.toO h.z (fun z => by have := hP 0 z; unfold scC at this; omega)) (fun i z => Or.inl (hP i z)) (fun _ z => z.elim)
    (h.2.2.2.2.2.1.fr (by omega) (fun i h1 h2 => f.2.2 i (fun z => by have := hP i z; unfold scC at this; omega)))
theorem RC.p12 (h : RC a σ) (f : FrX P12 σ σ') : RC a σ' := h.sc f (fun i z => by have : i = 12 := z; unfold scC; omega)
theorem StC.rw0 (h : StC σ ob s) : RwC σ ob 0 (fun _ => 0) := h.2.2.2.zero
/-- the tried state may be anything -/
theorem RC.tr (h : RC a σ) (f : FrX P σ σ') (hP : ∀ i, P i → scC i ∨ obP 74 i) (hr : RwC σ' 74 0 (fun _ => 0)) : RC a σ' :=
  h.of (f.toO h.z (fun z => by have := hP 0 z; unfold scC obP at this; omega)) hP (fun _ z => z.elim) hr
theorem RC.now (h : RC a σ) (f : FrX (stP 16) σ σ') (hs : NwC σ' s) : RC (aSetS a s (aU a)) σ' := by
  obtain ⟨b, t, fl, is, nw, tr, kp, sd, ou⟩ := h
  have nP : ∀ i, i ≠ 12 → ¬ (16 ≤ i ∧ i < 74) → agr σ σ' i := fun i h1 h2 => f.2.2 i (fun z => by unfold stP at z; omega)
  have hcb := CBv
  refine ⟨b.mv (Nat.le_of_eq f.1.symm) (by rw [f.1]; exact b.1.2) (fun i _ => f.2.1 i) (fun i hi => nP i (by omega) (by omega)), t.mv (by rw [(nP 0 (by omega) (by omega)).2.1]) (nP 8 (by omega) (by omega)).2.1, fl.mv (by rw [(nP 0 (by omega) (by omega)).2.1]) (by rw [(nP 0 (by omega) (by omega)).2.1]) (nP 15 (by omega) (by omega)).2.1, is.frX f (fun i hi => stP_not (Or.inl rfl) hi), hs, tr.fr (by omega) (fun i h1 h2 => nP i (by omega) (by omega)), kp.mv (by rw [(nP 0 (by omega) (by omega)).2.1]) (fun i h1 h2 => nP i (by omega) (by omega)), ?_, ou.mv (by rw [(nP 0 (by omega) (by omega)).2.1]) (nP 1295 (by omega) (by omega)).2.1⟩
  rw [(nP 0 (by omega) (by omega)).2.2.1]; exact sd
theorem RC.ev (h : RC a σ) (ha : AOK a) : EvB σ 16 (aI a) (-1, 0) (aS a).1 := ⟨h.2.2.2.1, ha.1.1, by omega, h.2.2.2.2.1.1.1, h.2.2.2.2.1.2, fun z => absurd rfl z⟩
theorem RC.dy (h : RC a σ) (ha : AOK a) : DyB σ 16 (aI a) (-1, 0) (aS a) := ⟨h.ev ha, h.2.2.2.2.1.1, ha.2.1.bd, h.sta, Or.inl rfl⟩
/-- one more is refused -/
theorem RC.ref (h : RC a σ) {k : Nat} (hk : k < 6) : RC (aRef a k) (wI σ 15 k (gI σ 15 k + 1)) := by
  obtain ⟨b, t, fl, is, nw, tr, kp, sd, ou⟩ := h
  have ag : ∀ i, i ≠ 15 → agr σ (wI σ 15 k (gI σ 15 k + 1)) i := fun i hi => (agr.refl σ i).wI hi
  have hcb := CBv
  refine ⟨b.mv (Nat.le_refl _) b.1.2 (fun i _ => rfl) (fun i hi => ag i (by omega)), t.mv (by rw [(ag 0 (by omega)).2.1]) (ag 8 (by omega)).2.1, ⟨?_, ?_, fun i hi => ?_⟩, is.fr rfl (fun i hi => ag i (by have := dyn_not hi; omega)) (Nat.le_refl _), nw.mv (fun i h1 h2 => ag i (by omega)), tr.fr (by omega) (fun i h1 h2 => ag i (by omega)), kp.mv (by rw [(ag 0 (by omega)).2.1]) (fun i h1 h2 => ag i (by omega)), sd, ou.mv (by rw [(ag 0 (by omega)).2.1]) (ag 1295 (by omega)).2.1⟩
  · rw [(ag 0 (by omega)).2.1]; exact fl.1
  · rw [(ag 0 (by omega)).2.1]; exact fl.2.1
  · show _ = fu_ (aRf a) k (aRf a k + 1) i
    by_cases h1 : i = k
    · subst h1; rw [gI_ws, fu_same, fl.2.2 i hi]
    · rw [gI_wn (by omega), fu_ne h1]; exact fl.2.2 i hi
theorem co_refuses {K : Int32 → CS → Prop} {k : Nat} (h : RC a σ) (hk : k < 6) (go : ∀ σ', RC (aRef a k) σ' → K (-1) σ') : U_X0_refuses σ (nI k) K := by
  unfold U_X0_refuses
  rw [nI_clamp (by omega)]
  exact ⟨vi_ hk (by omega), vi_ hk (by omega), st_ (go _ (h.ref hk))⟩
end CRl
