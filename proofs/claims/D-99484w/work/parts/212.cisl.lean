/-! COMPONENT, PURE SIDE: an island as objects. -/
def ElC (σ : CS) (S : Nat → Prop) (I : Isl) (kd j q : Nat) : Prop := S q ∧ NmC σ S q (iN I (8 * kd + j)) ∧ (kd = 0 → gK σ q = some kO7 ∧ gI σ q 1 = nI (iX I (3 * j)) ∧ gI σ q 2 = nI (iX I (3 * j + 1)) ∧ gI σ q 3 = nI (iX I (3 * j + 2))) ∧ (kd = 1 → gK σ q = some kO8 ∧ gI σ q 1 = nI (iX I (24 + 2 * j)) ∧ gI σ q 2 = nI (iX I (24 + 2 * j + 1))) ∧ (kd = 2 → gK σ q = some kO9 ∧ ∃ tq v, gR σ q 1 = tq + 1 ∧ iT I (5 + j) = some v ∧ TC 1 σ S 45 tq v)
def OpT (σ : CS) (S : Nat → Prop) (tk r : Nat) (o : Option TT) : Prop := match o with
  | none => r = 0
  | some v => ∃ q, r = q + 1 ∧ TC tk σ S 45 q v
def OpV (σ : CS) (S : Nat → Prop) (tk r : Nat) (o : Option VV) : Prop := match o with
  | none => r = 0
  | some v => ∃ q, r = q + 1 ∧ VC tk σ S 45 q v
def LwC (σ : CS) (S : Nat → Prop) (t : Nat) (I : Isl) : Prop := OpT σ S 1 (gR σ t 5) (iT I 0) ∧ OpT σ S 0 (gR σ t 6) (iT I 1) ∧ OpV σ S 2 (gR σ t 7) (iV I 2) ∧ OpV σ S 2 (gR σ t 8) (iV I 3) ∧ OpV σ S 0 (gR σ t 9) (iV I 4) ∧ gI σ t 1 = nI (iX I 40)
/-- an island that grows: its own cells are t .. t + 6 and its lists' arrays, its things' cells are S -/
def IsX (σ : CS) (t : Nat) (I : Isl) (S : Nat → Prop) : Prop := ∃ (a cp : Nat → Nat) (el : Nat → Nat → Nat), gK σ t = some kO1 ∧ (∀ kd, kd < 3 → gR σ t (2 + kd) = t + 1 + 2 * kd + 1 ∧ LsX σ (t + 1 + 2 * kd) (a kd) (cp kd) (iC I kd) (el kd) ∧ iC I kd ≤ 8 ∧ (a kd = t + 2 + 2 * kd ∨ t + 7 ≤ a kd) ∧ a kd < σ.1 ∧ ¬ S (a kd)) ∧ (∀ kd kd', kd < 3 → kd' < 3 → kd ≠ kd' → a kd ≠ a kd') ∧ (∀ i, S i → t + 7 ≤ i ∧ i < σ.1) ∧ t + 7 ≤ σ.1 ∧ (∀ kd j, kd < 3 → j < iC I kd → ElC σ S I kd j (el kd j)) ∧ LwC σ S t I
/-- an island as it stands, in the cells S -/
def IslC (σ : CS) (S : Nat → Prop) (t : Nat) (I : Isl) : Prop := S t ∧ gK σ t = some kO1 ∧ (∀ kd, kd < 3 → ∃ l el, gR σ t (2 + kd) = l + 1 ∧ LsC σ S l (iC I kd) el ∧ ∀ j, j < iC I kd → ElC σ S I kd j (el j)) ∧ LwC σ S t I
section CI
variable {σ0 σ σ' : CS} {i j k k' n o q x mc ms c m tk d t id kd st : Nat} {B : Byt} {S S' : Nat → Prop} {w : List Nat} {I I' : Isl}
theorem isNm_k (h : isNm σ q) (e : gK σ' q = gK σ q) : isNm σ' q := by unfold isNm at h ⊢; rw [e]; exact h
theorem NmC.fr {nm : List Nat} (h : NmC σ S q nm) (hq : agr σ σ' q) (f : ∀ i, S i → agr σ σ' i) (m : ∀ i, S i → S' i) : NmC σ' S' q nm := by
  obtain ⟨h1, nq, h2, h3⟩ := h
  exact ⟨isNm_k h1 hq.1, nq, by rw [hq.2.2.2]; exact h2, h3.fr f m⟩
theorem ElC.fr (h : ElC σ S I kd j q) (f : ∀ i, S i → agr σ σ' i) (m : ∀ i, S i → S' i) : ElC σ' S' I kd j q := by
  obtain ⟨h1, h2, h3, h4, h5⟩ := h
  have fq := f q h1
  refine ⟨m q h1, h2.fr fq f m, fun e => ?_, fun e => ?_, fun e => ?_⟩
  · rw [fq.1, fq.2.1]; exact h3 e
  · rw [fq.1, fq.2.1]; exact h4 e
  · obtain ⟨a1, tq, v, a2, a3, a4⟩ := h5 e
    exact ⟨by rw [fq.1]; exact a1, tq, v, by rw [fq.2.2.2]; exact a2, a3, TC.fr f m _ _ _ a4⟩
theorem OpT.fr {tk r : Nat} {oo : Option TT} (h : OpT σ S tk r oo) (f : ∀ i, S i → agr σ σ' i) (m : ∀ i, S i → S' i) : OpT σ' S' tk r oo := by
  cases oo with
  | none => exact h
  | some v => obtain ⟨q, h1, h2⟩ := h; exact ⟨q, h1, TC.fr f m _ _ _ h2⟩
theorem OpV.fr {tk r : Nat} {oo : Option VV} (h : OpV σ S tk r oo) (f : ∀ i, S i → agr σ σ' i) (m : ∀ i, S i → S' i) : OpV σ' S' tk r oo := by
  cases oo with
  | none => exact h
  | some v => obtain ⟨q, h1, h2⟩ := h; exact ⟨q, h1, VC.fr f m _ _ _ h2⟩
theorem LwC.fr (h : LwC σ S t I) (ht : agr σ σ' t) (f : ∀ i, S i → agr σ σ' i) (m : ∀ i, S i → S' i) : LwC σ' S' t I := by
  obtain ⟨h1, h2, h3, h4, h5, h6⟩ := h
  unfold LwC
  rw [ht.2.2.2, ht.2.1]
  exact ⟨h1.fr f m, h2.fr f m, h3.fr f m, h4.fr f m, h5.fr f m, h6⟩
theorem IslC.fr (h : IslC σ S t I) (f : ∀ i, S i → agr σ σ' i) (m : ∀ i, S i → S' i) : IslC σ' S' t I := by
  obtain ⟨h1, h2, h3, h4⟩ := h
  have ft := f t h1
  refine ⟨m t h1, by rw [ft.1]; exact h2, fun kd hkd => ?_, h4.fr ft f m⟩
  obtain ⟨l, el, a1, a2, a3⟩ := h3 kd hkd
  exact ⟨l, el, by rw [ft.2.2.2]; exact a1, a2.fr f m, fun j hj => (a3 j hj).fr f m⟩
theorem IsX.lt (h : IsX σ t I S) : t + 7 ≤ σ.1 := by
  obtain ⟨a, cp, el, -, -, -, -, h5, -⟩ := h
  exact h5
theorem IsX.grow (h : IsX σ t I S) (f : ∀ i, t ≤ i → i < σ.1 → agr σ σ' i) (hz : σ.1 ≤ σ'.1) : IsX σ' t I (fun i => S i ∨ newS σ.1 σ'.1 i) := by
  obtain ⟨a, cp, el, h1, h2, h3, h4, h5, h6, h7⟩ := h
  have fS : ∀ i, S i → agr σ σ' i := fun i hi => f i (by have := h4 i hi; omega) (h4 i hi).2
  refine ⟨a, cp, el, by rw [(f t (Nat.le_refl _) (by omega)).1]; exact h1, fun kd hkd => ?_, h3, fun i hi => ?_, by omega, fun kd j hkd hj => (h6 kd j hkd hj).fr fS (fun _ h => Or.inl h), h7.fr (f t (Nat.le_refl _) (by omega)) fS (fun _ h => Or.inl h)⟩
  · obtain ⟨a1, a2, a3, a4, a5, a6⟩ := h2 kd hkd
    refine ⟨by rw [(f t (Nat.le_refl _) (by omega)).2.2.2]; exact a1, a2.fr (f _ (by omega) (by omega)) (f _ (by omega) a5), a3, a4, by omega, fun z => ?_⟩
    rcases z with z | z
    · exact a6 z
    · have := z.1; omega
  · rcases hi with hi | hi
    · have := h4 i hi; omega
    · have := hi.1; have := hi.2; omega
theorem IsX.size (h : IsX σ t I S) (hkd : kd < 3) : ∃ l, gR σ t (2 + kd) = l + 1 ∧ gK σ l = some kO20 ∧ gI σ l 2 = nI (iC I kd) ∧ iC I kd ≤ 8 := by
  obtain ⟨a, cp, el, h1, h2, h3, h4, h5, h6, h7⟩ := h
  obtain ⟨a1, a2, a3, -⟩ := h2 kd hkd
  exact ⟨_, a1, a2.1, a2.2.1, a3⟩
theorem IsX.isl (h : IsX σ t I S) : IslC σ (newS t σ.1) t I := by
  obtain ⟨a, cp, el, h1, h2, h3, h4, h5, h6, h7⟩ := h
  have mS : ∀ i, S i → newS t σ.1 i := fun i hi => by have := h4 i hi; exact ⟨by omega, by omega⟩
  refine ⟨⟨Nat.le_refl _, by omega⟩, h1, fun kd hkd => ?_, h7.fr (agr.refl σ t) (fun i _ => agr.refl σ i) mS⟩
  obtain ⟨a1, a2, a3, a4, a5, a6⟩ := h2 kd hkd
  exact ⟨_, el kd, a1, a2.c (by omega) ⟨by omega, by omega⟩ ⟨by omega, a5⟩, fun j hj => (h6 kd j hkd hj).fr (fun i _ => agr.refl σ i) mS⟩
/-- an element more -/
theorem cr_isAdd {K : Int32 → CS → Prop} (h : IsX σ t I S) (hkd : kd < 3) (hc : iC I kd < 8) (hmc : 1 ≤ mc) (hms : 961 ≤ ms) (hcb : σ.1 + 1 ≤ CB) (hI : ∀ kd', iC I' kd' = if kd' = kd then iC I kd + 1 else iC I kd')
    (hel : ∀ kd' j q, kd' < 3 → j < iC I kd' → ElC σ S I kd' j q → ElC σ S I' kd' j q) (hlw : LwC σ S t I → LwC σ S t I') (hq : ElC σ S I' kd (iC I kd) q)
    (hk : ∀ σ', σ.1 ≤ σ'.1 → σ'.1 ≤ σ.1 + 1 → (∀ i, i < t ∨ CB ≤ i ∨ i = t ∨ S i → agr σ σ' i) → IsX σ' t I' S → K 1 σ') : ∃ l, gR σ t (2 + kd) = l + 1 ∧ gK σ l = some kO20 ∧ U_J2_add mc ms σ l q K := by
  obtain ⟨a, cp, el, h1, h2, h3, h4, h5, h6, h7⟩ := h
  obtain ⟨a1, a2, a3, a4, a5, a6⟩ := h2 kd hkd
  have eS : ∀ j, j < iC I kd → isC "java/lang/Object" σ (el kd j) ∧ S (el kd j) := fun j hj => ⟨isNm_O (h6 kd j hkd hj).2.1.1, (h6 kd j hkd hj).1⟩
  have hqS := h4 q hq.1
  refine ⟨_, a1, a2.1, cr_add a2 (by omega) (Or.inr ⟨hmc, hms⟩) (by omega) a5 (by omega) hcb (fun j hj => (eS j hj).1) (isNm_O hq.2.1.1) (by omega) (fun j hj => by have := h4 _ (eS j hj).2; omega) fun s2 ar2 cap2 z1 z2 fr ha ls => ?_⟩
  have fS : ∀ i, S i → agr σ s2 i := fun i hi => fr i (Or.inl (h4 i hi).2) (by have := h4 i hi; omega) (fun e => a6 (e ▸ hi))
  have ft : agr σ s2 t := fr t (Or.inl (by omega)) (by omega) (by omega)
  refine hk s2 z1 z2 (fun i hi => ?_) ⟨fu_ a kd ar2, fu_ cp kd cap2, fu_ el kd (fu_ (el kd) (iC I kd) q), by rw [ft.1]; exact h1, fun kd' hkd' => ?_, fun k1 k2 hk1 hk2 hne => ?_, fun i hi => by have := h4 i hi; omega, by omega, fun kd' j hkd' hj => ?_, (hlw h7).fr ft fS (fun _ h => h)⟩
  · rcases hi with hi | hi | hi | hi
    · exact fr i (Or.inl (by omega)) (by omega) (by omega)
    · exact fr i (Or.inr hi) (by omega) (by omega)
    · subst hi; exact ft
    · exact fS i hi
  · by_cases e : kd' = kd
    · subst e
      rw [fu_same, fu_same, fu_same, hI, if_pos rfl]
      refine ⟨by rw [ft.2.2.2]; exact a1, ls, by omega, by omega, by omega, fun z => ?_⟩
      have := h4 _ z
      rcases ha with e | e
      · exact a6 (e ▸ z)
      · omega
    · obtain ⟨b1, b2, b3, b4, b5, b6⟩ := h2 kd' hkd'
      rw [fu_ne e, fu_ne e, fu_ne e, hI, if_neg e]
      have hne := h3 kd' kd hkd' hkd e
      exact ⟨by rw [ft.2.2.2]; exact b1, b2.fr (fr _ (Or.inl (by omega)) (by omega) (by omega)) (fr _ (Or.inl b5) (by omega) hne), b3, b4, by omega, b6⟩
  · by_cases e1 : k1 = kd
    · subst e1
      have h2k := (h2 k2 hk2).2.2.2.2.1
      rw [fu_same, fu_ne (fun z => hne z.symm)]
      have := h3 k1 k2 hk1 hk2 hne
      rcases ha with e | e
      · rw [e]; exact this
      · omega
    · by_cases e2 : k2 = kd
      · subst e2
        have h2k := (h2 k1 hk1).2.2.2.2.1
        rw [fu_same, fu_ne e1]
        have := h3 k1 k2 hk1 hk2 hne
        rcases ha with e | e
        · rw [e]; exact this
        · omega
      · rw [fu_ne e1, fu_ne e2]; exact h3 k1 k2 hk1 hk2 hne
  · by_cases e : kd' = kd
    · subst e
      rw [fu_same]
      rw [hI, if_pos rfl] at hj
      by_cases z : j = iC I kd'
      · subst z; rw [fu_same]; exact hq.fr fS (fun _ h => h)
      · rw [fu_ne z]; exact (hel _ _ _ hkd' (by omega) (h6 _ j hkd' (by omega))).fr fS (fun _ h => h)
    · rw [fu_ne e]
      rw [hI, if_neg e] at hj
      exact (hel _ _ _ hkd' hj (h6 _ j hkd' hj)).fr fS (fun _ h => h)
/-- the reader at k, the island t holding I, st statements -/
def BuC (B : Byt) (n : Nat) (σ : CS) (k t : Nat) (I : Isl) (st : Nat) : Prop := RdC B n σ k 0 ∧ gR σ 9 6 = t + 1 ∧ gI σ t 0 = nI st ∧ 1296 ≤ t ∧ ∃ S, IsX σ t I S
theorem BuC.fr (h : BuC B n σ k t I st) (f : FrC σ σ') (g : RdC B n σ' k' 0) : BuC B n σ' k' t I st := by
  obtain ⟨h1, h2, h3, h4, S, h5⟩ := h
  have hl := h5.lt
  have hs := h1.sz
  have ag : ∀ i, t ≤ i → i < σ.1 → agr σ σ' i := fun i a b => f.agr (Or.inl b) (by omega) (by omega)
  exact ⟨g, by rw [(f.2 9 (Or.inl (by omega))).2.2.1]; exact h2, by rw [(ag t (Nat.le_refl _) (by omega)).2.1]; exact h3, h4, _, h5.grow ag f.1⟩
theorem BuC.rd (h : BuC B n σ k t I st) : RdC B n σ k 0 := h.1
theorem BuC.kind (h : BuC B n σ k t I st) : gK σ t = some kO1 := by
  obtain ⟨-, -, -, -, S, a, cp, el, h1, -⟩ := h
  exact h1
theorem BuC.lt (h : BuC B n σ k t I st) : t + 7 ≤ σ.1 ∧ 1296 ≤ t := ⟨by obtain ⟨-, -, -, -, S, h5⟩ := h; exact h5.lt, h.2.2.2.1⟩
theorem LsX.c0 {ar cap m : Nat} {el : Nat → Nat} (h : LsX σ q ar cap m el) (hm : m ≤ 2000) : LsC σ (fun _ => True) q m el := h.c hm trivial trivial
/-- whether a name is taken -/
theorem cr_isNam {K : Int32 → CS → Prop} {nq : Nat} (h : IsX σ t I S) (hw : StrC σ (fun _ => True) nq w) (hnq : nq < CB) (hk : K (b1 (isNam I w)) σ) : U_X1_isNamed σ t nq K := by
  obtain ⟨a, cp, el, h1, h2, h3, h4, h5, h6, h7⟩ := h
  have yes : ∀ kd j, kd < 3 → j < iC I kd → iN I (8 * kd + j) = w → isNam I w = true := fun kd j hkd hj e => by
    unfold isNam
    rw [List.any_eq_true]
    refine ⟨kd, List.mem_range.mpr hkd, ?_⟩
    rw [List.any_eq_true]
    exact ⟨j, List.mem_range.mpr hj, decide_eq_true e⟩
  have one : ∀ kd (K' : Int32 → CS → Prop), kd < 3 → (∀ r, ¬ r = -1 → isNam I w = true → K' r σ) → ((∀ j, j < iC I kd → iN I (8 * kd + j) ≠ w) → K' (-1) σ) → U_X7_find σ (t + 1 + 2 * kd) nq K' := by
    intro kd K' hkd hy hn
    obtain ⟨a1, a2, a3, a4, a5, a6⟩ := h2 kd hkd
    refine cr_nfind (N := fun j => iN I (8 * kd + j)) (a2.c0 (by omega)) (by omega) (fun j hj => (h6 kd j hkd hj).2.1) hw hnq (fun j hj e => hy _ (fun z => nI_m1 (by omega) z.symm) (yes kd j hkd hj e)) hn
  refine ⟨h1, t + 1, (h2 0 (by omega)).1, one 0 _ (by omega) (fun r hr hy => ?_) (fun h0 => ?_)⟩
  · rw [hy] at hk; exact bn_t hr hk
  · refine bn_f rfl ⟨h1, t + 3, (h2 1 (by omega)).1, one 1 _ (by omega) (fun r hr hy => ?_) (fun h10 => ?_)⟩
    · rw [hy] at hk; exact bn_t hr hk
    · refine bn_f rfl ⟨h1, t + 5, (h2 2 (by omega)).1, one 2 _ (by omega) (fun r hr hy => ?_) (fun h20 => ?_)⟩
      · rw [hy] at hk; exact br_f hr hk
      · have : isNam I w = false := by
          unfold isNam
          rw [List.any_eq_false]
          intro kd hkd
          rw [Bool.not_eq_true, List.any_eq_false]
          intro j hj
          have hkd := List.mem_range.mp hkd
          have hj := List.mem_range.mp hj
          rw [decide_eq_true_eq]
          rcases (show kd = 0 ∨ kd = 1 ∨ kd = 2 by omega) with rfl | rfl | rfl
          · exact h0 j hj
          · exact h10 j hj
          · exact h20 j hj
        rw [this] at hk
        exact br_t rfl hk
theorem pNme_pr {nm : List Nat} {q : Nat} (hk : k ≤ n) (e : pNme B n I k = .inr (nm, q)) : k < q ∧ q ≤ n := by
  rw [pNme_eq] at e
  obtain ⟨r, h1, e⟩ := rsB_inr e
  unfold pNm0 at h1
  obtain ⟨r2, h2, h1⟩ := rsB_inr h1
  have p1 := pWord_pr (p := r2.1) (k' := r2.2) hk h2
  split at h1
  · cases h1
  · split at h1
    · cases h1
    · injection h1 with h1
      subst h1
      split at e
      · cases e
      · injection e with e
        injection e with e1 e2
        omega
theorem cr_fresh {K : Nat → CS → Prop} {E : CS → Prop} (h : BuC B n σ k t I st) (hm : 3 ≤ mc) (hs : 2564 ≤ ms) (hcb : σ.1 + 3 ≤ CB) (hE : ∀ e, pNme B n I k = .inl e → ErC mc σ E e)
    (hK : ∀ nm q, pNme B n I k = .inr (nm, q) → ∀ σ' s, FrC σ σ' → σ'.1 ≤ σ.1 + 3 → BuC B n σ' q t I st → StrC σ' (newS σ.1 σ'.1) s nm → K (s + 1) σ') : U_X2_fresh mc ms σ K E := by
  rw [pNme_eq] at hE hK
  refine ⟨mc, ms, ⟨by omega, by omega⟩, cr_name h.rd hm hs hcb (fun e he => hE e (by rw [he]; rfl)) (fun p q hz hp1 hp2 hp3 s1 r f1 f2 f3 f4 f5 => ?_)⟩
  rw [hz] at hE hK
  have hb := h.fr f1 f3
  have hE : ∀ e, (if isNam I (wd B p q) then Sum.inl (3, p) else Sum.inr (wd B p q, q) : Rs (List Nat × Nat)) = .inl e → ErC mc σ E e := hE
  have hK := fun nm q' (e : (if isNam I (wd B p q) then Sum.inl (3, p) else Sum.inr (wd B p q, q) : Rs (List Nat × Nat)) = .inr (nm, q')) => hK nm q' e
  have hr : r < CB := by have := f5.1.1.2; have := f3.sz; omega
  obtain ⟨S, hX⟩ := hb.2.2.2.2
  refine ⟨t, hb.2.1, r, rfl, hb.kind, cr_isNam hX (f5.1.fr (fun i _ => agr.refl s1 i) (fun _ _ => trivial)) hr ?_⟩
  cases hn : isNam I (wd B p q) with
  | true =>
    rw [hn, if_pos rfl] at hE
    exact br_f (by decide) (cr_wrong (mc := 0) rfl f4 ((hE _ rfl).go f1 (by omega)))
  | false => exact br_t rfl (hK _ _ (by rw [hn]; rfl) s1 r f1 f2 hb f5.1)
end CI
