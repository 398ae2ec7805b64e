/-! COMPONENT, PURE SIDE: the reader's state, its leaves. -/
abbrev agrX (σ σ' : CS) (i : Nat) : Prop := agr σ σ' i
theorem CBv : CB = 1048576 := rfl
def scR (i j : Nat) : Prop := (i = 9 ∧ (j = 2 ∨ j = 3 ∨ j = 4)) ∨ (i = 10 ∧ (j = 6 ∨ j = 7))
/-- since σ old cells have kept all but the reader's place, its openings, the fault's kind and place -/
def FrC (σ σ' : CS) : Prop := σ.1 ≤ σ'.1 ∧ ∀ i, i < σ.1 ∨ CB ≤ i → gK σ' i = gK σ i ∧ gL σ' i = gL σ i ∧ gR σ' i = gR σ i ∧ ∀ j, ¬ scR i j → gI σ' i j = gI σ i j
/-- old cells have kept all -/
def FrS (σ σ' : CS) : Prop := σ.1 ≤ σ'.1 ∧ ∀ i, i < σ.1 ∨ CB ≤ i → agr σ σ' i
def KoC (σ : CS) : Prop := ∀ i, CB ≤ i → gK σ i = kLay i ∧ gI σ i = kI i ∧ gR σ i = kR i
def sB (c : Nat) : Int32 := if c < 128 then nI c else nI c - 256
theorem sB_255 : ∀ c, c < 256 → sB c &&& 255 = nI c := by decide +kernel
def RdC (B : Byt) (n : Nat) (σ : CS) (k o : Nat) : Prop := (1296 ≤ σ.1 ∧ σ.1 ≤ CB) ∧ (k ≤ n ∧ n ≤ 1280 ∧ o ≤ 6 ∧ ∀ i, B i < 256) ∧ gI σ 9 1 = nI n ∧ gI σ 9 2 = nI k ∧ gI σ 9 4 = nI o ∧ (∀ i, i < 1600 → gI σ 8 i = sB (B i)) ∧ KoC σ
section CR
variable {σ0 σ σ' σ'' : CS} {i j a b k k' n o o' : Nat} {B : Byt}
theorem scR_CB (h : CB ≤ i) : ¬ scR i j := by
  rw [CBv] at h
  unfold scR; omega
theorem FrC.refl (σ : CS) : FrC σ σ := ⟨Nat.le_refl _, fun _ _ => ⟨rfl, rfl, rfl, fun _ _ => rfl⟩⟩
theorem FrS.refl (σ : CS) : FrS σ σ := ⟨Nat.le_refl _, fun i _ => agr.refl σ i⟩
theorem FrS.c (h : FrS σ σ') : FrC σ σ' := ⟨h.1, fun i hi => ⟨(h.2 i hi).1, (h.2 i hi).2.2.1, (h.2 i hi).2.2.2, fun j _ => by rw [(h.2 i hi).2.1]⟩⟩
theorem FrC.trans (h : FrC σ σ') (h' : FrC σ' σ'') : FrC σ σ'' := ⟨Nat.le_trans h.1 h'.1, fun i hi => by
  obtain ⟨a1, a2, a3, a4⟩ := h.2 i hi
  obtain ⟨b1, b2, b3, b4⟩ := h'.2 i (hi.imp (fun z => Nat.lt_of_lt_of_le z h.1) id)
  exact ⟨b1.trans a1, b2.trans a2, b3.trans a3, fun j hj => (b4 j hj).trans (a4 j hj)⟩⟩
theorem FrS.trans (h : FrS σ σ') (h' : FrS σ' σ'') : FrS σ σ'' := ⟨Nat.le_trans h.1 h'.1, fun i hi => (h.2 i hi).trans (h'.2 i (hi.imp (fun z => Nat.lt_of_lt_of_le z h.1) id))⟩
theorem FrC.agr (h : FrC σ σ') (hi : i < σ.1 ∨ CB ≤ i) (h9 : i ≠ 9) (h10 : i ≠ 10) : agr σ σ' i := by
  obtain ⟨a1, a2, a3, a4⟩ := h.2 i hi
  exact ⟨a1, funext fun j => a4 j (by unfold scR; omega), a2, a3⟩
theorem FrC.wI {v : Int32} (h : FrC σ σ') (hs : scR i j ∨ (σ.1 ≤ i ∧ i < CB)) : FrC σ (wI σ' i j v) := ⟨h.1, fun a ha => by
  obtain ⟨a1, a2, a3, a4⟩ := h.2 a ha
  refine ⟨a1, a2, a3, fun b hb => ?_⟩
  rw [gI_wn]
  · exact a4 b hb
  · rintro ⟨rfl, rfl⟩
    rcases hs with hs | hs
    · exact hb hs
    · omega⟩
theorem FrC.wL {v : Int64} (h : FrC σ σ') (hs : σ.1 ≤ i ∧ i < CB) : FrC σ (wL σ' i j v) := ⟨h.1, fun a ha => by
  obtain ⟨a1, a2, a3, a4⟩ := h.2 a ha
  exact ⟨a1, (gL_wi (by omega)).trans a2, a3, a4⟩⟩
theorem FrC.wR {v : Nat} (h : FrC σ σ') (hs : σ.1 ≤ i ∧ i < CB) : FrC σ (wR σ' i j v) := ⟨h.1, fun a ha => by
  obtain ⟨a1, a2, a3, a4⟩ := h.2 a ha
  exact ⟨a1, a2, (gR_wi (by omega)).trans a3, a4⟩⟩
theorem FrS.wI {v : Int32} (h : FrS σ σ') (hs : σ.1 ≤ i ∧ i < CB) : FrS σ (wI σ' i j v) := ⟨h.1, fun a ha => (h.2 a ha).wI (by omega)⟩
theorem FrS.wL {v : Int64} (h : FrS σ σ') (hs : σ.1 ≤ i ∧ i < CB) : FrS σ (wL σ' i j v) := ⟨h.1, fun a ha => (h.2 a ha).wL (by omega)⟩
theorem FrS.wR {v : Nat} (h : FrS σ σ') (hs : σ.1 ≤ i ∧ i < CB) : FrS σ (wR σ' i j v) := ⟨h.1, fun a ha => (h.2 a ha).wR (by omega)⟩
theorem FrS.nC {k : rgK} (h : FrS σ σ') (hc : σ'.1 < CB) : FrS σ (nC σ' k) := ⟨Nat.le_succ_of_le h.1, fun a ha => (h.2 a ha).nC (by have := h.1; omega)⟩
theorem FrC.nC {k : rgK} (h : FrC σ σ') (hc : σ'.1 < CB) : FrC σ (nC σ' k) := h.trans ((FrS.refl σ').nC hc).c
theorem KoC.fr (h : KoC σ) (f : FrC σ σ') : KoC σ' := fun i hi => by
  obtain ⟨a1, -, a3, a4⟩ := f.2 i (Or.inr hi)
  obtain ⟨b1, b2, b3⟩ := h i hi
  exact ⟨a1.trans b1, (funext fun j => a4 j (scR_CB hi)).trans b2, a3.trans b3⟩
theorem RdC.sz (h : RdC B n σ k o) : 1296 ≤ σ.1 ∧ σ.1 ≤ CB := h.1
theorem RdC.kn (h : RdC B n σ k o) : k ≤ n := h.2.1.1
theorem RdC.nn (h : RdC B n σ k o) : n ≤ 1280 := h.2.1.2.1
theorem RdC.oo (h : RdC B n σ k o) : o ≤ 6 := h.2.1.2.2.1
theorem RdC.by_ (h : RdC B n σ k o) : ∀ i, B i < 256 := h.2.1.2.2.2
theorem RdC.en (h : RdC B n σ k o) : gI σ 9 1 = nI n := h.2.2.1
theorem RdC.at_ (h : RdC B n σ k o) : gI σ 9 2 = nI k := h.2.2.2.1
theorem RdC.op (h : RdC B n σ k o) : gI σ 9 4 = nI o := h.2.2.2.2.1
theorem RdC.tp (h : RdC B n σ k o) : ∀ i, i < 1600 → gI σ 8 i = sB (B i) := h.2.2.2.2.2.1
theorem RdC.ko (h : RdC B n σ k o) : KoC σ := h.2.2.2.2.2.2
theorem RdC.fr (h : RdC B n σ k o) (f : FrC σ σ') (hc : σ'.1 ≤ CB) (hk : k' ≤ n) (ho : o' ≤ 6) (h2 : gI σ' 9 2 = nI k') (h4 : gI σ' 9 4 = nI o') : RdC B n σ' k' o' := by
  have hz := h.sz
  have f1 := f.1
  refine ⟨⟨by omega, hc⟩, ⟨hk, h.nn, ho, h.by_⟩, ?_, h2, h4, fun i hi => ?_, h.ko.fr f⟩
  · rw [(f.2 9 (Or.inl (by omega))).2.2.2 1 (by unfold scR; omega)]; exact h.en
  · rw [(f.2 8 (Or.inl (by omega))).2.2.2 i (by unfold scR; omega)]; exact h.tp i hi
theorem RdC.frS (h : RdC B n σ k o) (f : FrS σ σ') (hc : σ'.1 ≤ CB) : RdC B n σ' k o := by
  have hz := h.sz
  have a9 := f.2 9 (Or.inl (by omega))
  exact h.fr f.c hc h.kn h.oo (by rw [a9.2.1]; exact h.at_) (by rw [a9.2.1]; exact h.op)
theorem RdC.go (h : RdC B n σ k o) (hk : k' ≤ n) : RdC B n (wI σ 9 2 (nI k')) k' o := by
  refine h.fr ((FrC.refl σ).wI (Or.inl (by unfold scR; omega))) h.sz.2 hk h.oo gI_ws ?_
  rw [gI_wn (by omega)]; exact h.op
theorem RdC.frm (h : RdC B n σ k o) (v : Int32) : RdC B n (wI σ 9 3 v) k o := by
  refine h.fr ((FrC.refl σ).wI (Or.inl (by unfold scR; omega))) h.sz.2 h.kn h.oo ?_ ?_
  · rw [gI_wn (by omega)]; exact h.at_
  · rw [gI_wn (by omega)]; exact h.op
theorem RdC.opn (h : RdC B n σ k o) (ho : o' ≤ 6) : RdC B n (wI σ 9 4 (nI o')) k o' := by
  refine h.fr ((FrC.refl σ).wI (Or.inl (by unfold scR; omega))) h.sz.2 h.kn ho ?_ gI_ws
  rw [gI_wn (by omega)]; exact h.at_
theorem scR_2 : scR 9 2 := by unfold scR; omega
theorem scR_3 : scR 9 3 := by unfold scR; omega
theorem scR_4 : scR 9 4 := by unfold scR; omega
/-- a fault is thrown -/
def ErC (mc : Nat) (σ : CS) (E : CS → Prop) (e : Nat × Nat) : Prop := ∀ σ', FrC σ σ' → σ'.1 ≤ σ.1 + mc → gI σ' 10 6 = nI e.1 → gI σ' 10 7 = nI e.2 → E σ'
theorem ErC.go {mc mc' : Nat} {E : CS → Prop} {e : Nat × Nat} (h : ErC mc σ E e) (f : FrC σ σ') (hm : σ'.1 + mc' ≤ σ.1 + mc) : ErC mc' σ' E e := fun s g hs h6 h7 => h s (f.trans g) (by omega) h6 h7
theorem cr_wrong {mc kd pl : Nat} {E : CS → Prop} {x1 x2 : Int32} (e1 : x1 = nI kd) (e2 : x2 = nI pl) (h : ErC mc σ E (kd, pl)) : U_X2_wrong σ x1 x2 (fun r σ' => r = 11 ∧ E σ') := by
  subst e1 e2
  refine st_ (st_ ⟨rfl, h _ (((FrC.refl σ).wI (Or.inl (by unfold scR; omega))).wI (Or.inl (by unfold scR; omega))) (Nat.le_add_right _ _) ?_ gI_ws⟩)
  rw [gI_wn (by omega)]; exact gI_ws
theorem cr_byte {K : Int32 → CS → Prop} (h : RdC B n σ k o) (hj : j ≤ 1600) (hk : K (cI (bt B n j)) σ) : U_X2_byteAt σ (nI j) K := by
  have hn := h.nn
  refine br_f (nI_pos (by omega)) ?_
  rw [h.en]
  by_cases c : j < n
  · refine br_f (nI_ge c (by omega)) ⟨vi_ (by omega) (by omega), ?_⟩
    have hb := h.by_ j
    rw [nI_clamp (by omega), h.tp j (by omega), sB_255 _ hb]
    rw [bt_lt c, cI_in (by omega)] at hk; exact hk
  · refine br_t (nI_le (by omega) (by omega)) ?_
    rw [bt_ge (by omega)] at hk; exact hk
def prvC (B : Byt) (k : Nat) : Nat := if k = 0 then 256 else B (k - 1)
theorem pA_pre : pA B k = (pL (prvC B k) || pD (prvC B k)) := by
  unfold pA prvC
  by_cases h : k = 0
  · subst h; rfl
  · rw [if_neg h, decide_eq_true (by omega : 0 < k), Bool.true_and]
theorem cr_byteP {K : Int32 → CS → Prop} (h : RdC B n σ k o) (hk : K (cI (prvC B k)) σ) : U_X2_byteAt σ (nI k - 1) K := by
  have hn := h.nn
  have hkn := h.kn
  cases k with
  | zero => exact br_t (by decide) hk
  | succ k =>
    rw [nI_pred]
    refine cr_byte h (by omega) ?_
    rw [bt_lt (by omega)]
    exact hk
theorem prvC_le (hB : ∀ i, B i < 256) : prvC B k ≤ 256 := by
  unfold prvC
  split
  · exact Nat.le_refl _
  · exact Nat.le_of_lt (hB _)
theorem cr_letter {c : Nat} {K : Int32 → CS → Prop} (hc : c ≤ 256) (hk : K (b1 (pL c)) σ) : U_X0_isLetter σ (cI c) K := by
  unfold U_X0_isLetter
  by_cases h : c = 256
  · subst h; exact br_t (by decide) hk
  · rw [cI_in h, show (97 : Int32) = nI 97 from rfl, show (122 : Int32) = nI 122 from rfl, nI_ltI (by omega) (by omega), nI_ltI (by omega) (by omega)]
    by_cases h1 : c < 97
    · refine br_t h1 ?_
      have : pL c = false := by simp [pL]; omega
      rw [this] at hk; exact hk
    · refine br_f h1 ?_
      by_cases h2 : 122 < c
      · refine br_t h2 ?_
        have : pL c = false := by simp [pL]; omega
        rw [this] at hk; exact hk
      · refine br_f h2 ?_
        have : pL c = true := by simp [pL]; omega
        rw [this] at hk; exact hk
theorem cr_digit {c : Nat} {K : Int32 → CS → Prop} (hc : c ≤ 256) (hk : K (b1 (pD c)) σ) : U_X0_isDigit σ (cI c) K := by
  unfold U_X0_isDigit
  by_cases h : c = 256
  · subst h; exact br_t (by decide) hk
  · rw [cI_in h, show (48 : Int32) = nI 48 from rfl, show (57 : Int32) = nI 57 from rfl, nI_ltI (by omega) (by omega), nI_ltI (by omega) (by omega)]
    by_cases h1 : c < 48
    · refine br_t h1 ?_
      have : pD c = false := by simp [pD]; omega
      rw [this] at hk; exact hk
    · refine br_f h1 ?_
      by_cases h2 : 57 < c
      · refine br_t h2 ?_
        have : pD c = false := by simp [pD]; omega
        rw [this] at hk; exact hk
      · refine br_f h2 ?_
        have : pD c = true := by simp [pD]; omega
        rw [this] at hk; exact hk
theorem cr_here0 {K : Int32 → CS → Prop} : ∀ (d f k : Nat) (σ : CS), n - k = d → d < f → RdC B n σ k o → (∀ σ', FrC σ σ' → σ'.1 = σ.1 → RdC B n σ' (skp B n k) o → K (cI (bt B n (skp B n k))) σ') → U_X2_here_0 K f σ := by
  intro d
  induction d with
  | zero =>
    intro f k σ hd hf h hk
    obtain ⟨f, rfl⟩ : ∃ f', f = f' + 1 := ⟨f - 1, by omega⟩
    have hkn := h.kn
    have hn := h.nn
    have e1 : bt B n k = 256 := bt_ge (by omega)
    have e2 : skp B n k = k := skp_stop (by rw [e1]; decide)
    have hkk := hk σ (FrC.refl σ) rfl (by rw [e2]; exact h)
    rw [e2, e1] at hkk
    unfold U_X2_here_0
    rw [h.at_]
    refine cr_byte h (by omega) ?_
    rw [e1]
    refine br_f (by decide) ?_
    rw [h.at_]
    refine cr_byte h (by omega) ?_
    rw [e1]
    refine bn_t (by decide) ?_
    rw [h.at_]
    refine cr_byte h (by omega) ?_
    rw [e1]
    exact hkk
  | succ d ih =>
    intro f k σ hd hf h hk
    obtain ⟨f, rfl⟩ : ∃ f', f = f' + 1 := ⟨f - 1, by omega⟩
    have hkn : k < n := by omega
    have hn := h.nn
    have hB := h.by_ k
    have e1 : bt B n k = B k := bt_lt hkn
    have hstep : bl (bt B n k) = true → U_X2_here_0 K f (wI σ 9 2 (nI k + 1)) := by
      intro hb
      have es := skp_step hb hkn
      rw [nI_1]
      refine ih f (k + 1) _ (by omega) (by omega) (h.go (by omega)) (fun s f1 f2 f3 => ?_)
      rw [← es] at f3 ⊢
      exact hk s (((FrC.refl σ).wI (Or.inl scR_2)).trans f1) f2 f3
    unfold U_X2_here_0
    rw [h.at_]
    refine cr_byte h (by omega) ?_
    rw [e1, cI_in (by omega)]
    by_cases h32 : B k = 32
    · refine br_t (by rw [h32]; rfl) (st_ ?_)
      rw [h.at_]
      exact hstep (by rw [e1, h32]; decide)
    · refine br_f (fun z => h32 ((nI_eq (by omega) (by omega)).mp z)) ?_
      rw [h.at_]
      refine cr_byte h (by omega) ?_
      rw [e1, cI_in (by omega)]
      by_cases h10 : B k = 10
      · refine bn_f (by rw [h10]; rfl) (st_ ?_)
        rw [h.at_]
        exact hstep (by rw [e1, h10]; decide)
      · refine bn_t (fun z => h10 ((nI_eq (by omega) (by omega)).mp z)) ?_
        rw [h.at_]
        have hb : bl (bt B n k) = false := by rw [e1]; simp [bl, h10, h32]
        have e2 : skp B n k = k := skp_stop hb
        refine cr_byte h (by omega) ?_
        have hkk := hk σ (FrC.refl σ) rfl (by rw [e2]; exact h)
        rw [e2] at hkk
        exact hkk
theorem cr_here {K : Int32 → CS → Prop} (h : RdC B n σ k o) (hk : ∀ σ', FrC σ σ' → σ'.1 = σ.1 → RdC B n σ' (skp B n k) o → K (cI (bt B n (skp B n k))) σ') : U_X2_here σ K := ⟨n - k + 1, cr_here0 (n - k) _ k σ rfl (by omega) h hk⟩
theorem cr_parted {mc : Nat} {K : Unit → CS → Prop} {E : CS → Prop} (h : RdC B n σ k o) (hE : pA B k = true → ErC mc σ E (1, k)) (hK : pA B k = false → K () σ) : U_X2_parted σ K E := by
  have hc := prvC_le (k := k) h.by_
  unfold U_X2_parted
  rw [h.at_]
  refine cr_byteP h (cr_letter hc ?_)
  rw [pA_pre] at hE hK
  cases hl : pL (prvC B k) with
  | true => exact bn_t (by decide) (cr_wrong rfl h.at_ (hE (by rw [hl]; rfl)))
  | false =>
    refine bn_f rfl ?_
    rw [h.at_]
    refine cr_byteP h (cr_digit hc ?_)
    rw [hl, Bool.false_or] at hE hK
    cases hd : pD (prvC B k) with
    | true => exact br_f (by decide) (cr_wrong rfl h.at_ (hE hd))
    | false => exact br_t rfl (hK hd)
theorem cr_must {mc c : Nat} {K : Unit → CS → Prop} {E : CS → Prop} {x : Int32} (h : RdC B n σ k o) (hx : x = nI c) (hc : c < 256) (hE : ∀ e, pMust B n k c = .inl e → ErC mc σ E e) (hK : ∀ k', pMust B n k c = .inr k' → k < k' → ∀ σ', FrC σ σ' → σ'.1 = σ.1 → RdC B n σ' k' o → K () σ') : U_X2_must σ x K E := by
  subst hx
  refine cr_here h fun s f hs g => ?_
  have hb := bt_le (n := n) (k := skp B n k) h.by_
  have hge := skp_ge B n k
  unfold pMust at hE hK
  by_cases e : bt B n (skp B n k) = c
  · rw [if_pos e] at hK
    have hin := bt_in e (by omega)
    refine br_t ((cI_eq hb hc).mpr e) (st_ ?_)
    rw [g.at_, nI_1]
    exact hK _ rfl (by omega) _ (f.wI (Or.inl scR_2)) hs (g.go (by omega))
  · rw [if_neg e] at hE
    exact br_f (fun z => e ((cI_eq hb hc).mp z)) (cr_wrong (mc := mc) rfl g.at_ ((hE _ rfl).go f (by omega)))
theorem cr_takes {c : Nat} {K : Int32 → CS → Prop} {x : Int32} (h : RdC B n σ k o) (hx : x = nI c) (hc : c < 256) (h1 : bt B n (skp B n k) = c → ∀ σ', FrC σ σ' → σ'.1 = σ.1 → RdC B n σ' (skp B n k + 1) o → K 1 σ') (h0 : bt B n (skp B n k) ≠ c → ∀ σ', FrC σ σ' → σ'.1 = σ.1 → RdC B n σ' (skp B n k) o → K 0 σ') : U_X2_takes σ x K := by
  subst hx
  refine cr_here h fun s f hs g => ?_
  have hb := bt_le (n := n) (k := skp B n k) h.by_
  by_cases e : bt B n (skp B n k) = c
  · have hin := bt_in e (by omega)
    refine bn_f ((cI_eq hb hc).mpr e) (br_f (by decide) (st_ ⟨rfl, ?_⟩))
    rw [g.at_, nI_1]
    exact h1 e _ (f.wI (Or.inl scR_2)) hs (g.go (by omega))
  · refine bn_t (fun z => e ((cI_eq hb hc).mp z)) (br_t rfl (st_ ⟨rfl, ?_⟩))
    rw [g.at_, show nI (skp B n k) + 0 = nI (skp B n k) from nI_add _ 0]
    exact h0 e _ (f.wI (Or.inl scR_2)) hs (g.go g.kn)
theorem cr_opens {mc p : Nat} {K : Unit → CS → Prop} {E : CS → Prop} {x : Int32} (h : RdC B n σ k o) (hx : x = nI p) (hE : o = 6 → ErC mc σ E (4, p)) (hK : o ≠ 6 → ∀ σ', FrC σ σ' → σ'.1 = σ.1 → RdC B n σ' k (o + 1) → gI σ' 9 3 = gI σ 9 3 → K () σ') : U_X2_opens σ x K E := by
  have ho := h.oo
  unfold U_X2_opens
  rw [h.op]
  by_cases e : o = 6
  · refine bn_f (by rw [e]; rfl) (cr_wrong rfl hx (hE e))
  · refine bn_t (fun z => e ((nI_eq (b := 6) (by omega) (by omega)).mp z)) (st_ ?_)
    rw [nI_1]
    exact hK e _ ((FrC.refl σ).wI (Or.inl scR_4)) rfl (h.opn (by omega)) (gI_wn (by omega))
theorem cr_is {x lo hi : Nat} {K : Int32 → CS → Prop} (hx : x < 2 ^ 31) (hlo : lo < 2 ^ 31) (hhi : hi < 2 ^ 31) (hk : K (b1 (decide (lo ≤ x ∧ x ≤ hi))) σ) : U_X0_is σ (nI x) (nI lo) (nI hi) K := by
  unfold U_X0_is
  rw [nI_ltI hx hlo, nI_ltI hhi hx]
  by_cases h1 : x < lo
  · rw [decide_eq_false (by omega)] at hk; exact br_t h1 hk
  · by_cases h2 : hi < x
    · rw [decide_eq_false (by omega)] at hk; exact br_f h1 (br_t h2 hk)
    · rw [decide_eq_true (by omega)] at hk; exact br_f h1 (br_f h2 hk)
/-- a number's digits: from p on, j of them read -/
theorem cr_num34 {mc p lo hi : Nat} {K : Int32 → CS → Prop} {E : CS → Prop} (hlo : lo < 10 ^ 9) (hhi : hi < 10 ^ 9) (hp0 : pD (bt B n p) = true) {σ0 : CS}
    (hE : ∀ e, (if 4 < dEn B n p - p then Sum.inl (1, p + 4) else if lo ≤ dV B p (dEn B n p - p) ∧ dV B p (dEn B n p - p) ≤ hi then Sum.inr (dV B p (dEn B n p - p), dEn B n p) else Sum.inl (2, p) : Rs (Nat × Nat)) = .inl e → ErC mc σ0 E e)
    (hK : ∀ v q, (if 4 < dEn B n p - p then Sum.inl (1, p + 4) else if lo ≤ dV B p (dEn B n p - p) ∧ dV B p (dEn B n p - p) ≤ hi then Sum.inr (dV B p (dEn B n p - p), dEn B n p) else Sum.inl (2, p) : Rs (Nat × Nat)) = .inr (v, q) → ∀ σ', FrC σ0 σ' → σ'.1 = σ0.1 → RdC B n σ' q o → K (nI v) σ') :
    ∀ (d f j : Nat) (σ : CS), 4 - j = d → d < f → j ≤ 4 → p + j ≤ dEn B n p → FrC σ0 σ → σ.1 = σ0.1 → gI σ 9 3 = nI p → RdC B n σ (p + j) o → U_X2_number_2_34 K E (nI lo) (nI hi) f (nI (dV B p j)) σ := by
  have hpn := pD_in hp0
  have hle := dEn_le (B := B) (n := n) (k := p) (Nat.le_of_lt hpn)
  have h0 := dEn_gt hp0
  have hz : pD (bt B n (dEn B n p)) = false := rnE_false (q := fun j => pD (bt B n j)) (n := n) pD_out _ p rfl
  have hdig : ∀ j, p + j < dEn B n p → pD (B (p + j)) = true := by
    intro j hj
    have := dEn_all (B := B) (n := n) (k := p) (j := p + j) (by omega) hj
    rw [bt_lt (by omega)] at this
    exact this
  intro d
  induction d with
  | zero =>
    intro f j σ hd hf hj hjl f0 hs h3 h
    obtain ⟨f, rfl⟩ : ∃ f', f = f' + 1 := ⟨f - 1, by omega⟩
    obtain rfl : j = 4 := by omega
    have hn := h.nn
    have hb := bt_le (n := n) (k := p + 4) h.by_
    have hv := dV_lt B p 4 (fun i hi => hdig i (by omega))
    unfold U_X2_number_2_34
    rw [h.at_]
    refine cr_byte h (by omega) (cr_digit hb ?_)
    cases e : pD (bt B n (p + 4)) with
    | false =>
      have e4 : dEn B n p = p + 4 := by
        by_cases z : p + 4 < dEn B n p
        · have := dEn_all (B := B) (n := n) (k := p) (j := p + 4) (by omega) z
          rw [e] at this; cases this
        · omega
      rw [show dEn B n p - p = 4 by omega, if_neg (by omega)] at hE hK
      refine br_t rfl (cr_is (by omega) (by omega) (by omega) ?_)
      by_cases hr : lo ≤ dV B p 4 ∧ dV B p 4 ≤ hi
      · rw [if_pos hr] at hK
        rw [decide_eq_true hr]
        exact bn_t (by decide) (hK _ _ rfl _ f0 hs (by rw [e4]; exact h))
      · rw [if_neg hr] at hE
        rw [decide_eq_false hr]
        exact bn_f rfl (cr_wrong (mc := mc) rfl h3 ((hE _ rfl).go f0 (by omega)))
    | true =>
      have e4 : 4 < dEn B n p - p := by
        by_cases z : p + 4 = dEn B n p
        · rw [← z, e] at hz; cases hz
        · omega
      rw [if_pos e4] at hE
      refine br_f (by decide) ?_
      rw [h.at_, h3, nI_sub (by omega), show p + 4 - p = 4 by omega]
      exact bn_f rfl (cr_wrong (mc := mc) rfl rfl ((hE _ rfl).go f0 (by omega)))
  | succ d ih =>
    intro f j σ hd hf hj hjl f0 hs h3 h
    obtain ⟨f, rfl⟩ : ∃ f', f = f' + 1 := ⟨f - 1, by omega⟩
    have hn := h.nn
    have hb := bt_le (n := n) (k := p + j) h.by_
    have hv := dV_lt B p j (fun i hi => hdig i (by omega))
    have hv9 : dV B p j < 10 ^ 4 := Nat.lt_of_lt_of_le hv (Nat.pow_le_pow_right (by omega) hj)
    unfold U_X2_number_2_34
    rw [h.at_]
    refine cr_byte h (by omega) (cr_digit hb ?_)
    cases e : pD (bt B n (p + j)) with
    | false =>
      have e4 : dEn B n p = p + j := by
        by_cases z : p + j < dEn B n p
        · have := dEn_all (B := B) (n := n) (k := p) (j := p + j) (by omega) z
          rw [e] at this; cases this
        · omega
      rw [show dEn B n p - p = j by omega, if_neg (by omega)] at hE hK
      refine br_t rfl (cr_is (by omega) (by omega) (by omega) ?_)
      by_cases hr : lo ≤ dV B p j ∧ dV B p j ≤ hi
      · rw [if_pos hr] at hK
        rw [decide_eq_true hr]
        exact bn_t (by decide) (hK _ _ rfl _ f0 hs (by rw [e4]; exact h))
      · rw [if_neg hr] at hE
        rw [decide_eq_false hr]
        exact bn_f rfl (cr_wrong (mc := mc) rfl h3 ((hE _ rfl).go f0 (by omega)))
    | true =>
      have e4 : p + j < dEn B n p := by
        by_cases z : p + j = dEn B n p
        · rw [← z, e] at hz; cases hz
        · omega
      have hin := pD_in e
      refine br_f (by decide) ?_
      rw [h.at_, h3, nI_sub (by omega), show p + j - p = j by omega]
      refine bn_t (fun z => absurd ((nI_eq (b := 4) (by omega) (by omega)).mp z) (by omega)) ?_
      refine cr_byte h (by omega) (st_ ?_)
      have hB := h.by_ (p + j)
      rw [bt_lt hin, cI_in (by omega), h.at_, nI_1]
      rw [bt_lt hin] at e
      have hd := e
      simp only [pD, decide_eq_true_eq] at hd
      have ev : (10 : Int32) * nI (dV B p j) + nI (B (p + j)) - 48 = nI (dV B p (j + 1)) := by
        show nI 10 * nI (dV B p j) + nI (B (p + j)) - nI 48 = _
        rw [nI_mul, nI_add, nI_sub (by omega)]
        rfl
      rw [ev]
      exact ih f (j + 1) _ (by omega) (by omega) (by omega) (by omega) (f0.wI (Or.inl scR_2)) hs ((gI_wn (by omega)).trans h3) (h.go (by omega))
theorem cr_number {mc lo hi : Nat} {K : Int32 → CS → Prop} {E : CS → Prop} {x1 x2 : Int32} (h : RdC B n σ k o) (e1 : x1 = nI lo) (e2 : x2 = nI hi) (hlo : lo < 10 ^ 9) (hhi : hi < 10 ^ 9)
    (hE : ∀ e, pNum B n k lo hi = .inl e → ErC mc σ E e) (hK : ∀ v q, pNum B n k lo hi = .inr (v, q) → ∀ σ', FrC σ σ' → σ'.1 = σ.1 → RdC B n σ' q o → K (nI v) σ') : U_X2_number_2 σ x1 x2 K E := by
  subst e1 e2
  refine cr_here h fun s f hs g => cr_digit (bt_le h.by_) ?_
  unfold pNum at hE hK
  simp only at hE hK
  cases e : pD (bt B n (skp B n k)) with
  | false =>
    rw [e] at hE
    exact bn_f rfl (cr_wrong (mc := mc) rfl g.at_ ((hE _ (by simp)).go f (by omega)))
  | true =>
    refine bn_t (by decide) (cr_parted (mc := mc) g (fun ha => ?_) (fun ha => st_ ?_))
    · rw [e, ha] at hE
      exact (hE _ (by simp)).go f (by omega)
    · rw [e, ha, Bool.not_false, Bool.and_self, if_pos rfl] at hE hK
      rw [g.at_]
      have h00 := dEn_gt e
      exact ⟨5, cr_num34 (σ0 := s) (mc := mc) hlo hhi e (fun z hz => (hE z hz).go f (by omega)) (fun v q hz s1 f1 hs1 g1 => hK v q hz s1 (f.trans f1) (by omega) g1) 4 5 0 _ rfl (by omega) (by omega) (by omega) ((FrC.refl s).wI (Or.inl scR_3)) rfl gI_ws (g.frm _)⟩
end CR
