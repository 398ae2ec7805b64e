/-! COMPONENT, PURE SIDE: words of statements, names. -/
theorem tsA_0 : tsA 0 = ownWs := by decide
theorem tsA_3 : tsA 3 = [[102, 105, 114, 115, 116], [108, 97, 115, 116], [111, 102, 116, 101, 110], [116, 111, 116, 97, 108], [109, 111, 115, 116], [108, 101, 97, 115, 116]] := by decide
/-- a thing, a mender or a trial has that name -/
def NmC (σ : CS) (S : Nat → Prop) (q : Nat) (nm : List Nat) : Prop := isNm σ q ∧ ∃ nq, gR σ q 0 = nq + 1 ∧ StrC σ S nq nm
section CN
variable {σ0 σ σ' : CS} {i j k k' n o q x mc ms c m tk d t id : Nat} {B : Byt} {S S' : Nat → Prop} {el : Nat → Nat} {w : List Nat}
theorem cr_most {b : Bool} {p : Nat} {K : Unit → CS → Prop} {E : CS → Prop} {x1 x2 : Int32} (e1 : x1 = b1 b) (e2 : x2 = nI p) (hE : b = true → ErC mc σ E (5, p)) (hK : b = false → K () σ) : U_X2_most σ x1 x2 K E := by
  subst e1 e2
  cases b with
  | true => exact br_f (by decide) (cr_wrong (mc := mc) rfl rfl (hE rfl))
  | false => exact br_t rfl (hK rfl)
theorem pWd_word {p q : Nat} (e : pWord B n k = .inr (p, q)) : pWd B n k w = if wd B p q = w then .inr q else .inl (1, p) := by
  unfold pWord at e
  unfold pWd hereW
  split at e
  · rename_i h
    injection e with e
    injection e with e1 e2
    subst e1 e2
    rw [h, Bool.true_and]
    by_cases c : wd B (skp B n k) (wEn B n (skp B n k)) = w
    · rw [decide_eq_true c, if_pos rfl, if_pos c]
    · rw [decide_eq_false c, if_neg (by decide), if_neg c]
  · cases e
theorem pWd_err {e : Nat × Nat} (h : pWord B n k = .inl e) : pWd B n k w = .inl e := by
  unfold pWord at h
  unfold pWd hereW
  split at h
  · cases h
  · rename_i c
    injection h with h
    subst h
    have : okW B n (skp B n k) = false := by simpa using c
    rw [this]; rfl
theorem pWd_pr {q : Nat} (hk : k ≤ n) (e : pWd B n k w = .inr q) : k < q ∧ q ≤ n := by
  cases h : pWord B n k with
  | inl z => rw [pWd_err h] at e; cases e
  | inr r =>
    have p1 := pWord_pr (p := r.1) (k' := r.2) hk h
    rw [pWd_word (p := r.1) (q := r.2) h] at e
    split at e
    · injection e with e; omega
    · cases e
/-- that word must come -/
theorem cr_word2 {K : Unit → CS → Prop} {E : CS → Prop} (h : RdC B n σ k o) (hm : 3 ≤ mc) (hs : 2564 ≤ ms) (hcb : σ.1 + 3 ≤ CB) (ht : t < 32) (hid : id = CB + 16 + 2 * t) (hw : kTxt.getD t [] = w) (hE : ∀ e, pWd B n k w = .inl e → ErC mc σ E e) (hK : ∀ q, pWd B n k w = .inr q → ∀ σ', FrC σ σ' → σ'.1 ≤ σ.1 + 3 → RdC B n σ' q o → K () σ') : U_X2_word_2 mc ms σ id K E := by
  refine ⟨mc, ms, ⟨by omega, by omega⟩, cr_word h hm hs hcb (fun e he => hE e (pWd_err he)) (fun p q hz hp1 hp2 hp3 s1 r f1 f2 f3 f4 f5 => ?_)⟩
  have hk := strK f3.ko ht hid
  rw [hw] at hk
  have hr : r < CB := by have := f5.1.1.2; have := f3.sz; omega
  rw [pWd_word hz] at hE hK
  refine ⟨r, rfl, f5.1.2.1, cr_equals f5.1 hk (Or.inl hr) ?_⟩
  by_cases y : wd B p q = w
  · rw [decide_eq_true y]
    rw [if_pos y] at hK
    exact bn_t (by decide) (hK q rfl s1 f1 f2 f3)
  · rw [decide_eq_false y]
    rw [if_neg y] at hE
    exact bn_f rfl (cr_wrong (mc := 0) rfl f4 ((hE _ rfl).go f1 (by omega)))
theorem pKN_pr {v q lo hi : Nat} (hk : k ≤ n) (e : pKN B n k w lo hi = .inr (v, q)) : k + 1 < q ∧ q ≤ n := by
  unfold pKN at e
  obtain ⟨r, h1, e⟩ := rsB_inr e
  have p1 := pWd_pr hk h1
  have p2 := pNum_pr p1.2 e
  omega
/-- that word and a number -/
theorem cr_kn {K : Int32 → CS → Prop} {E : CS → Prop} {lo hi : Nat} {x2 x3 : Int32} (h : RdC B n σ k o) (hm : 3 ≤ mc) (hs : 2564 ≤ ms) (hcb : σ.1 + 3 ≤ CB) (ht : t < 32) (hid : id = CB + 16 + 2 * t) (hw : kTxt.getD t [] = w) (e2 : x2 = nI lo) (e3 : x3 = nI hi) (hlo : lo < 10 ^ 9) (hhi : hi < 10 ^ 9)
    (hE : ∀ e, pKN B n k w lo hi = .inl e → ErC mc σ E e) (hK : ∀ v q, pKN B n k w lo hi = .inr (v, q) → ∀ σ', FrC σ σ' → σ'.1 ≤ σ.1 + 3 → RdC B n σ' q o → K (nI v) σ') : U_X2_number mc ms σ id x2 x3 K E := by
  unfold pKN at hE hK
  refine ⟨mc, ms, ⟨by omega, by omega⟩, cr_word2 h hm hs hcb ht hid hw (fun e he => hE e (by rw [he]; rfl)) (fun q hq s f z g => ?_)⟩
  rw [hq] at hE hK
  exact cr_number (mc := 0) g e2 e3 hlo hhi (fun e he => (hE e he).go f (by omega)) (fun v r hv s1 f1 z1 g1 => hK v r hv s1 (f.trans f1) (by omega) g1)
theorem isOwn_find : isOwn w = ((tsA 0).findIdx? (fun t => decide (w = t))).isSome := by
  rw [tsA_0]
  unfold isOwn
  rw [List.findIdx?_isSome]
theorem ixI_m1 {oo : Option Nat} (h : ∀ i, oo = some i → i < 1000) : ixI oo = -1 ↔ oo = none := by
  cases oo with
  | none => exact ⟨fun _ => rfl, fun _ => rfl⟩
  | some i => exact ⟨fun z => absurd z.symm (nI_m1 (by have := h i rfl; omega)), fun z => by cases z⟩
theorem cr_name {K : Nat → CS → Prop} {E : CS → Prop} (h : RdC B n σ k o) (hm : 3 ≤ mc) (hs : 2564 ≤ ms) (hcb : σ.1 + 3 ≤ CB) (hE : ∀ e, pNm0 B n k = .inl e → ErC mc σ E e)
    (hK : ∀ p q, pNm0 B n k = .inr (p, q) → k ≤ p → p < q → q ≤ n → ∀ σ' s, FrC σ σ' → σ'.1 ≤ σ.1 + 3 → RdC B n σ' q o → gI σ' 9 3 = nI p → WdC σ' σ.1 s (wd B p q) → K (s + 1) σ') : U_X2_name mc ms σ K E := by
  unfold pNm0 at hE hK
  refine ⟨mc, ms, ⟨by omega, by omega⟩, cr_word h hm hs hcb (fun e he => hE e (by rw [he]; rfl)) (fun p q hz hp1 hp2 hp3 s1 r f1 f2 f3 f4 f5 => ⟨r, rfl, ?_⟩)⟩
  rw [hz] at hE hK
  have hE : ∀ e, (if isOwn (wd B p q) then Sum.inl (1, p) else if 6 < q - p then Sum.inl (1, p + 6) else Sum.inr (p, q) : Rs (Nat × Nat)) = .inl e → ErC mc σ E e := hE
  have hK := fun a b (e : (if isOwn (wd B p q) then Sum.inl (1, p) else if 6 < q - p then Sum.inl (1, p + 6) else Sum.inr (p, q) : Rs (Nat × Nat)) = .inr (a, b)) => hK a b e
  have hr : r < CB := by have := f5.1.1.2; have := f3.sz; omega
  have hn := h.nn
  refine cr_find (a := 0) f3.ko f5.1 hr (by omega) rfl ?_
  have hix : ∀ i, (tsA 0).findIdx? (fun t => decide (wd B p q = t)) = some i → i < 1000 := fun i hi => by
    obtain ⟨h1, -⟩ := List.findIdx?_eq_some_iff_getElem.mp hi
    have : (tsA 0).length = 28 := by rw [tsA_0]; rfl
    omega
  cases ei : (tsA 0).findIdx? (fun t => decide (wd B p q = t)) with
  | none =>
    have ho : isOwn (wd B p q) = false := by rw [isOwn_find, ei]; rfl
    rw [ho, if_neg (by decide)] at hE
    rw [ho] at hK
    refine br_t rfl ⟨f5.1.2.1, cr_len f5.1 ?_⟩
    rw [wd_len]
    by_cases h6 : 6 < q - p
    · rw [if_pos h6] at hE
      refine br_f (fun z => absurd z (nI_ge (a := 6) h6 (by omega))) (cr_wrong (mc := 0) (pl := p + 6) rfl (by rw [f4]; exact nI_add p 6) ((hE _ rfl).go f1 (by omega)))
    · refine br_t (nI_le (b := 6) (by omega) (by omega)) (hK p q (by rw [if_neg (by decide), if_neg h6]) hp1 hp2 hp3 s1 r f1 f2 f3 f4 f5)
  | some i =>
    have ho : isOwn (wd B p q) = true := by rw [isOwn_find, ei]; rfl
    rw [ho, if_pos rfl] at hE
    have := hix i ei
    exact br_f (fun z => nI_m1 (by omega) z.symm) (cr_wrong (mc := 0) rfl f4 ((hE _ rfl).go f1 (by omega)))
theorem isNm_C (h : isNm σ q) : isC "MendedThings$Named" σ q := by
  rcases h with h | h | h
  · exact isC_of h rfl (Or.inr q2574)
  · exact isC_of h rfl (Or.inr q2573)
  · exact isC_of h rfl (Or.inr q2575)
theorem isNm_O (h : isNm σ q) : isC "java/lang/Object" σ q := by
  rcases h with h | h | h
  · exact isC_of h rfl (Or.inr q2595)
  · exact isC_of h rfl (Or.inr q2596)
  · exact isC_of h rfl (Or.inr q2597)
/-- whether one of a list has that name -/
theorem cr_nfind {K : Int32 → CS → Prop} {l nq : Nat} {N : Nat → List Nat} (hl : LsC σ S l m el) (hm : m ≤ 1000) (hN : ∀ j, j < m → NmC σ S' (el j) (N j)) (hw : StrC σ (fun _ => True) nq w) (hnq : nq < CB) (hk1 : ∀ j, j < m → N j = w → K (nI j) σ) (hk0 : (∀ j, j < m → N j ≠ w) → K (-1) σ) : U_X7_find σ l nq K := by
  have lp : ∀ (d f i : Nat), m - i = d → d < f → i ≤ m → (∀ j, j < i → N j ≠ w) → U_X7_find_2 K l nq f (nI i) σ := by
    intro d
    induction d with
    | zero =>
      intro f i hd hf hi hne
      obtain ⟨f, rfl⟩ : ∃ f', f = f' + 1 := ⟨f - 1, by omega⟩
      unfold U_X7_find_2
      exact ⟨hl.2.1, U_size hl (br_t (nI_le (by omega) (by omega)) (hk0 (fun j hj => hne j (by omega))))⟩
    | succ d ih =>
      intro f i hd hf hi hne
      obtain ⟨f, rfl⟩ : ∃ f', f = f' + 1 := ⟨f - 1, by omega⟩
      unfold U_X7_find_2
      obtain ⟨n1, nn, n2, n3⟩ := hN i (by omega)
      refine ⟨hl.2.1, U_size hl (br_f (nI_ge (by omega) (by omega)) ⟨hl.2.1, U_get hl (by omega) ⟨_, rfl, isNm_C n1, n1, nn, n2, n3.2.1, cr_equals n3 hw (Or.inr hnq) ?_⟩⟩)⟩
      by_cases e : N i = w
      · rw [decide_eq_true e]
        exact br_f (by decide) (hk1 i (by omega) e)
      · rw [decide_eq_false e, nI_1]
        refine br_t rfl (ih f (i + 1) (by omega) (by omega) (by omega) (fun j hj => ?_))
        by_cases z : j = i
        · subst z; exact e
        · exact hne j (by omega)
  exact ⟨m + 1, lp m _ 0 rfl (by omega) (by omega) (fun j hj => absurd hj (by omega))⟩
end CN
