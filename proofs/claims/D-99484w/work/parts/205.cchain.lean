/-! COMPONENT, PURE SIDE: words that may come; chains that grow. -/
def ctx (tk : Nat) : Int32 := if tk = 0 then 63 else if tk = 1 then 127 else if tk = 2 then 191 else 895
abbrev isOb (σ : CS) (q : Nat) : Prop := isC "java/lang/Object" σ q
section CC
variable {σ0 σ σ' : CS} {i j k k' n o q x mc ms c m tk d t : Nat} {B : Byt} {S S' : Nat → Prop} {el sg : Nat → Nat} {w : List Nat}
theorem okW_pas (B : Byt) (n k : Nat) (w : List Nat) : pPas B n k w = if pL (bt B n (skp B n k)) then (if pA B (skp B n k) then .inl (1, skp B n k) else if wd B (skp B n k) (wEn B n (skp B n k)) = w then .inr (some (wEn B n (skp B n k))) else .inr none) else .inr none := rfl
theorem pWord_skp (B : Byt) (n k : Nat) : pWord B n (skp B n k) = pWord B n k := by unfold pWord; rw [skp_idem]
theorem cr_passes {K : Int32 → CS → Prop} {E : CS → Prop} {id : Nat} (h : RdC B n σ k o) (hm : 3 ≤ mc) (hs : 2564 ≤ ms) (hcb : σ.1 + 3 ≤ CB) (ht : t < 32) (hid : id = CB + 16 + 2 * t) (hw : kTxt.getD t [] = w)
    (hE : ∀ e, pPas B n k w = .inl e → ErC mc σ E e)
    (h1 : ∀ q, pPas B n k w = .inr (some q) → k < q → q ≤ n → w.length ≤ q - k → ∀ σ', FrC σ σ' → σ'.1 ≤ σ.1 + 3 → RdC B n σ' q o → gI σ' 9 3 = nI (skp B n k) → K 1 σ')
    (h0 : pPas B n k w = .inr none → ∀ σ' k', k ≤ k' → k' ≤ skp B n k → skp B n k' = skp B n k → FrC σ σ' → σ'.1 ≤ σ.1 + 3 → RdC B n σ' k' o → K 0 σ') : U_X2_passes mc ms σ id K E := by
  have hge := skp_ge B n k
  rw [okW_pas] at hE h1 h0
  unfold U_X2_passes
  refine cr_here h fun s f hs0 g => cr_letter (bt_le h.by_) ?_
  cases e : pL (bt B n (skp B n k)) with
  | false =>
    rw [e] at h0
    exact bn_f rfl (h0 (by simp) s _ hge (Nat.le_refl _) (skp_idem B n k) f (by omega) g)
  | true =>
    rw [e, if_pos rfl] at hE h1 h0
    refine bn_t (by decide) ⟨mc, ms, ⟨by omega, by omega⟩, cr_word g hm hs (by omega) (fun z hz => ?_) (fun p q hz hp1 hp2 hp3 s1 r f1 f2 f3 f4 f5 => ?_)⟩
    · rw [pWord_skp] at hz
      unfold pWord okW at hz
      rw [e] at hz
      cases ha : pA B (skp B n k) with
      | true =>
        rw [ha] at hz hE
        simp at hz
        exact (hE _ (by rw [if_pos rfl, ← hz])).go f (by omega)
      | false => rw [ha] at hz; simp at hz
    · rw [pWord_skp] at hz
      unfold pWord okW at hz
      rw [e] at hz
      cases ha : pA B (skp B n k) with
      | true => rw [ha] at hz; simp at hz
      | false =>
        rw [ha] at hz h1 h0
        simp at hz
        rw [if_neg (by decide)] at h1 h0
        obtain ⟨rfl, rfl⟩ := hz
        have hk := strK f3.ko ht hid
        rw [hw] at hk
        have hr : r < CB := by have := f5.1.1.2; have := f3.sz; omega
        refine ⟨r, rfl, f5.1.2.1, cr_equals f5.1 hk (Or.inl hr) ?_⟩
        by_cases y : wd B (skp B n k) (wEn B n (skp B n k)) = w
        · rw [decide_eq_true y]
          refine br_f (by decide) (h1 _ (by rw [if_pos y]) (by omega) hp3 ?_ s1 (f.trans f1) (by omega) f3 f4)
          rw [← y, wd_len]; omega
        · rw [decide_eq_false y]
          refine br_t rfl (st_ ?_)
          rw [h.at_]
          exact h0 (by rw [if_neg y]) _ k (Nat.le_refl _) hge rfl ((f.trans f1).wI (Or.inl scR_2)) (by show s1.1 ≤ _; omega) (f3.go h.kn)
theorem VC.isO {d q : Nat} {v : VV} (h : VC tk σ S d q v) : isOb σ q := by
  cases d with
  | zero => exact h.elim
  | succ d =>
    obtain ⟨-, h⟩ := h
    rcases h with h | h | h | h | h
    · exact isC_of h.1 rfl (Or.inr q2604)
    · exact isC_of h.1 rfl (Or.inr q2605)
    · exact isC_of h.1 rfl (Or.inr q2606)
    · exact isC_of h.1 rfl (Or.inr q2603)
    · exact isC_of h.1 rfl (Or.inr q2601)
theorem TC.isO {d q : Nat} {v : TT} (h : TC tk σ S d q v) : isOb σ q := by
  cases d with
  | zero => exact h.elim
  | succ d =>
    obtain ⟨-, h⟩ := h
    rcases h with h | h | h | h
    · exact isC_of h.1 rfl (Or.inr q2600)
    · exact isC_of h.1 rfl (Or.inr q2599)
    · exact isC_of h.1 rfl (Or.inr q2607)
    · exact isC_of h.1 rfl (Or.inr q2598)
/-- a chain that grows: its own cells are c and later ones, and none of S -/
def ChX (σ : CS) (c m : Nat) (el sg : Nat → Nat) (S : Nat → Prop) : Prop := ∃ li ar cap sb yb dc, gK σ c = some kO13 ∧ gR σ c 0 = li + 1 ∧ gR σ c 1 = sb + 1 ∧ LsX σ li ar cap m el ∧ (SbX σ sb yb dc m sg ∧ 0 < dc) ∧ (c < li ∧ c < ar ∧ c < sb ∧ c < yb) ∧ (li ≠ ar ∧ li ≠ sb ∧ li ≠ yb ∧ ar ≠ sb ∧ ar ≠ yb ∧ sb ≠ yb) ∧ (li < σ.1 ∧ ar < σ.1 ∧ sb < σ.1 ∧ yb < σ.1) ∧ (¬ S c ∧ ¬ S li ∧ ¬ S ar ∧ ¬ S sb ∧ ¬ S yb)
theorem ChX.fr (h : ChX σ c m el sg S) (f : ∀ i, c ≤ i → i < σ.1 → agr σ σ' i) (hz : σ.1 ≤ σ'.1) : ChX σ' c m el sg S := by
  obtain ⟨li, ar, cap, sb, yb, dc, h1, h2, h3, h4, ⟨h5, h5'⟩, h6, h7, h8, h9⟩ := h
  have fc := f c (Nat.le_refl _) (by omega)
  exact ⟨li, ar, cap, sb, yb, dc, by rw [fc.1]; exact h1, by rw [fc.2.2.2]; exact h2, by rw [fc.2.2.2]; exact h3, h4.fr (f li (by omega) (by omega)) (f ar (by omega) (by omega)), ⟨h5.fr (f sb (by omega) (by omega)) (f yb (by omega) (by omega)), h5'⟩, h6, h7, by omega, h9⟩
theorem ChX.more (h : ChX σ c m el sg S) (hS : ∀ i, S' i → S i ∨ σ.1 ≤ i) : ChX σ c m el sg S' := by
  obtain ⟨li, ar, cap, sb, yb, dc, h1, h2, h3, h4, h5, h6, h7, h8, h9⟩ := h
  have no : ∀ i, i < σ.1 → ¬ S i → ¬ S' i := fun i hi hs hs' => (hS i hs').elim hs (by omega)
  exact ⟨li, ar, cap, sb, yb, dc, h1, h2, h3, h4, h5, h6, h7, h8, no _ (by omega) h9.1, no _ (by omega) h9.2.1, no _ (by omega) h9.2.2.1, no _ (by omega) h9.2.2.2.1, no _ (by omega) h9.2.2.2.2⟩
theorem ChX.kind (h : ChX σ c m el sg S) : gK σ c = some kO13 := by
  obtain ⟨li, ar, cap, sb, yb, dc, h1, -⟩ := h
  exact h1
theorem ChX.lt (h : ChX σ c m el sg S) : c < σ.1 := by
  obtain ⟨li, ar, cap, sb, yb, dc, -, -, -, -, -, h6, -, h8, -⟩ := h
  omega
theorem cr_chAdd {K : Unit → CS → Prop} {s : Nat} (hs : s = 42 ∨ s = 43 ∨ s = 45 ∨ s = 47) (h : ChX σ c m el sg S) (hm : m ≤ 640) (hmc : 2 ≤ mc) (hms : m = 0 ∨ 2243 ≤ ms) (hcb : σ.1 + 2 ≤ CB) (hO : ∀ j, j < m → isC "java/lang/Object" σ (el j) ∧ S (el j)) (hx : isC "java/lang/Object" σ x ∧ S x) (hS : ∀ i, S i → i < σ.1)
    (hk : ∀ σ', σ.1 ≤ σ'.1 → σ'.1 ≤ σ.1 + 2 → (∀ i, i < c ∨ CB ≤ i ∨ S i → agr σ σ' i) → ChX σ' c (m + 1) (fu_ el m x) (fu_ sg m s) S → K () σ') : U_X16_add mc ms σ c (nI s) x K := by
  obtain ⟨li, ar, cap, sb, yb, dc, h1, h2, h3, h4, ⟨h5, h5'⟩, h6, h7, h8, h9⟩ := h
  obtain ⟨n0, n1, n2, n3, n4⟩ := h9
  have hcapp := h4.2.2.2.2.2.1.2
  have neS : ∀ {i t : Nat}, S i → ¬ S t → i ≠ t := fun a b e => b (e ▸ a)
  refine ⟨h1, sb, h3, h5.1, 1, ms - 961, ⟨by omega, by omega⟩, ?_⟩
  refine cr_app hs h5 hm (by omega) (by omega) (by omega) (by omega) (by omega) fun s1 yb1 dc1 z1 z2 fr1 hy1 sb1 => ?_
  have ac := fr1 c (Or.inl (by omega)) (by omega) (by omega)
  have al := fr1 li (Or.inl (by omega)) (by omega) (by omega)
  have aa := fr1 ar (Or.inl (by omega)) (by omega) (by omega)
  have ls1 := h4.fr al aa
  have fS1 : ∀ i, S i → agr σ s1 i := fun i hi => fr1 i (Or.inl (hS i hi)) (neS hi n3) (neS hi n4)
  refine ⟨by rw [ac.1]; exact h1, li, by rw [ac.2.2.2]; exact h2, ls1.1, 1, ms - (ms - 961), ⟨by omega, by omega⟩, ?_⟩
  refine cr_add ls1 hm (by omega) (by omega) (by omega) (by omega) (by omega) (fun j hj => (hO j hj).1.k (fS1 _ (hO j hj).2).1) (hx.1.k (fS1 _ hx.2).1) (by have := hS _ hx.2; omega) (fun j hj => by have := hS _ (hO j hj).2; omega) fun s2 ar2 cap2 z3 z4 fr2 ha2 ls2 => ?_
  have yl : yb1 < s1.1 := by omega
  have ac2 := fr2 c (Or.inl (by omega)) (by omega) (by omega)
  have as2 := fr2 sb (Or.inl (by omega)) (by omega) (by omega)
  have ay2 := fr2 yb1 (Or.inl yl) (by omega) (by omega)
  refine hk s2 (by omega) (by omega) (fun i hi => ?_) ⟨li, ar2, cap2, sb, yb1, dc1, by rw [ac2.1, ac.1]; exact h1, by rw [ac2.2.2.2, ac.2.2.2]; exact h2, by rw [ac2.2.2.2, ac.2.2.2]; exact h3, ls2, ⟨sb1.fr as2 ay2, by have := sb1.2.2.2.2.2.1; omega⟩, by omega, by omega, by omega, n0, n1, ?_, n3, ?_⟩
  · rcases hi with hi | hi | hi
    · exact (fr1 i (Or.inl (by omega)) (by omega) (by omega)).trans (fr2 i (Or.inl (by omega)) (by omega) (by omega))
    · exact (fr1 i (Or.inr hi) (by omega) (by omega)).trans (fr2 i (Or.inr hi) (by omega) (by omega))
    · exact (fS1 i hi).trans (fr2 i (Or.inl (by have := hS i hi; omega)) (neS hi n1) (neS hi n2))
  · intro z
    have := hS _ z
    rcases ha2 with e | e
    · exact n2 (e ▸ z)
    · omega
  · intro z
    have := hS _ z
    rcases hy1 with e | e
    · exact n4 (e ▸ z)
    · omega
theorem cr_lsInit {K : Unit → CS → Prop} {x1 : Int32} {c0 : Nat} (hx : x1 = nI c0) (h0 : 0 < c0) (h1 : c0 ≤ 100) (hk0 : gK σ q = some kO20) (hq : q < σ.1) (h2 : gI σ q 2 = 0) (hmc : 1 ≤ mc) (hms : c0 ≤ ms) (hcb : σ.1 + 1 ≤ CB) (el : Nat → Nat)
    (hk : ∀ σ', σ'.1 = σ.1 + 1 → (∀ i, i < σ.1 ∨ CB ≤ i → i ≠ q → agr σ σ' i) → LsX σ' q σ.1 c0 0 el → K () σ') : U_J2_init mc ms σ q x1 K := by
  subst hx
  refine ⟨by omega, hk0, st_ (br_f (nI_nle h0 (by omega)) ⟨nI_pos (by omega), ?_⟩)⟩
  rw [nI_clamp (by omega)]
  refine ⟨by omega, ⟨hmc, by omega⟩, by show σ.1 < CB; omega, st_ ⟨by omega, ?_, st_ ?_⟩⟩
  · show (if q = σ.1 then _ else gK σ q) = _
    rw [if_neg (by omega)]; exact hk0
  refine hk _ rfl (fun i hi hi2 => ((((agr.refl σ i).wI hi2).nC (by show i ≠ σ.1; omega)).wR hi2)) ⟨?_, ?_, gR_ws, ?_, by omega, ⟨by omega, h0⟩, fun j hj => absurd hj (by omega)⟩
  · show (if q = σ.1 then _ else gK σ q) = _
    rw [if_neg (by omega)]; exact hk0
  · show (if q = σ.1 then 0 else gI (wI σ q 0 0) q 2) = _
    rw [if_neg (by omega), gI_wn (by omega), h2]; rfl
  · show (if σ.1 = σ.1 then _ else _) = _
    rw [if_pos rfl]
theorem cl_16 : Int32.toNatClampNeg 16 = 16 := by decide
theorem cr_sbInit {K : Unit → CS → Prop} (hk0 : gK σ q = some kO22) (hq : q < σ.1) (h3 : gI σ q 3 = 0) (hmc : 1 ≤ mc) (hms : 16 ≤ ms) (hcb : σ.1 + 1 ≤ CB) (sg : Nat → Nat)
    (hk : ∀ σ', σ'.1 = σ.1 + 1 → (∀ i, i < σ.1 ∨ CB ≤ i → i ≠ q → agr σ σ' i) → SbX σ' q σ.1 16 0 sg → K () σ') : U_J15_init mc ms σ q K := by
  refine ⟨mc, ms, ⟨by omega, by omega⟩, by decide, ?_⟩
  rw [cl_16]
  have kq : gK (nC σ (.inr (1, 16))) q = some kO22 := by
    show (if q = σ.1 then _ else gK σ q) = _
    rw [if_neg (by omega)]; exact hk0
  refine ⟨by omega, ⟨hmc, by omega⟩, by omega, st_ ⟨by omega, kq, st_ ⟨by omega, kq, st_ ?_⟩⟩⟩
  refine hk _ rfl (fun i hi hi2 => ((((agr.refl σ i).nC (by omega)).wR hi2).wI hi2)) ⟨kq, gI_ws, ?_, gR_ws, ?_, by omega, by omega, fun j hj => absurd hj (by omega)⟩
  · rw [gI_wn (by omega)]
    show (if q = σ.1 then 0 else gI σ q 3) = _
    rw [if_neg (by omega), h3]; rfl
  · show (if σ.1 = σ.1 then _ else _) = _
    rw [if_pos rfl]
theorem cr_chInit {K : Unit → CS → Prop} (hc : gK σ c = some kO13) (hcl : c < σ.1) (hmc : 4 ≤ mc) (hms : 25 ≤ ms) (hcb : σ.1 + 4 ≤ CB) (el sg : Nat → Nat)
    (hk : ∀ σ', σ'.1 = σ.1 + 4 → (∀ i, i < σ.1 ∨ CB ≤ i → i ≠ c → agr σ σ' i) → ChX σ' c 0 el sg (fun _ => False) → K () σ') : U_X16_init mc ms σ c K := by
  refine ⟨⟨by omega, by omega⟩, by omega, st_ ⟨1, 2, ⟨by omega, by omega⟩, ?_⟩⟩
  obtain ⟨s1, hs1⟩ : ∃ s1, s1 = nC σ kO20 := ⟨_, rfl⟩
  rw [← hs1]
  have z1 : s1.1 = σ.1 + 1 := by rw [hs1]; rfl
  have a1 : ∀ i, i ≠ σ.1 → agr σ s1 i := fun i hi => by rw [hs1]; exact (agr.refl σ i).nC hi
  refine cr_lsInit (c0 := 2) rfl (by omega) (by omega) (by rw [hs1]; exact gK_n) (by omega) (by rw [hs1]; exact gI_n) (by omega) (by omega) (by omega) el fun s2 z2 f2 l2 => ?_
  have k2 : gK s2 c = some kO13 := by rw [(f2 c (Or.inl (by omega)) (by omega)).1, (a1 c (by omega)).1]; exact hc
  refine ⟨by omega, k2, st_ ⟨⟨by omega, by omega⟩, by show s2.1 < CB; omega, st_ ⟨1, 16, ⟨by omega, by omega⟩, ?_⟩⟩⟩
  obtain ⟨s3, hs3⟩ : ∃ s3, s3 = wR s2 c 0 (σ.1 + 1) := ⟨_, rfl⟩
  rw [← hs3]
  have z3 : s3.1 = s2.1 := by rw [hs3]; rfl
  have a3 : ∀ i, i ≠ c → agr s2 s3 i := fun i hi => by rw [hs3]; exact (agr.refl s2 i).wR hi
  have k3 : gK s3 c = some kO13 := by rw [hs3]; exact k2
  have r3 : gR s3 c 0 = σ.1 + 1 := by rw [hs3]; exact gR_ws
  obtain ⟨s4, hs4⟩ : ∃ s4, s4 = nC s3 kO22 := ⟨_, rfl⟩
  rw [← hs4]
  have z4 : s4.1 = σ.1 + 3 := by rw [hs4]; show s3.1 + 1 = _; omega
  have a4 : ∀ i, i ≠ s3.1 → agr s3 s4 i := fun i hi => by rw [hs4]; exact (agr.refl s3 i).nC hi
  refine cr_sbInit (by rw [hs4]; exact gK_n) (by omega) (by rw [hs4]; exact gI_n) (by omega) (by omega) (by omega) sg fun s5 z5 f5 b5 => ?_
  have k5 : agr s3 s5 c := (a4 c (by omega)).trans (f5 c (Or.inl (by omega)) (by omega))
  refine ⟨by omega, by rw [k5.1]; exact k3, st_ ?_⟩
  have aL : ∀ i, i = σ.1 ∨ i = s1.1 → agr s2 (wR s5 c 1 (s3.1 + 1)) i := fun i hi => (((a3 i (by omega)).trans (a4 i (by omega))).trans (f5 i (Or.inl (by omega)) (by omega))).wR (by omega)
  refine hk _ (by show s5.1 = _; omega) (fun i hi hi2 => ?_) ⟨σ.1, s1.1, 2, s3.1, s4.1, 16, by show gK s5 c = _; rw [k5.1]; exact k3, ?_, gR_ws, l2.fr (aL _ (Or.inl rfl)) (aL _ (Or.inr rfl)), ⟨b5.fr ((agr.refl s5 _).wR (by omega)) ((agr.refl s5 _).wR (by omega)), by omega⟩, by omega, by omega, by show σ.1 < s5.1 ∧ s1.1 < s5.1 ∧ s3.1 < s5.1 ∧ s4.1 < s5.1; omega, id, id, id, id, id⟩
  · exact (((((a1 i (by omega)).trans (f2 i (by omega) (by omega))).trans (a3 i hi2)).trans (a4 i (by omega))).trans (f5 i (by omega) (by omega))).wR hi2
  · rw [gR_wn (by omega), k5.2.2.2]; exact r3
end CC
