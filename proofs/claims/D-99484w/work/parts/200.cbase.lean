/-! COMPONENT, PURE SIDE: cells, strings, lists, sums and tests as objects. -/
section CP
variable {σ σ' σ'' : CS} {i j a b : Nat} {S S' : Nat → Prop}
theorem gI_w {v : Int32} : gI (wI σ i j v) a b = if a = i ∧ b = j then v else gI σ a b := rfl
theorem gI_ws {v : Int32} : gI (wI σ i j v) i j = v := by rw [gI_w, if_pos ⟨rfl, rfl⟩]
theorem gI_wn {v : Int32} (h : ¬ (a = i ∧ b = j)) : gI (wI σ i j v) a b = gI σ a b := by rw [gI_w, if_neg h]
theorem gI_wi {v : Int32} (h : a ≠ i) : gI (wI σ i j v) a = gI σ a := by funext b; exact gI_wn (fun z => h z.1)
theorem gL_w {v : Int64} : gL (wL σ i j v) a b = if a = i ∧ b = j then v else gL σ a b := rfl
theorem gL_ws {v : Int64} : gL (wL σ i j v) i j = v := by rw [gL_w, if_pos ⟨rfl, rfl⟩]
theorem gL_wn {v : Int64} (h : ¬ (a = i ∧ b = j)) : gL (wL σ i j v) a b = gL σ a b := by rw [gL_w, if_neg h]
theorem gL_wi {v : Int64} (h : a ≠ i) : gL (wL σ i j v) a = gL σ a := by funext b; exact gL_wn (fun z => h z.1)
theorem gR_w {v : Nat} : gR (wR σ i j v) a b = if a = i ∧ b = j then v else gR σ a b := rfl
theorem gR_ws {v : Nat} : gR (wR σ i j v) i j = v := by rw [gR_w, if_pos ⟨rfl, rfl⟩]
theorem gR_wn {v : Nat} (h : ¬ (a = i ∧ b = j)) : gR (wR σ i j v) a b = gR σ a b := by rw [gR_w, if_neg h]
theorem gR_wi {v : Nat} (h : a ≠ i) : gR (wR σ i j v) a = gR σ a := by funext b; exact gR_wn (fun z => h z.1)
theorem gI_wL {v : Int64} : gI (wL σ i j v) = gI σ := rfl
theorem gI_wR {v : Nat} : gI (wR σ i j v) = gI σ := rfl
theorem gL_wI {v : Int32} : gL (wI σ i j v) = gL σ := rfl
theorem gL_wR {v : Nat} : gL (wR σ i j v) = gL σ := rfl
theorem gR_wI {v : Int32} : gR (wI σ i j v) = gR σ := rfl
theorem gR_wL {v : Int64} : gR (wL σ i j v) = gR σ := rfl
theorem gK_wI {v : Int32} : gK (wI σ i j v) = gK σ := rfl
theorem gK_wL {v : Int64} : gK (wL σ i j v) = gK σ := rfl
theorem gK_wR {v : Nat} : gK (wR σ i j v) = gK σ := rfl
theorem gN_of {t n : Nat} (h : gK σ i = some (.inr (t, n))) : gN σ i = n := by unfold gN; rw [h]
theorem gKN {t n : Nat} (h : gK σ i = some (.inr (t, n))) : gK σ i = some (.inr (t, gN σ i)) := by rw [gN_of h]; exact h
/-- a cell is the same in two states -/
def agr (σ σ' : CS) (i : Nat) : Prop := gK σ' i = gK σ i ∧ gI σ' i = gI σ i ∧ gL σ' i = gL σ i ∧ gR σ' i = gR σ i
theorem agr.refl (σ : CS) (i : Nat) : agr σ σ i := ⟨rfl, rfl, rfl, rfl⟩
theorem agr.trans (h : agr σ σ' i) (h' : agr σ' σ'' i) : agr σ σ'' i := ⟨h'.1.trans h.1, h'.2.1.trans h.2.1, h'.2.2.1.trans h.2.2.1, h'.2.2.2.trans h.2.2.2⟩
theorem agr.wI {v : Int32} (h : agr σ σ' i) (hi : i ≠ a) : agr σ (wI σ' a b v) i := ⟨h.1, (gI_wi hi).trans h.2.1, h.2.2.1, h.2.2.2⟩
theorem agr.wL {v : Int64} (h : agr σ σ' i) (hi : i ≠ a) : agr σ (wL σ' a b v) i := ⟨h.1, h.2.1, (gL_wi hi).trans h.2.2.1, h.2.2.2⟩
theorem agr.wR {v : Nat} (h : agr σ σ' i) (hi : i ≠ a) : agr σ (wR σ' a b v) i := ⟨h.1, h.2.1, h.2.2.1, (gR_wi hi).trans h.2.2.2⟩
theorem agr.nC {k : rgK} (h : agr σ σ' i) (hi : i ≠ σ'.1) : agr σ (nC σ' k) i := by
  obtain ⟨h1, h2, h3, h4⟩ := h
  refine ⟨?_, ?_, ?_, ?_⟩
  · show (if i = σ'.1 then some k else gK σ' i) = _; rw [if_neg hi]; exact h1
  · funext b; show (if i = σ'.1 then 0 else gI σ' i b) = _; rw [if_neg hi, h2]
  · funext b; show (if i = σ'.1 then 0 else gL σ' i b) = _; rw [if_neg hi, h3]
  · funext b; show (if i = σ'.1 then 0 else gR σ' i b) = _; rw [if_neg hi, h4]
theorem agrN (h : agr σ σ' i) : gN σ' i = gN σ i := by unfold gN; rw [h.1]
theorem gK_n {k : rgK} : gK (nC σ k) σ.1 = some k := by show (if σ.1 = σ.1 then some k else gK σ σ.1) = _; rw [if_pos rfl]
theorem gI_n {k : rgK} {b : Nat} : gI (nC σ k) σ.1 b = 0 := by show (if σ.1 = σ.1 then 0 else gI σ σ.1 b) = _; rw [if_pos rfl]
theorem gR_n {k : rgK} {b : Nat} : gR (nC σ k) σ.1 b = 0 := by show (if σ.1 = σ.1 then 0 else gR σ σ.1 b) = _; rw [if_pos rfl]
theorem nC_1 {k : rgK} : (nC σ k).1 = σ.1 + 1 := rfl
/-- cells that are made as the run goes on (the first island's lie in front) -/
def dyn (n i : Nat) : Prop := (0 < i ∧ i < 8) ∨ (1296 ≤ i ∧ i < n)
/-- a text -/
def StrC (σ : CS) (S : Nat → Prop) (q : Nat) (w : List Nat) : Prop := S q ∧ gK σ q = some kO21 ∧ gI σ q 1 = 0 ∧ (w.length ≤ 1600 ∧ ∀ c, c ∈ w → pL c = true) ∧ ∃ y, S y ∧ gR σ q 0 = y + 1 ∧ gK σ y = some (.inr (1, w.length)) ∧ ∀ j, j < w.length → gI σ y j = nI (w.getD j 0)
/-- a list -/
def LsC (σ : CS) (S : Nat → Prop) (q m : Nat) (el : Nat → Nat) : Prop := S q ∧ gK σ q = some kO20 ∧ gI σ q 2 = nI m ∧ m ≤ 2000 ∧ ∃ ar cap, S ar ∧ gR σ q 1 = ar + 1 ∧ gK σ ar = some (.inr (5, cap)) ∧ m ≤ cap ∧ cap ≤ 4000 ∧ ∀ j, j < m → gR σ ar j = el j + 1
/-- a StringBuilder -/
def SbC (σ : CS) (S : Nat → Prop) (q m : Nat) (sg : Nat → Nat) : Prop := S q ∧ gK σ q = some kO22 ∧ gI σ q 1 = 0 ∧ gI σ q 3 = nI m ∧ m ≤ 2000 ∧ ∃ y cap, S y ∧ gR σ q 0 = y + 1 ∧ gK σ y = some (.inr (1, cap)) ∧ m ≤ cap ∧ cap ≤ 9000 ∧ ∀ j, j < m → gI σ y j = nI (sg j) ∧ (sg j = 42 ∨ sg j = 43 ∨ sg j = 45 ∨ sg j = 47)
theorem StrC.fr {q : Nat} {w : List Nat} (h : StrC σ S q w) (f : ∀ i, S i → agr σ σ' i) (m : ∀ i, S i → S' i) : StrC σ' S' q w := by
  obtain ⟨h1, h2, h3, h4, y, h5, h6, h7, h8⟩ := h
  have fq := f q h1
  have fy := f y h5
  exact ⟨m _ h1, by rw [fq.1]; exact h2, by rw [fq.2.1]; exact h3, h4, y, m _ h5, by rw [fq.2.2.2]; exact h6, by rw [fy.1]; exact h7, fun j hj => by rw [fy.2.1]; exact h8 j hj⟩
theorem LsC.fr {q n : Nat} {el : Nat → Nat} (h : LsC σ S q n el) (f : ∀ i, S i → agr σ σ' i) (m : ∀ i, S i → S' i) : LsC σ' S' q n el := by
  obtain ⟨h1, h2, h3, h4, y, cap, h5, h6, h7, h8, h9, h10⟩ := h
  have fq := f q h1
  have fy := f y h5
  exact ⟨m _ h1, by rw [fq.1]; exact h2, by rw [fq.2.1]; exact h3, h4, y, cap, m _ h5, by rw [fq.2.2.2]; exact h6, by rw [fy.1]; exact h7, h8, h9, fun j hj => by rw [fy.2.2.2]; exact h10 j hj⟩
theorem SbC.fr {q n : Nat} {sg : Nat → Nat} (h : SbC σ S q n sg) (f : ∀ i, S i → agr σ σ' i) (m : ∀ i, S i → S' i) : SbC σ' S' q n sg := by
  obtain ⟨h1, h2, h3, h4, h5, y, cap, h6, h7, h8, h9, h10, h11⟩ := h
  have fq := f q h1
  have fy := f y h6
  exact ⟨m _ h1, by rw [fq.1]; exact h2, by rw [fq.2.1]; exact h3, by rw [fq.2.1]; exact h4, h5, y, cap, m _ h6, by rw [fq.2.2.2]; exact h7, by rw [fy.1]; exact h8, h9, h10, fun j hj => by rw [fy.2.1]; exact h11 j hj⟩
def chV (sg : Nat → Nat) (vs : Nat → VV) : Nat → VV
  | 0 => vs 0
  | m + 1 => fun e => hdL (twoL (sg (m + 1)) (chV sg vs m e) (vs (m + 1) e))
/-- a sum as objects, d deep: of a text's kind tk, in the cells S -/
def VC (tk : Nat) (σ : CS) (S : Nat → Prop) : Nat → Nat → VV → Prop
  | 0, _, _ => False
  | d + 1, q, v => S q ∧
    ((gK σ q = some kO15 ∧ v = fun _ => gL σ q 0) ∨
     (gK σ q = some kO16 ∧ ∃ k : Nat, k < 10 ∧ alw tk k = true ∧ gI σ q 0 = nI k ∧ v = fun e => hdL (e.1 k)) ∨
     (gK σ q = some kO17 ∧ tk = 3 ∧ gR σ q 2 = 1 ∧ gI σ q 0 = 0 ∧ ∃ (x : Nat) (w : VV), gR σ q 1 = x + 1 ∧ VC tk σ S d x w ∧ v = fun e => hdL (e.2 (w e))) ∨
     (gK σ q = some kO14 ∧ ∃ (x y : Nat) (a b : VV) (two : Bool), gI σ q 0 = b1 two ∧ gR σ q 1 = x + 1 ∧ gR σ q 2 = y + 1 ∧ VC tk σ S d x a ∧ VC tk σ S d y b ∧ v = fun e => if two = true then (if a e ≤ b e then b e else a e) else (if a e ≤ b e then a e else b e)) ∨
     (gK σ q = some kO13 ∧ ∃ (li sb m : Nat) (el sg : Nat → Nat) (vs : Nat → VV), gR σ q 0 = li + 1 ∧ gR σ q 1 = sb + 1 ∧ LsC σ S li (m + 1) el ∧ SbC σ S sb (m + 1) sg ∧ (∀ j, j ≤ m → VC tk σ S d (el j) (vs j)) ∧ v = chV sg vs m))
theorem VC.fr {tk : Nat} (f : ∀ i, S i → agr σ σ' i) (m : ∀ i, S i → S' i) : ∀ (d q : Nat) (v : VV), VC tk σ S d q v → VC tk σ' S' d q v
  | 0, _, _, h => h
  | d + 1, q, v, h => by
    obtain ⟨hq, h⟩ := h
    have fq := f q hq
    refine ⟨m _ hq, ?_⟩
    rw [fq.1, fq.2.1, fq.2.2.1, fq.2.2.2]
    rcases h with h | h | ⟨h1, h2, h3, h4, x, w, h5, h6, h7⟩ | ⟨h1, x, y, a, b, two, h2, h3, h4, h5, h6, h7⟩ | ⟨h1, li, sb, k, el, sg, vs, h2, h3, h4, h5, h6, h7⟩
    · exact Or.inl h
    · exact Or.inr (Or.inl h)
    · exact Or.inr (Or.inr (Or.inl ⟨h1, h2, h3, h4, x, w, h5, VC.fr f m d x w h6, h7⟩))
    · exact Or.inr (Or.inr (Or.inr (Or.inl ⟨h1, x, y, a, b, two, h2, h3, h4, VC.fr f m d x a h5, VC.fr f m d y b h6, h7⟩)))
    · exact Or.inr (Or.inr (Or.inr (Or.inr ⟨h1, li, sb, k, el, sg, vs, h2, h3, h4.fr f m, h5.fr f m, fun j hj => VC.fr f m d _ _ (h6 j hj), h7⟩)))
theorem VC.up {tk : Nat} : ∀ (d q : Nat) (v : VV), VC tk σ S d q v → VC tk σ S (d + 1) q v
  | 0, _, _, h => h.elim
  | d + 1, q, v, h => by
    obtain ⟨hq, h⟩ := h
    refine ⟨hq, ?_⟩
    rcases h with h | h | ⟨h1, h2, h3, h4, x, w, h5, h6, h7⟩ | ⟨h1, x, y, a, b, two, h2, h3, h4, h5, h6, h7⟩ | ⟨h1, li, sb, k, el, sg, vs, h2, h3, h4, h5, h6, h7⟩
    · exact Or.inl h
    · exact Or.inr (Or.inl h)
    · exact Or.inr (Or.inr (Or.inl ⟨h1, h2, h3, h4, x, w, h5, VC.up d x w h6, h7⟩))
    · exact Or.inr (Or.inr (Or.inr (Or.inl ⟨h1, x, y, a, b, two, h2, h3, h4, VC.up d x a h5, VC.up d y b h6, h7⟩)))
    · exact Or.inr (Or.inr (Or.inr (Or.inr ⟨h1, li, sb, k, el, sg, vs, h2, h3, h4, h5, fun j hj => VC.up d _ _ (h6 j hj), h7⟩)))
theorem VC.le {tk d q : Nat} {v : VV} (h : VC tk σ S d q v) : ∀ k, VC tk σ S (d + k) q v
  | 0 => h
  | k + 1 => VC.up (d + k) q v (VC.le h k)
theorem VC.inS {tk d q : Nat} {v : VV} (h : VC tk σ S d q v) : S q := by
  cases d with
  | zero => exact h.elim
  | succ d => exact h.1
/-- all of some tests, or one of them -/
def faV (al : Bool) (ts : Nat → TT) : Nat → TT
  | 0 => ts 0
  | m + 1 => fun e => bif al then faV al ts m e && ts (m + 1) e else faV al ts m e || ts (m + 1) e
def TC (tk : Nat) (σ : CS) (S : Nat → Prop) : Nat → Nat → TT → Prop
  | 0, _, _ => False
  | d + 1, q, v => S q ∧
    ((gK σ q = some kO12 ∧ v = fun _ => true) ∨
     (gK σ q = some kO11 ∧ ∃ (x : Nat) (w : TT), gR σ q 0 = x + 1 ∧ TC tk σ S d x w ∧ v = fun e => !(w e)) ∨
     (gK σ q = some kO18 ∧ ∃ (x y c : Nat) (a b : VV), gR σ q 0 = x + 1 ∧ gR σ q 1 = y + 1 ∧ gI σ q 2 = nI c ∧ (c = 60 ∨ c = 62 ∨ c = 61) ∧ VC tk σ S d x a ∧ VC tk σ S d y b ∧ v = fun e => cmpL c (a e) (b e)) ∨
     (gK σ q = some kO10 ∧ ∃ (li m : Nat) (el : Nat → Nat) (ts : Nat → TT) (al : Bool), gR σ q 0 = li + 1 ∧ gI σ q 1 = b1 al ∧ LsC σ S li (m + 1) el ∧ (∀ j, j ≤ m → TC tk σ S d (el j) (ts j)) ∧ v = faV al ts m))
theorem TC.fr {tk : Nat} (f : ∀ i, S i → agr σ σ' i) (m : ∀ i, S i → S' i) : ∀ (d q : Nat) (v : TT), TC tk σ S d q v → TC tk σ' S' d q v
  | 0, _, _, h => h
  | d + 1, q, v, h => by
    obtain ⟨hq, h⟩ := h
    have fq := f q hq
    refine ⟨m _ hq, ?_⟩
    rw [fq.1, fq.2.1, fq.2.2.2]
    rcases h with h | ⟨h1, x, w, h2, h3, h4⟩ | ⟨h1, x, y, c, a, b, h2, h3, h4, h5, h6, h7, h8⟩ | ⟨h1, li, k, el, ts, al, h2, h3, h4, h5, h6⟩
    · exact Or.inl h
    · exact Or.inr (Or.inl ⟨h1, x, w, h2, TC.fr f m d x w h3, h4⟩)
    · exact Or.inr (Or.inr (Or.inl ⟨h1, x, y, c, a, b, h2, h3, h4, h5, VC.fr f m d x a h6, VC.fr f m d y b h7, h8⟩))
    · exact Or.inr (Or.inr (Or.inr ⟨h1, li, k, el, ts, al, h2, h3, h4.fr f m, fun j hj => TC.fr f m d _ _ (h5 j hj), h6⟩))
theorem TC.up {tk : Nat} : ∀ (d q : Nat) (v : TT), TC tk σ S d q v → TC tk σ S (d + 1) q v
  | 0, _, _, h => h.elim
  | d + 1, q, v, h => by
    obtain ⟨hq, h⟩ := h
    refine ⟨hq, ?_⟩
    rcases h with h | ⟨h1, x, w, h2, h3, h4⟩ | ⟨h1, x, y, c, a, b, h2, h3, h4, h5, h6, h7, h8⟩ | ⟨h1, li, k, el, ts, al, h2, h3, h4, h5, h6⟩
    · exact Or.inl h
    · exact Or.inr (Or.inl ⟨h1, x, w, h2, TC.up d x w h3, h4⟩)
    · exact Or.inr (Or.inr (Or.inl ⟨h1, x, y, c, a, b, h2, h3, h4, h5, VC.up d x a h6, VC.up d y b h7, h8⟩))
    · exact Or.inr (Or.inr (Or.inr ⟨h1, li, k, el, ts, al, h2, h3, h4, fun j hj => TC.up d _ _ (h5 j hj), h6⟩))
theorem TC.le {tk d q : Nat} {v : TT} (h : TC tk σ S d q v) : ∀ k, TC tk σ S (d + k) q v
  | 0 => h
  | k + 1 => TC.up (d + k) q v (TC.le h k)
theorem TC.inS {tk d q : Nat} {v : TT} (h : TC tk σ S d q v) : S q := by
  cases d with
  | zero => exact h.elim
  | succ d => exact h.1
theorem isC_of {nm C : String} {q ci N : Nat} {T : u_T} {ks : Nat → Nat × Nat} (h : gK σ q = some (.inl (ci, N, ks))) (hc : vwCl[ci]? = some (C, T, N)) (hn : C = nm ∨ Cond.castable C nm ∈ lw_tbl) : isC nm σ q := ⟨ci, C, T, N, ks, h, hc, hn⟩
theorem VC.isC {tk d q : Nat} {v : VV} (h : VC tk σ S d q v) (f : agr σ σ' q) : isC "MendedThings$Value" σ' q := by
  cases d with
  | zero => exact h.elim
  | succ d =>
    obtain ⟨-, h⟩ := h
    rcases h with h | h | h | h | h
    · exact isC_of (f.1.trans h.1) rfl (Or.inr q2582)
    · exact isC_of (f.1.trans h.1) rfl (Or.inr q2580)
    · exact isC_of (f.1.trans h.1) rfl (Or.inr q2583)
    · exact isC_of (f.1.trans h.1) rfl (Or.inr q2584)
    · exact isC_of (f.1.trans h.1) rfl (Or.inr q2581)
theorem TC.isC {tk d q : Nat} {v : TT} (h : TC tk σ S d q v) (f : agr σ σ' q) : isC "MendedThings$Test" σ' q := by
  cases d with
  | zero => exact h.elim
  | succ d =>
    obtain ⟨-, h⟩ := h
    rcases h with h | h | h | h
    · exact isC_of (f.1.trans h.1) rfl (Or.inr q2576)
    · exact isC_of (f.1.trans h.1) rfl (Or.inr q2578)
    · exact isC_of (f.1.trans h.1) rfl (Or.inr q2579)
    · exact isC_of (f.1.trans h.1) rfl (Or.inr q2577)
/- leaf laws -/
theorem U_min2 {K : Int64 → CS → Prop} {x y : Int64} (hk : K (mnL x y) σ) : U_J12_min_2 σ x y K := by
  unfold mnL at hk
  unfold U_J12_min_2
  by_cases h : y < x
  · rw [if_pos h] at hk; exact br_t h hk
  · rw [if_neg h] at hk; exact br_f h hk
theorem U_max2 {K : Int64 → CS → Prop} {x y : Int64} (hk : K (mxL x y) σ) : U_J12_max_2 σ x y K := by
  unfold mxL at hk
  unfold U_J12_max_2
  by_cases h : x < y
  · rw [if_pos h] at hk; exact br_t h hk
  · rw [if_neg h] at hk; exact br_f h hk
theorem U_held {K : Int64 → CS → Prop} {x : Int64} (hk : K (hdL x) σ) : U_X0_held σ x K := U_min2 (U_max2 hk)
theorem U_size {K : Int32 → CS → Prop} {q m : Nat} {el : Nat → Nat} (h : LsC σ S q m el) (hk : K (nI m) σ) : U_J2_size σ q K := ⟨h.2.1, by rw [h.2.2.1]; exact hk⟩
theorem U_get {K : Nat → CS → Prop} {q m : Nat} {el : Nat → Nat} (h : LsC σ S q m el) (hj : j < m) (hk : K (el j + 1) σ) : U_J2_get σ q (nI j) K := by
  obtain ⟨h1, h2, h3, h4, y, cap, h5, h6, h7, h8, h9, h10⟩ := h
  refine ⟨h2, ?_⟩
  rw [h3]
  refine br_f (nI_pos (by omega)) (br_t (nI_lt hj (by omega)) ⟨h2, h2, y, h6, gKN h7, ?_, ?_⟩)
  · rw [gN_of h7]; exact vi_ (by omega) (by omega)
  · rw [nI_clamp (by omega), h10 j hj]; exact hk
theorem chr_I : ∀ c, c < 128 → (Int32.toUInt32 (nI c &&& 255) % 65536).toInt32 = nI c := by decide +kernel
theorem nrc_I : ∀ c, c < 128 → (nI c).toUInt32.toUInt16.toUInt32.toInt32 = nI c := by decide +kernel
theorem nar_c {c : Nat} (h : c < 128) : narrow .char (.int (nI c)) = .int (nI c) := congrArg Value.int (nrc_I c h)
theorem nar_z (b : Bool) : narrow .boolean (.int (b1 b)) = .int (b1 b) := by cases b <;> rfl
theorem U_chk {K : Unit → CS → Prop} {n : Nat} (hj : j < n) (hn : n < 2 ^ 31) (hk : K () σ) : U_J6_checkIndex σ (nI j) (nI n) K := fun _ => br_f (nI_pos (by omega)) (br_t (nI_lt hj (by omega)) hk)
theorem shr_0 (x : Int32) : x >>> ((0 : Int32) &&& 31) = x := by
  rw [show ((0 : Int32) &&& 31) = 0 by decide]
  exact Int32.shiftRight_zero
theorem U_chr {K : Int32 → CS → Prop} {q m : Nat} {sg : Nat → Nat} (h : SbC σ S q m sg) (hj : j < m) (hk : K (nI (sg j)) σ) : U_J15_charAt σ q (nI j) K := by
  obtain ⟨h1, h2, h3, h4, h5, y, cap, h6, h7, h8, h9, h10, h11⟩ := h
  obtain ⟨e1, e3⟩ := h11 j hj
  have e2 : sg j < 128 := by omega
  refine ⟨h2, h2, h2, h2, y, h7, gKN h8, ?_⟩
  have hmin : U_J12_min σ (gI σ q 3) (Int32.ofNat (gN σ y) >>> (gI σ q 1 &&& 31)) = fun K => U_J12_min σ (nI m) (nI cap) K := by
    rw [h4, h3, gN_of h8, shr_0]; rfl
  rw [hmin]
  refine br_f (nI_nlt h9 (by omega)) (U_chk hj (by omega) ?_)
  refine bn_f h3 ⟨y, h7, gKN h8, ?_, ?_⟩
  · rw [gN_of h8]; exact vi_ (by omega) (by omega)
  · rw [nI_clamp (by omega), e1, chr_I _ e2]
    exact ⟨nar_c e2, nar_c e2, hk⟩
theorem U_two {K : Int64 → CS → Prop} {s : Nat} {x y : Int64} (hs : s = 42 ∨ s = 43 ∨ s = 45 ∨ s = 47) (hk : K (twoL s x y) σ) : U_X16_two σ (nI s) x y K := by
  have dv : ∀ {K : Int64 → CS → Prop}, K (if y = 0 then 0 else fdv x y) σ → ((¬ y = 0 → U_J12_floorDiv σ x y (fun r σ1 => K r σ1)) ∧ (y = 0 → K 0 σ)) := by
    intro K hk
    by_cases h : y = 0
    · rw [if_pos h] at hk; exact bn_f h hk
    · rw [if_neg h] at hk
      refine bn_t h ⟨h, ?_⟩
      unfold fdv at hk
      by_cases c1 : 0 ≤ (x ^^^ y)
      · rw [if_pos c1] at hk; exact br_t c1 hk
      · rw [if_neg c1] at hk
        refine br_f c1 ?_
        by_cases c2 : (x / y) * y = x
        · rw [if_pos c2] at hk; exact br_t c2 hk
        · rw [if_neg c2] at hk; exact br_f c2 hk
  unfold twoL at hk
  rcases hs with rfl | rfl | rfl | rfl
  · exact br_t rfl hk
  · exact br_f (by decide) (br_t rfl hk)
  · exact br_f (by decide) (br_f (by decide) (br_f (by decide) (br_t rfl hk)))
  · exact br_f (by decide) (br_f (by decide) (br_f (by decide) (br_f (by decide) (dv hk))))
end CP
