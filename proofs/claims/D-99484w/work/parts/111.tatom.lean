/-! PURE SIDE, the model's reader: products, sums, atoms. -/
/-- a code that a text of this kind can hold -/
def okC (tk : Nat) (x : Int32) : Bool := decide (x < 40) || decide (1000 ≤ x) || (decide (x < 60) && alw tk (x - 40).toNatClampNeg) || (decide (x = 60) && decide (tk = 3))
def NoL (tk : Nat) (c : List Int32) : Prop := ∀ x, x ∈ c → okC tk x = true
def DnV (tk : Nat) (c : List Int32) (v : VV) : Prop := DenV c v ∧ NoL tk c
theorem NoL.app {tk : Nat} {c c' : List Int32} (h : NoL tk c) (h' : NoL tk c') : NoL tk (c ++ c') := fun x hx => by
  rcases List.mem_append.mp hx with hx | hx
  · exact h x hx
  · exact h' x hx
theorem NoL.one {tk : Nat} {x : Int32} (h : okC tk x = true) : NoL tk [x] := fun y hy => by
  have : y = x := by simpa using hy
  rw [this]; exact h
theorem DenV.pos {c : List Int32} {v : VV} (h : DenV c v) : 0 < c.length := by
  cases c with
  | nil =>
    have := h.1 ((fun _ => 0), (fun _ => 0)) []
    simp [runC] at this
  | cons x c => simp
theorem DnV.two {tk : Nat} {c c' : List Int32} {v w : VV} {s : Nat} (hs : s = 42 ∨ s = 43 ∨ s = 45 ∨ s = 47) (h : DnV tk c v) (h' : DnV tk c' w) : DnV tk (c ++ c' ++ [opC s]) (fun e => hdL (twoL s (v e) (w e))) :=
  ⟨h.1.two hs h'.1, (h.2.app h'.2).app (NoL.one (by rcases hs with rfl | rfl | rfl | rfl <;> rfl))⟩
section TA
variable {τ0 τ : Sto} {B : Byt} {n k o bs tk : Nat} {C W : List Int32} {K : Sto → Prop} {x1 : Int32} {A : Nat → Rs (VV × Nat)}
def AtomOK (τ0 : Sto) (B : Byt) (n bs : Nat) (K : Sto → Prop) (x1 : Int32) (tk : Nat) (A : Nat → Rs (VV × Nat)) (o : Nat) : Prop := ∀ (k : Nat) (C W : List Int32), k ≤ n → bs ≤ W.length → C.length + W.length ≤ k →
  (∀ v k', A k = .inr (v, k') → ∀ c, DnV tk c v → c.length + k ≤ k' → GoE τ0 B n bs K x1 k' (C ++ c) W o) → (∀ kd pl, A k = .inl (kd, pl) → FFs τ0 1601 K kd pl) → GoP τ0 B n bs K x1 k C W o
theorem op60 {c : Nat} (h : c = 42 ∨ c = 43 ∨ c = 45 ∨ c = 47) : opC c < 60 := by rcases h with rfl | rfl | rfl | rfl <;> decide
theorem opMul {c : Nat} (h : c = 42 ∨ c = 47) : mulI (opC c) := by rcases h with rfl | rfl <;> simp [mulI, opC]
theorem opAdd {c : Nat} (h : c = 43 ∨ c = 45) : ¬ mulI (opC c) ∧ opI (opC c) := by rcases h with rfl | rfl <;> simp [mulI, opC, opI]
theorem GoG.out (h : k ≤ n → GoG τ0 B n bs K x1 k C W o) : GoG τ0 B n bs K x1 k C W o := fun f h' τ hf hh g => h g.kn f h' τ hf hh g
theorem GoE.out (h : k ≤ n → GoE τ0 B n bs K x1 k C W o) : GoE τ0 B n bs K x1 k C W o := fun f KK τ hf hh g => h g.kn f KK τ hf hh g
theorem prod_loop (hT : TxT τ0 B n) (hA : AtomOK τ0 B n bs K x1 tk A o) (hW : topN mulI W) (hbW : bs ≤ W.length) :
    ∀ (f : Nat) (v : VV) (k k0 : Nat) (c pend : List Int32), skp B n k0 = skp B n k → n - skp B n k ≤ f → (∀ y, y ∈ pend → mulI y) → pend.length ≤ 1 → DnV tk (c ++ pend) v → C.length + c.length + pend.length + W.length ≤ skp B n k →
    (∀ v' k', pPrL B n A f v k = .inr (v', k') → ∀ c' pend', (∀ y, y ∈ pend' → mulI y) → pend'.length ≤ 1 → DnV tk (c' ++ pend') v' → c'.length + pend'.length + skp B n k ≤ k' + c.length + pend.length → bt B n k' ≠ 42 ∧ bt B n k' ≠ 47 → ∀ k0, skp B n k0 = k' → GoG τ0 B n bs K x1 k0 (C ++ c') (pend' ++ W) o) →
    (∀ kd pl, pPrL B n A f v k = .inl (kd, pl) → FFs τ0 1601 K kd pl) → GoG τ0 B n bs K x1 k0 (C ++ c) (pend ++ W) o := by
  have hn := hT.1
  intro f
  induction f with
  | zero =>
    intro v k k0 c pend hk0 hf hp hpl hd hz hok her
    have e : bt B n (skp B n k) = 256 := bt_ge (by omega)
    exact hok v (skp B n k) rfl c pend hp hpl hd (by omega) (by omega) k0 hk0
  | succ f ih =>
    intro v k k0 c pend hk0 hf hp hpl hd hz hok her
    by_cases hm : bt B n (skp B n k) = 42 ∨ bt B n (skp B n k) = 47
    · have hs4 : bt B n (skp B n k) = 42 ∨ bt B n (skp B n k) = 43 ∨ bt B n (skp B n k) = 45 ∨ bt B n (skp B n k) = 47 := by omega
      have hin : skp B n k < n := bt_in (B := B) (c := bt B n (skp B n k)) rfl (by omega)
      have hun : pPrL B n A (f + 1) v k = rsB (A (skp B n k + 1)) (fun r => pPrL B n A f (fun e => hdL (twoL (bt B n (skp B n k)) (v e) (r.1 e))) r.2) := by
        show (if _ then _ else _) = _
        rw [if_pos hm]
      refine goG_mul hT hk0 rfl hm hp (by omega) hW (by simp only [List.length_append]; omega) ?_
      refine hA (skp B n k + 1) (C ++ c ++ pend) (opC _ :: W) (by omega) (by simp only [List.length_cons]; omega) (by simp only [List.length_append, List.length_cons]; omega) (fun w k' ea c2 hd2 hl2 => ?_) (fun kd pl ea => her kd pl (by rw [hun, ea]; rfl))
      have hpos := hd2.1.pos
      have hsk' := skp_ge B n k'
      refine GoE.out fun hk'n => goE_stop (by simp only [List.length_cons]; omega) (by simp only [List.length_cons]; omega) (Or.inr ⟨_, _, rfl, op60 hs4⟩) ?_
      have hd3 := hd.two hs4 hd2
      have := ih (fun e => hdL (twoL (bt B n (skp B n k)) (v e) (w e))) k' k' (c ++ pend ++ c2) [opC (bt B n (skp B n k))] rfl (by omega) (fun y hy => by rw [List.mem_singleton.mp hy]; exact opMul hm) (by simp) hd3 (by simp only [List.length_append, List.length_cons, List.length_nil]; omega)
        (fun v' k'' e' c' pend' a1 a2 a3 a4 a5 => hok v' k'' (by rw [hun, ea]; exact e') c' pend' a1 a2 a3 (by simp only [List.length_append, List.length_cons, List.length_nil] at a4; omega) a5)
        (fun kd pl e' => her kd pl (by rw [hun, ea]; exact e'))
      rw [← List.append_assoc, ← List.append_assoc] at this
      exact this
    · have hun : pPrL B n A (f + 1) v k = .inr (v, skp B n k) := by
        show (if _ then _ else _) = _
        rw [if_neg hm]
      exact hok v (skp B n k) hun c pend hp hpl hd (by omega) (by omega) k0 hk0
theorem prod_law (hT : TxT τ0 B n) (hA : AtomOK τ0 B n bs K x1 tk A o) (hW : topN mulI W) (hW6 : W.length = bs ∨ ∃ v W', W = v :: W' ∧ v < 60) (hbW : bs ≤ W.length) (hkn : k ≤ n) (hz : C.length + W.length ≤ k)
    (hok : ∀ v' k', pPro B n A k = .inr (v', k') → ∀ c' pend', (∀ y, y ∈ pend' → mulI y) → pend'.length ≤ 1 → DnV tk (c' ++ pend') v' → c'.length + pend'.length + k ≤ k' → bt B n k' ≠ 42 ∧ bt B n k' ≠ 47 → ∀ k0, skp B n k0 = k' → GoG τ0 B n bs K x1 k0 (C ++ c') (pend' ++ W) o)
    (her : ∀ kd pl, pPro B n A k = .inl (kd, pl) → FFs τ0 1601 K kd pl) : GoP τ0 B n bs K x1 k C W o := by
  have hn := hT.1
  refine hA k C W hkn hbW hz (fun v k' ea c hd hl => ?_) (fun kd pl ea => her kd pl (by unfold pPro; rw [ea]; rfl))
  have hpos := hd.1.pos
  have hun : pPro B n A k = pPrL B n A (n - k') v k' := by unfold pPro; rw [ea]; rfl
  have hsk' := skp_ge B n k'
  refine GoE.out fun hk'n => goE_stop (by omega) hbW hW6 ?_
  have := prod_loop (C := C) hT hA hW hbW (n - k') v k' k' c [] rfl (by omega) (fun y hy => by cases hy) (by simp) (by rw [List.append_nil]; exact hd) (by simp only [List.length_nil]; omega)
    (fun v' k'' e' c' pend' a1 a2 a3 a4 a5 => hok v' k'' (by rw [hun]; exact e') c' pend' a1 a2 a3 (by simp only [List.length_nil] at a4; omega) a5)
    (fun kd pl e' => her kd pl (by rw [hun]; exact e'))
  rw [List.nil_append] at this
  exact this
theorem sum_loop (hT : TxT τ0 B n) (hA : AtomOK τ0 B n bs K x1 tk A o) (hW : topN opI W) (hbW : bs ≤ W.length) :
    ∀ (f : Nat) (v : VV) (k k0 : Nat) (c pend : List Int32), skp B n k0 = skp B n k → n - skp B n k ≤ f → (∀ y, y ∈ pend → opI y) → pend.length ≤ 2 → DnV tk (c ++ pend) v → C.length + c.length + pend.length + W.length ≤ skp B n k → bt B n (skp B n k) ≠ 42 ∧ bt B n (skp B n k) ≠ 47 →
    (∀ v' k', pSuL B n A f v k = .inr (v', k') → ∀ c' pend', (∀ y, y ∈ pend' → opI y) → pend'.length ≤ 2 → DnV tk (c' ++ pend') v' → c'.length + pend'.length + skp B n k ≤ k' + c.length + pend.length → bt B n k' ≠ 42 ∧ bt B n k' ≠ 43 ∧ bt B n k' ≠ 45 ∧ bt B n k' ≠ 47 → ∀ k0, skp B n k0 = k' → GoG τ0 B n bs K x1 k0 (C ++ c') (pend' ++ W) o) →
    (∀ kd pl, pSuL B n A f v k = .inl (kd, pl) → FFs τ0 1601 K kd pl) → GoG τ0 B n bs K x1 k0 (C ++ c) (pend ++ W) o := by
  have hn := hT.1
  intro f
  induction f with
  | zero =>
    intro v k k0 c pend hk0 hf hp hpl hd hz hnm hok her
    have e : bt B n (skp B n k) = 256 := bt_ge (by omega)
    exact hok v (skp B n k) rfl c pend hp hpl hd (by omega) (by omega) k0 hk0
  | succ f ih =>
    intro v k k0 c pend hk0 hf hp hpl hd hz hnm hok her
    by_cases hm : bt B n (skp B n k) = 43 ∨ bt B n (skp B n k) = 45
    · have hs4 : bt B n (skp B n k) = 42 ∨ bt B n (skp B n k) = 43 ∨ bt B n (skp B n k) = 45 ∨ bt B n (skp B n k) = 47 := by omega
      have hin : skp B n k < n := bt_in (B := B) (c := bt B n (skp B n k)) rfl (by omega)
      have hun : pSuL B n A (f + 1) v k = rsB (pPro B n A (skp B n k + 1)) (fun r => pSuL B n A f (fun e => hdL (twoL (bt B n (skp B n k)) (v e) (r.1 e))) r.2) := by
        show (if _ then _ else _) = _
        rw [if_pos hm]
      refine goG_add hT hk0 rfl hm hp (by omega) hW (by simp only [List.length_append]; omega) ?_
      refine prod_law (C := C ++ c ++ pend) (W := opC (bt B n (skp B n k)) :: W) hT hA (fun v W' e => by cases e; exact (opAdd hm).1) (Or.inr ⟨_, _, rfl, op60 hs4⟩) (by simp only [List.length_cons]; omega) (by omega) (by simp only [List.length_append, List.length_cons]; omega) (fun w k' ea c2 pend2 b1 b2 hd2 hl2 hnm2 k1 hk1 => ?_) (fun kd pl ea => her kd pl (by rw [hun, ea]; rfl))
      have hd3 := hd.two hs4 hd2
      have hpos := hd2.1.pos
      rw [List.length_append] at hpos
      have hkk : skp B n k' = k' := by rw [← hk1, skp_idem]
      have hd4 : DnV tk ((c ++ pend ++ c2) ++ (pend2 ++ [opC (bt B n (skp B n k))])) (fun e => hdL (twoL (bt B n (skp B n k)) (v e) (w e))) := by
        have e : (c ++ pend ++ c2) ++ (pend2 ++ [opC (bt B n (skp B n k))]) = c ++ pend ++ (c2 ++ pend2) ++ [opC (bt B n (skp B n k))] := by simp only [List.append_assoc]
        rw [e]; exact hd3
      have := ih (fun e => hdL (twoL (bt B n (skp B n k)) (v e) (w e))) k' k1 (c ++ pend ++ c2) (pend2 ++ [opC (bt B n (skp B n k))]) (by rw [hk1, hkk]) (by omega)
        (fun y hy => by
          rcases List.mem_append.mp hy with hy | hy
          · exact (b1 y hy).op
          · rw [List.mem_singleton.mp hy]; exact (opAdd hm).2) (by simp only [List.length_append, List.length_cons, List.length_nil]; omega) hd4 (by simp only [List.length_append, List.length_cons, List.length_nil]; omega) (by rw [hkk]; exact hnm2)
        (fun v' k'' e' c' pend' a1 a2 a3 a4 a5 => hok v' k'' (by rw [hun, ea]; exact e') c' pend' a1 a2 a3 (by simp only [List.length_append, List.length_cons, List.length_nil] at a4; omega) a5)
        (fun kd pl e' => her kd pl (by rw [hun, ea]; exact e'))
      have e2 : C ++ (c ++ pend ++ c2) = C ++ c ++ pend ++ c2 := by simp only [List.append_assoc]
      have e3 : (pend2 ++ [opC (bt B n (skp B n k))]) ++ W = pend2 ++ opC (bt B n (skp B n k)) :: W := by simp only [List.append_assoc, List.singleton_append]
      rw [e2, e3] at this
      exact this
    · have hun : pSuL B n A (f + 1) v k = .inr (v, skp B n k) := by
        show (if _ then _ else _) = _
        rw [if_neg hm]
      exact hok v (skp B n k) hun c pend hp hpl hd (by omega) (by omega) k0 hk0
theorem sum_law (hT : TxT τ0 B n) (hA : AtomOK τ0 B n bs K x1 tk A o) (hW : topN opI W) (hW6 : W.length = bs ∨ ∃ v W', W = v :: W' ∧ v < 60) (hbW : bs ≤ W.length) (hkn : k ≤ n) (hz : C.length + W.length ≤ k)
    (hok : ∀ v' k', pSum B n A k = .inr (v', k') → ∀ c' pend', (∀ y, y ∈ pend' → opI y) → pend'.length ≤ 2 → DnV tk (c' ++ pend') v' → c'.length + pend'.length + k ≤ k' → bt B n k' ≠ 42 ∧ bt B n k' ≠ 43 ∧ bt B n k' ≠ 45 ∧ bt B n k' ≠ 47 → ∀ k0, skp B n k0 = k' → GoG τ0 B n bs K x1 k0 (C ++ c') (pend' ++ W) o)
    (her : ∀ kd pl, pSum B n A k = .inl (kd, pl) → FFs τ0 1601 K kd pl) : GoP τ0 B n bs K x1 k C W o := by
  have hn := hT.1
  refine prod_law hT hA (fun v W' e h => hW v W' e h.op) hW6 hbW hkn hz (fun v k' ea c pend b1 b2 hd hl hnm k0 hk0 => ?_) (fun kd pl ea => her kd pl (by unfold pSum; rw [ea]; rfl))
  have hun : pSum B n A k = pSuL B n A (n - k') v k' := by unfold pSum; rw [ea]; rfl
  have hkk : skp B n k' = k' := by rw [← hk0, skp_idem]
  exact sum_loop (C := C) hT hA hW hbW (n - k') v k' k0 c pend (by rw [hk0, hkk]) (by rw [hkk]; exact Nat.le_refl _) (fun y hy => (b1 y hy).op) (by omega) hd (by rw [hkk]; omega) (by rw [hkk]; exact hnm)
    (fun v' k'' e' c' pend' a1 a2 a3 a4 a5 => hok v' k'' (by rw [hun]; exact e') c' pend' a1 a2 a3 (by rw [hkk] at a4; omega) a5)
    (fun kd pl e' => her kd pl (by rw [hun]; exact e'))
end TA
