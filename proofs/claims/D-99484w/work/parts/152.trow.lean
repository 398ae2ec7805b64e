/-! PURE SIDE: row, on; the model's. -/
def brL (s : Nat → Nat) (n : Nat) : List Nat := (List.range n).filter (fun t => decide (s (1 + 5 * t) = 1))
def rwS (I : Isl) (s : Nat → Nat) (b : Option (Nat × List Nat)) (L : List Nat) : Option (Nat × List Nat) := if b = none ∨ (csL I s L).2 < (b.getD (0, [])).1 then some ((csL I s L).2, L) else b
def rowB (I : Isl) (s : Nat → Nat) : Option (Nat × List Nat) := (dfsL (brL s (iC I 0)).length (brL s (iC I 0))).foldl (rwS I s) none
def roF (b : Option (Nat × List Nat)) (x : Int32) : Int32 := match b with
  | none => -1
  | some p => if x = -1 then nI p.1 else nI (p.2.getD (ix x) 0)
def sp_row (a : AS) (x : Int32) : Int32 := if decide ((brL (aS a).1 (iC (aI a) 0)).length ≤ 6) && (decide (iC (aI a) 1 ≠ 0) && inR x (-1) (((brL (aS a).1 (iC (aI a) 0)).length : Int) - 1)) then roF (rowB (aI a) (aS a).1) x else -1
section TRw
variable {a : AS} {τ τ' : Sto} {K : Int32 → Sto → Prop} {I : Isl} {s w : Nat → Nat} {n : Nat}
theorem csL_le (hI : IslOK I) : ∀ (l : List Nat), (∀ t, t ∈ l → t < iC I 0) → l.length ≤ 6 → (csL I s l).1 ≤ 99 * l.length ∧ (csL I s l).2 ≤ 99 * (99 * 6) * l.length := by
  refine snoc_ind (fun _ _ => ⟨Nat.zero_le _, Nat.zero_le _⟩) (fun l c ih h hl => ?_)
  rw [List.length_append, List.length_singleton] at hl
  have h1 := ih (fun x hx => h x (by simp [hx])) (by omega)
  have h2 := hI.2.2.1 c (h c (by simp))
  have h3 := spTakes_rng (I := I) (fr := (-1, 0)) (s := s) (t := c) (m := 0)
  have e : csL I s (l ++ [c]) = csS I s (csL I s l) c := by unfold csL; rw [List.foldl_append]; rfl
  rw [e, List.length_append, List.length_singleton]
  unfold csS
  refine ⟨by show _ + _ ≤ _; omega, ?_⟩
  show (csL I s l).2 + iX I (3 * c + 1) * ((csL I s l).1 + spTakes I (-1, 0) s c 0) ≤ _
  have : iX I (3 * c + 1) * ((csL I s l).1 + spTakes I (-1, 0) s c 0) ≤ 99 * (99 * 6) := Nat.mul_le_mul h2.2.1 (by omega)
  omega
theorem RT.f62 (h : RT a τ) (f : Fr62 τ τ') : RT a τ' := by
  obtain ⟨c, hc, hc2⟩ := h.2.2.2.2.2.2.2.2.2.2
  refine h.fr ⟨fun i j hij => f.1 i j (fun z => hij (by simp [scrT, z])), fun i j _ => by rw [f.2], c, hc, by rw [f.1 0 92 (by omega)]; exact hc2⟩
def csI (b : Option (Nat × List Nat)) : Int32 := match b with
  | none => -1
  | some p => nI p.1
def bsR (n : Nat) (b : Option (Nat × List Nat)) (τ : Sto) : Prop := ∀ p, b = some p → p.1 < 2 ^ 31 ∧ ∀ j, j < n → τ.1 63 j = nI (p.2.getD j 0)
theorem map_getD (l : List Nat) {j : Nat} (h : j < l.length) : (l.map w).getD j 0 = w (l.getD j 0) := by
  simp only [List.getD_eq_getElem?_getD, List.getElem?_map, List.getElem?_eq_getElem h]; rfl
theorem T_row_117_law {k85 : Int32 → Int32 → Sto → Prop} {x c : Int32} {l : List Nat} (hn : n ≤ 6) (h : RT a τ) (ho : orR w n l τ) (hk : ∀ τ', RT a τ' → orR w n l τ' → (∀ j, j < n → τ'.1 63 j = nI (w (l.getD j 0))) → T_isNextOrder τ' (nI n) (fun r τ1 => k85 c r τ1)) : ∃ g, T_row_117 K k85 x (nI n) c g 0 τ := by
  refine ⟨n + 1, ?_⟩
  have lp : ∀ (d g k : Nat) (τ' : Sto), n - k = d → d < g → k ≤ n → RT a τ' → orR w n l τ' → (∀ j, j < k → τ'.1 63 j = nI (w (l.getD j 0))) → T_row_117 K k85 x (nI n) c g (nI k) τ' := by
    intro d
    induction d with
    | zero =>
      intro g k τ' hd hg hkn hR o1 o2
      obtain ⟨g, rfl⟩ : ∃ f', g = f' + 1 := ⟨g - 1, by omega⟩
      obtain rfl : k = n := by omega
      unfold T_row_117
      exact br_t (nI_le (by omega) (by omega)) (hk τ' hR o1 o2)
    | succ d ih =>
      intro g k τ' hd hg hkn hR o1 o2
      obtain ⟨g, rfl⟩ : ∃ f', g = f' + 1 := ⟨g - 1, by omega⟩
      unfold T_row_117
      rw [nI_clamp (by omega), o1.2.2 k (by omega), nI_1]
      refine br_f (nI_ge (by omega) (by omega)) ⟨vi_ (by omega) (by omega), vi_ (by omega) (by omega), st_ (ih g (k + 1) _ (by omega) (by omega) (by omega) (hR.scr (by simp [scrT]) (by omega)) ⟨o1.1, o1.2.1, fun j hj => by rw [sI_neI (by omega)]; exact o1.2.2 j hj⟩ (fun j hj => ?_))⟩
      by_cases c : j = k
      · subst c; exact sI_same ..
      · rw [sI_ne (by omega)]; exact o2 j (by omega)
  exact lp n _ 0 τ rfl (by omega) (by omega) h ho (fun _ z => absurd z (by omega))
theorem T_row_85_law {x : Int32} (hn : n ≤ 6) (hw : moW w n) (hwI : ∀ j, j < n → w j < iC (aI a) 0) (hm : 0 < iC (aI a) 1) (hx : inR x (-1) ((n : Int) - 1) = true) :
    ∀ (f : Nat) (l : List Nat) (b : Option (Nat × List Nat)) (g : Nat) (τ : Sto), f + 1 < g → (itL n f l).length ≤ f → (∀ l', l' ∈ itL n f l → l'.length = n ∧ (∀ y, y ∈ l' → y < n) ∧ ∀ k, nxK l' (n - 1) = some k → l'.getD k 0 ≤ l'.getD (nxJ l' k n) 0 ∧ k < nxJ l' k n ∧ nxJ l' k n < n) → RT a τ → orR w n l τ → bsR n b τ →
      (∀ τ', RT a τ' → K (roF (((itL n f l).map (fun l => l.map w)).foldl (rwS (aI a) (aS a).1) b) x) τ') → T_row_85 K x (nI n) g (csI b) 1 τ
  | 0, l, b, g, τ, _, hlen, _, _, _, _, _ => absurd hlen (by show ¬ 1 ≤ 0; omega)
  | f + 1, l, b, g, τ, hg, hlen, hp, hR, ho, hb, hk => by
    obtain ⟨g, rfl⟩ : ∃ f', g = f' + 1 := ⟨g - 1, by omega⟩
    have hE := hR.ev
    have e : itL n (f + 1) l = l :: (match nextL n l with
      | none => []
      | some l' => itL n f l') := rfl
    obtain ⟨p1, p2, p3⟩ := hp l (by rw [e]; exact List.mem_cons_self ..)
    have hLl : (l.map w).length = n := by rw [List.length_map]; exact p1
    have hLm : ∀ t, t ∈ l.map w → t < iC (aI a) 0 := fun t ht => by
      obtain ⟨y, hy, rfl⟩ := List.mem_map.1 ht
      exact hwI y (p2 y hy)
    have hcl := (csL_le (s := (aS a).1) hE.1 (l.map w) hLm (by omega)).2
    rw [hLl] at hcl
    have hc31 : (csL (aI a) (aS a).1 (l.map w)).2 < 2 ^ 31 := by omega
    rw [e, List.map_cons, List.foldl_cons] at hk
    rw [e] at hlen hp
    -- what is left once this order is weighed
    have rest : ∀ (b' : Option (Nat × List Nat)) (τ1 : Sto), rwS (aI a) (aS a).1 b (l.map w) = b' → RT a τ1 → orR w n l τ1 → bsR n b' τ1 → T_isNextOrder τ1 (nI n) (fun r τ2 => T_row_85 K x (nI n) g (csI b') r τ2) := by
      intro b' τ1 eb h1 o1 hb1
      rw [eb] at hk
      refine T_isNextOrder_law hn hw o1 p3 ?_
      cases en : nextL n l with
      | none =>
        rw [en] at hk
        have hk : ∀ τ', RT a τ' → K (roF b' x) τ' := hk
        obtain ⟨g, rfl⟩ : ∃ f', g = f' + 1 := ⟨g - 1, by omega⟩
        show T_row_85 K x (nI n) (g + 1) (csI b') 0 τ1
        unfold T_row_85
        refine br_t rfl ?_
        have hbs : ∃ p, b' = some p := by
          rw [← eb]; unfold rwS
          by_cases c : b = none ∨ (csL (aI a) (aS a).1 (l.map w)).2 < (b.getD (0, [])).1
          · rw [if_pos c]; exact ⟨_, rfl⟩
          · rw [if_neg c]
            cases b with
            | none => exact absurd (Or.inl rfl) c
            | some p => exact ⟨p, rfl⟩
        obtain ⟨p, rfl⟩ := hbs
        have hb1 := hb1 p rfl
        have hkk := hk τ1 h1
        unfold roF at hkk
        by_cases cx : x = -1
        · simp only [cx, if_true] at hkk
          exact bn_f cx hkk
        · simp only [cx, if_false] at hkk
          have hx' := hx
          unfold inR at hx'
          rw [decide_eq_true_eq] at hx'
          have hx0 : x.toInt ≠ -1 := fun z => cx (Int32.toInt_inj.mp (by rw [z]; rfl))
          obtain ⟨q1, q2⟩ := inR_ix (x := x) (n := n) (by unfold inR; rw [decide_eq_true_eq]; omega) (by omega)
          refine bn_t cx ?_
          rw [q1, nI_clamp (by omega), hb1.2 _ q2]
          exact ⟨vi_ (by omega) (by omega), hkk⟩
      | some l' =>
        rw [en] at hk hlen hp
        have hlen : (l :: itL n f l').length ≤ f + 1 := hlen
        rw [List.length_cons] at hlen
        intro τ2 o2 f2
        exact T_row_85_law hn hw hwI hm hx f l' b' g τ2 (by omega) (by omega) (fun q hq => hp q (List.mem_cons_of_mem _ hq)) (h1.f62 f2) o2 (fun p hpp => ⟨(hb1 p hpp).1, fun j hj => by rw [f2.1 63 _ (by omega)]; exact (hb1 p hpp).2 j hj⟩) hk
    unfold T_row_85
    refine br_f (by decide) (T_sumOf_law (L := l.map w) hE hm hLl hn (fun j hj => ?_) fun τ1 f1 => ?_)
    · rw [map_getD l (by omega)]
      exact ⟨hwI _ (ho.2.1 j hj), ho.2.2 j hj⟩
    have h1 := hR.frE f1
    have o1 : orR w n l τ1 := ⟨ho.1, ho.2.1, fun j hj => by rw [f1.1 62 _ (by omega)]; exact ho.2.2 j hj⟩
    have hb1 : bsR n b τ1 := fun p hpp => ⟨(hb p hpp).1, fun j hj => by rw [f1.1 63 _ (by omega)]; exact (hb p hpp).2 j hj⟩
    have take : (b = none ∨ (csL (aI a) (aS a).1 (l.map w)).2 < (b.getD (0, [])).1) → ∃ g', T_row_117 K (T_row_85 K x (nI n) g) x (nI n) (nI (csL (aI a) (aS a).1 (l.map w)).2) g' 0 τ1 := by
      intro hl
      refine T_row_117_law hn h1 o1 fun τ2 h2 o2 hbb => rest (some ((csL (aI a) (aS a).1 (l.map w)).2, l.map w)) τ2 (by unfold rwS; rw [if_pos hl]) h2 o2 (fun p hpp => ?_)
      cases hpp
      exact ⟨hc31, fun j hj => by rw [map_getD l (by omega)]; exact hbb j hj⟩
    cases b with
    | none => exact br_t rfl (take (Or.inl rfl))
    | some p =>
      have hp31 := (hb p rfl).1
      refine br_f (fun z => nI_m1 hp31 z.symm) ?_
      by_cases c : (csL (aI a) (aS a).1 (l.map w)).2 < p.1
      · exact br_f (nI_ge c (by omega)) (take (Or.inr c))
      · refine br_t (nI_le (by omega) (by omega)) (rest (some p) τ1 ?_ h1 o1 hb1)
        unfold rwS
        rw [if_neg]
        rintro (z | z)
        · cases z
        · exact c z
end TRw
