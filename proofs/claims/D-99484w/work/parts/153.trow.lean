/-! PURE SIDE: row; the model's. -/
section TRx
variable {a : AS} {τ τ' : Sto} {K : Int32 → Sto → Prop} {I : Isl} {s w : Nat → Nat} {n : Nat}
theorem brL_s (s : Nat → Nat) (n : Nat) : brL s (n + 1) = brL s n ++ (if s (1 + 5 * n) = 1 then [n] else []) := by
  unfold brL
  rw [List.range_succ, List.filter_append]
  congr 1
  by_cases c : s (1 + 5 * n) = 1
  · rw [if_pos c, List.filter_cons_of_pos (by rw [decide_eq_true_eq]; exact c)]; rfl
  · rw [if_neg c, List.filter_cons_of_neg (by rw [decide_eq_true_eq]; exact c)]; rfl
theorem brL_len (s : Nat → Nat) : ∀ n, (brL s n).length = cntP (fun t => decide (s (1 + 5 * t) = 1)) n
  | 0 => rfl
  | n + 1 => by
    have ih := brL_len s n
    have e : cntP (fun t => decide (s (1 + 5 * t) = 1)) (n + 1) = cntP (fun t => decide (s (1 + 5 * t) = 1)) n + (if decide (s (1 + 5 * n) = 1) = true then 1 else 0) := rfl
    rw [brL_s, List.length_append, ih, e]
    by_cases c : s (1 + 5 * n) = 1
    · rw [if_pos c, decide_eq_true c, if_pos rfl]; rfl
    · rw [if_neg c, decide_eq_false c, if_neg (by decide)]; rfl
theorem brL_mem {t : Nat} (h : t ∈ brL s n) : t < n := by
  unfold brL at h
  exact List.mem_range.1 (List.mem_filter.1 h).1
theorem brL_pw (s : Nat → Nat) (n : Nat) : (brL s n).Pairwise (fun x y => x < y) := by
  unfold brL
  exact List.Pairwise.filter _ (List.pairwise_lt_range)
theorem brL_moW (h8 : n ≤ 8) : moW (fun j => (brL s n).getD j 0) (brL s n).length := by
  refine ⟨fun i j hij hj => ?_, fun i hi => ?_⟩
  · have := List.pairwise_iff_getElem.1 (brL_pw s n) i j (by omega) hj hij
    simp only [List.getD_eq_getElem?_getD, List.getElem?_eq_getElem hj, List.getElem?_eq_getElem (show i < (brL s n).length by omega)]
    exact this
  · have := brL_mem (List.getElem_mem hi)
    simp only [List.getD_eq_getElem?_getD, List.getElem?_eq_getElem hi]
    show (brL s n)[i] < 8
    omega
theorem range_map (l : List Nat) : (List.range l.length).map (fun j => l.getD j 0) = l := by
  apply List.ext_getElem
  · rw [List.length_map, List.length_range]
  · intro i h1 h2
    rw [List.getElem_map, List.getElem_range, List.getD_eq_getElem?_getD, List.getElem?_eq_getElem h2]; rfl
theorem erase_map {t : Nat} : ∀ (l : List Nat), (∀ x, x ∈ l → w x = w t → x = t) → (l.map w).erase (w t) = (l.erase t).map w
  | [], _ => rfl
  | x :: l, h => by
    rw [List.map_cons, List.erase_cons, List.erase_cons]
    by_cases c : x = t
    · subst c; simp
    · have c2 : ¬ w x = w t := fun z => c (h x (List.mem_cons_self ..) z)
      rw [if_neg (by simpa using c2), if_neg (by simpa using c), List.map_cons, erase_map l (fun y hy => h y (List.mem_cons_of_mem _ hy))]
theorem flatMap_eq {β : Type} {g g' : Nat → List β} : ∀ (l : List Nat), (∀ t, t ∈ l → g t = g' t) → l.flatMap g = l.flatMap g'
  | [], _ => rfl
  | x :: l, h => by rw [List.flatMap_cons, List.flatMap_cons, h x (List.mem_cons_self ..), flatMap_eq l (fun t ht => h t (List.mem_cons_of_mem _ ht))]
theorem dfsL_map : ∀ (f : Nat) (l : List Nat), (∀ x y, x ∈ l → y ∈ l → w x = w y → x = y) → dfsL f (l.map w) = (dfsL f l).map (fun q => q.map w)
  | 0, _, _ => rfl
  | f + 1, l, h => by
    have e : ∀ l, dfsL (f + 1) l = if l.isEmpty then [[]] else l.flatMap (fun t => (dfsL f (l.erase t)).map (fun q => t :: q)) := fun _ => rfl
    rw [e, e, List.isEmpty_map]
    cases c : l.isEmpty with
    | true => rfl
    | false =>
      rw [if_neg (by decide), if_neg (by decide), List.flatMap_map, List.map_flatMap]
      refine flatMap_eq l (fun t ht => ?_)
      rw [erase_map l (fun x hx z => h x t hx ht z), dfsL_map f (l.erase t) (fun x y hx hy z => h x y (List.mem_of_mem_erase hx) (List.mem_of_mem_erase hy) z), List.map_map, List.map_map]
      rfl
end TRx
