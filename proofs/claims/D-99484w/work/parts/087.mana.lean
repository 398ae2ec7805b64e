/-- an array of arrays: one cell, then its rows -/
def nM (σ : CS) (n k : Nat) : CS := (σ.1 + 1 + n, fun i => if i = σ.1 then some (.inr (7, n)) else if σ.1 < i ∧ i < σ.1 + 1 + n then some (.inr (0, k)) else σ.2.1 i, fun a b => if σ.1 ≤ a ∧ a < σ.1 + 1 + n then 0 else σ.2.2.1 a b, fun a b => if σ.1 ≤ a ∧ a < σ.1 + 1 + n then 0 else σ.2.2.2.1 a b, fun a b => if a = σ.1 then (if b < n then σ.1 + 1 + b + 1 else 0) else if σ.1 < a ∧ a < σ.1 + 1 + n then 0 else σ.2.2.2.2 a b)
theorem ad_lin {ad : Nat → Nat} {n0 B0 : Nat} (hA : cAd ad n0 B0) {k : Nat} (hk : n0 ≤ k) : ∀ j, k + j ≤ CB → ad (k + j) = ad k + j
  | 0, _ => rfl
  | j + 1, h => by rw [show k + (j + 1) = (k + j) + 1 by omega, hA.1 (k + j) (by omega) (by omega), ad_lin hA hk j (by omega)]; omega
theorem xV_m {D : va_G} {dA : Nat → ClassId} {ad : Nat → Nat} {n0 : Nat} {Hs : Heap} {σ : CS} {H H1 : Heap} (hV : cV D dA ad n0 Hs σ H) (hA : cAd ad n0 Hs.size) {n k : Nat} (hn : σ.1 + 1 + n ≤ CB) (z : H1.size = H.size + 1 + n) (oq : ∀ q : Nat, q < H.size → H1[q]? = H[q]?) (h1 : rgAt D dA ad (nM σ n k).2.2 σ.1 H1 (.inr (7, n))) (h2 : ∀ j, j < n → rgAt D dA ad (nM σ n k).2.2 (σ.1 + 1 + j) H1 (.inr (0, k))) : cV D dA ad n0 Hs (nM σ n k) H1 := by
  obtain ⟨v1, v2, v3, v4, v5, v6, v7, v8⟩ := hV
  have hne : ∀ i, ¬ (σ.1 ≤ i ∧ i < σ.1 + 1 + n) → (nM σ n k).2.1 i = σ.2.1 i ∧ (nM σ n k).2.2.1 i = σ.2.2.1 i ∧ (nM σ n k).2.2.2.1 i = σ.2.2.2.1 i ∧ (nM σ n k).2.2.2.2 i = σ.2.2.2.2 i := by
    intro i hi
    have e1 : i ≠ σ.1 := fun e => hi (by omega)
    have e2 : ¬ (σ.1 < i ∧ i < σ.1 + 1 + n) := fun e => hi (by omega)
    exact ⟨(if_neg e1).trans (if_neg e2), by funext b; exact if_neg hi, by funext b; exact if_neg hi, by funext b; exact (if_neg e1).trans (if_neg e2)⟩
  refine ⟨fun i k' hi => ?_, ?_, by show n0 ≤ σ.1 + 1 + n; omega, hn, fun i hi => ?_, fun i hi => ?_, fun i hi h3 => ?_, fun q hq => ?_⟩
  · by_cases e : i = σ.1
    · subst e
      have h : (nM σ n k).2.1 σ.1 = some (.inr (7, n)) := if_pos rfl
      have : k' = .inr (7, n) := Option.some.inj (hi.symm.trans h)
      subst this
      exact ⟨fun _ => h1, fun h => absurd h (by omega)⟩
    · by_cases e2 : σ.1 < i ∧ i < σ.1 + 1 + n
      · have h : (nM σ n k).2.1 i = some (.inr (0, k)) := (if_neg e).trans (if_pos e2)
        have : k' = .inr (0, k) := Option.some.inj (hi.symm.trans h)
        subst this
        refine ⟨fun _ => ?_, fun h => absurd h (by omega)⟩
        have := h2 (i - σ.1 - 1) (by omega)
        rw [show σ.1 + 1 + (i - σ.1 - 1) = i by omega] at this
        exact this
      · obtain ⟨e0, e1, e2, e3⟩ := hne i (by omega)
        rw [e0] at hi
        have hlt : ad i < H.size := by
          have := v1.wk hi
          cases k' with
          | inl o => obtain ⟨cell, q, -⟩ := this; exact (Array.getElem?_eq_some_iff.mp q).1
          | inr a => obtain ⟨cell, q, -⟩ := this; exact (Array.getElem?_eq_some_iff.mp q).1
        exact ⟨fun h => ((v1 i k' hi).1 h).congr (oq _ hlt) e1 e2 e3, fun h => ((v1 i k' hi).2 h).congr (oq _ hlt) e1 e2 e3⟩
  · rw [z, v2]
    show _ = ad (σ.1 + 1 + n)
    rw [show σ.1 + 1 + n = σ.1 + (1 + n) by omega, ad_lin hA v3 (1 + n) (by omega)]; omega
  · rw [(hne i (by omega)).1]; exact v5 i hi
  · obtain ⟨e0, e1, e2, e3⟩ := hne i (by omega)
    rw [e0, e1, e3]; exact v6 i hi
  · have h2' : σ.1 + 1 + n ≤ i := h3
    rw [(hne i (by omega)).1]; exact v7 i hi (by omega)
  · have : q < H.size := by
      rw [v2]; exact Nat.lt_of_lt_of_le hq (hA.2.2 _ v4)
    rw [oq q this]; exact v8 q hq
theorem cell_ext {cA : ClassId} {n : Nat} {f : Nat → Value} {sl : Array Value} (h2 : sl.size = n) (h : ∀ j, j < n → sl[j]? = some (f j)) : ({ cls := cA, slots := sl, vm := .none } : Cell) = arrV cA n f := by
  have hs : sl = (arrV cA n f).slots := by
    apply Array.ext_getElem?
    intro j
    by_cases hj : j < n
    · rw [h j hj, arrV_read _ _ hj]
    · rw [Array.getElem?_eq_none (by omega), Array.getElem?_eq_none (by rw [arrV_size]; omega)]
  rw [hs]
  rfl
theorem outer_shape (c : ClassId) (N h0 : Nat) : ∀ i, ∃ sl : Array Value, Jvm.Free.Multi.outerC c N h0 i = { cls := c, slots := sl, vm := .none }
  | 0 => ⟨_, rfl⟩
  | i + 1 => by
    obtain ⟨sl, h⟩ := outer_shape c N h0 i
    exact ⟨_, by show (Jvm.Free.Multi.outerC c N h0 i).setSlot i _ = _; rw [h]; rfl⟩
theorem x_mana {p : Program} {l : Launch} {e : Env} {R : Room} {s : State} {m : MethodId} {args : Array Value} {below : List Frame} {meth : Method} {c : Code} {H : Heap} {locs : List Loc} {cells slots : Nat} {Q : State → Prop} {cc : ByteArray} {nL index : Nat} {own : String} {D : va_G} {dA : Nat → ClassId} {ad : Nat → Nat} {n0 : Nat} {Hs H0 : Heap} {σ : CS} {pc : Nat} {ls : Array Slot} {rest : List Value} {P : CS → Prop} (hC : xC p m c cc nL s args own D dA ad n0 Hs) (hI : xI D dA ad n0 Hs H0 σ H locs) (hcl : Cond.classLink own index "[[I" ∈ lw_all) {n k : Int32}
    (hT : ¬ n < 0 ∧ ¬ k < 0 ∧ (n.toNatClampNeg ≤ 1000 ∧ k.toNatClampNeg ≤ 1000) ∧ (cells + (1 + n.toNatClampNeg) ≤ R.cells ∧ slots + (n.toNatClampNeg + n.toNatClampNeg * k.toNatClampNeg) ≤ R.slots) ∧ σ.1 + 1 + n.toNatClampNeg ≤ CB ∧ ∀ y, y = nM σ n.toNatClampNeg k.toNatClampNeg → P y) (hdg : decode cc pc = .ok (.multianewarray index 2, 4))
    (kk : ∀ (σ1 : CS) (H1 : Heap), P σ1 → xI D dA ad n0 Hs H0 σ1 H1 locs → W p l e R s m args below meth c H1 locs (cells + (1 + n.toNatClampNeg)) (slots + (n.toNatClampNeg + n.toNatClampNeg * k.toNatClampNeg)) Q (F0 m (pc + 4) ls (.ref (ad σ.1) :: rest))) : W p l e R s m args below meth c H locs cells slots Q (F0 m pc ls (.int k :: .int n :: rest)) := by
  obtain ⟨h0, h0', ⟨hb1, hb2⟩, ⟨hc, hs⟩, hcb, hP⟩ := hT
  intro T hTH X
  have hover : (Cond.arrayOver (.array .int)).before args s = true := hC.2.1.2.2.2.2.2.2.1.2.1.2.2
  obtain ⟨vm₁, cA, comp, hW, hfA, hfC, -, -, X1, st⟩ := X.multianewarray2F hC.1.1 (own := own) (index := index) (ty := .int) hC.1.2.2.2.1 (hC.1.2.2.2.2 _ hcl) hover (hC.1.2.2.2.2 _ q462) (g := F0 m pc ls (.int k :: .int n :: rest)) rfl (by rw [hC.1.2.1]; exact hdg) rfl h0 h0' (by omega) (by show k.toNatClampNeg * 4 ≤ _; omega) (by omega) rfl rfl hc hs
  obtain ⟨f1, f2, f3, -⟩ := Jvm.Free.Multi.fill_facts (T.setVm vm₁) cA comp n.toNatClampNeg k.toNatClampNeg (defaultValue .int) n.toNatClampNeg
  have fo := fun (a : Addr) (ha : a < T.heap.size) => Jvm.Free.Multi.fill_old (T.setVm vm₁) cA comp n.toNatClampNeg k.toNatClampNeg (defaultValue .int) (a := a) ha n.toNatClampNeg
  have fi := fun (j : Nat) (hj : j < n.toNatClampNeg) => Jvm.Free.Multi.fill_inner (T.setVm vm₁) cA comp n.toNatClampNeg k.toNatClampNeg (defaultValue .int) n.toNatClampNeg j hj
  obtain ⟨o1, o2, o3⟩ := Jvm.Free.Multi.outerC_facts cA n.toNatClampNeg T.heap.size n.toNatClampNeg
  have os := fun (j : Nat) (hj : j < n.toNatClampNeg) => Jvm.Free.Multi.outerC_slot cA n.toNatClampNeg T.heap.size n.toNatClampNeg j hj
  have e7 : cA = dA 7 := Option.some.inj (hfA.symm.trans (hC.2.1.1.2 7 _ rfl).2)
  have e0 : comp = dA 0 := Option.some.inj (hfC.symm.trans (hC.2.1.1.2 0 _ rfl).2)
  subst e7 e0
  have hsz : T.heap.size = ad σ.1 := by rw [hTH]; exact hI.1.2.1
  have lin : ∀ j, j < n.toNatClampNeg → ad (σ.1 + 1 + j) = T.heap.size + 1 + j := fun j hj => by
    rw [show σ.1 + 1 + j = σ.1 + (1 + j) by omega, ad_lin hC.2.2 hI.1.2.2.1 (1 + j) (by omega), hsz]; omega
  generalize hT' : Jvm.Free.Multi.fill (T.setVm vm₁) (dA 7) (dA 0) n.toNatClampNeg k.toNatClampNeg (defaultValue .int) n.toNatClampNeg = T' at *
  have hz : T'.heap.size = H.size + 1 + n.toNatClampNeg := by rw [← hTH]; exact f1
  have oq : ∀ q : Nat, q < H.size → T'.heap[q]? = H[q]? := fun q hq => by rw [← hTH] at hq ⊢; exact fo q hq
  have hI' : xI D dA ad n0 Hs H0 (nM σ n.toNatClampNeg k.toNatClampNeg) T'.heap locs := by
    refine ⟨xV_m hI.1 hC.2.2 hcb hz oq ?_ (fun j hj => ?_), Nat.le_trans hI.2.1 (by omega), fun q h1 h2 => (oq q (Nat.lt_of_lt_of_le h1 hI.2.1)).trans (hI.2.2.1 q h1 h2), hI.2.2.2⟩
    · show T'.heap[ad σ.1]? = some (vp_cell (dA 7) (n.toNatClampNeg, rgA ad _ σ.1 7))
      rw [rgA_cell, ← hsz]
      obtain ⟨sl, hsl⟩ := outer_shape (dA 7) n.toNatClampNeg T.heap.size n.toNatClampNeg
      have f2' : T'.heap[T.heap.size]? = some (Jvm.Free.Multi.outerC (dA 7) n.toNatClampNeg T.heap.size n.toNatClampNeg) := f2
      rw [hsl] at f2' o3 os
      refine f2'.trans (congrArg some (cell_ext o3 (fun j hj => ?_)))
      have os' := os j hj
      rw [if_pos hj] at os'
      refine os'.trans ?_
      have : (nM σ n.toNatClampNeg k.toNatClampNeg).2.2.2.2 σ.1 j = σ.1 + 1 + j + 1 := (if_pos rfl).trans (if_pos hj)
      simp only [rgE, this]
      rw [← lin j hj]; rfl
    · show T'.heap[ad (σ.1 + 1 + j)]? = some (vp_cell (dA 0) (k.toNatClampNeg, rgA ad _ (σ.1 + 1 + j) 0))
      rw [rgA_cell, lin j hj]
      have fi' : T'.heap[T.heap.size + 1 + j]? = some (Jvm.Free.Multi.innerC (dA 0) k.toNatClampNeg (defaultValue .int)) := fi j hj
      refine fi'.trans (congrArg some (cell_ext Array.size_replicate (fun i hi => ?_)))
      have : (nM σ n.toNatClampNeg k.toNatClampNeg).2.2.1 (σ.1 + 1 + j) i = 0 := if_pos (by omega)
      simp only [rgE, this]
      simp [hi, defaultValue]
  obtain ⟨t, a1, b1⟩ := kk _ T'.heap (hP _ rfl) hI' T' rfl (by
    have := X1
    rw [show cells + (1 + n.toNatClampNeg) = cells + 1 + n.toNatClampNeg by omega, show slots + (n.toNatClampNeg + n.toNatClampNeg * k.toNatClampNeg) = slots + n.toNatClampNeg + n.toNatClampNeg * k.toNatClampNeg by omega]
    exact this)
  refine ⟨t, st t ?_, b1⟩
  rw [← hsz] at a1
  exact a1
