/-! NEW CELLS, sealing, calls and ends over the component's region. -/
theorem xV_n {D : va_G} {dA : Nat → ClassId} {ad : Nat → Nat} {n0 : Nat} {Hs : Heap} {σ : CS} {H H1 : Heap} (hV : cV D dA ad n0 Hs σ H) (hA : cAd ad n0 Hs.size) {k : rgK} (hn : σ.1 < CB) (z : H1.size = H.size + 1) (oq : ∀ q : Nat, q < H.size → H1[q]? = H[q]?) (h1 : rgAt D dA ad (nC σ k).2.2 σ.1 H1 k) : cV D dA ad n0 Hs (nC σ k) H1 := by
  obtain ⟨v1, v2, v3, v4, v5, v6, v7, v8⟩ := hV
  have hne : ∀ i, i ≠ σ.1 → (nC σ k).2.1 i = σ.2.1 i ∧ (nC σ k).2.2.1 i = σ.2.2.1 i ∧ (nC σ k).2.2.2.1 i = σ.2.2.2.1 i ∧ (nC σ k).2.2.2.2 i = σ.2.2.2.2 i := fun i hi => ⟨if_neg hi, by funext b; exact if_neg hi, by funext b; exact if_neg hi, by funext b; exact if_neg hi⟩
  refine ⟨fun i k' hi => ?_, ?_, Nat.le_succ_of_le v3, hn, fun i hi => ?_, fun i hi => ?_, fun i hi h2 => ?_, fun q hq => ?_⟩
  · by_cases e : i = σ.1
    · subst e
      have : k' = k := by
        have h : (nC σ k).2.1 σ.1 = some k := if_pos rfl
        exact Option.some.inj (hi.symm.trans h)
      subst this
      exact ⟨fun _ => h1, fun h => absurd hn (Nat.not_lt.mpr h)⟩
    · obtain ⟨e0, e1, e2, e3⟩ := hne i e
      rw [e0] at hi
      have hlt : ad i < H.size := by
        have := v1.wk hi
        cases k' with
        | inl o => obtain ⟨cell, q, -⟩ := this; exact (Array.getElem?_eq_some_iff.mp q).1
        | inr a => obtain ⟨cell, q, -⟩ := this; exact (Array.getElem?_eq_some_iff.mp q).1
      exact ⟨fun h => ((v1 i k' hi).1 h).congr (oq _ hlt) e1 e2 e3, fun h => ((v1 i k' hi).2 h).congr (oq _ hlt) e1 e2 e3⟩
  · rw [z, v2]; exact (hA.1 σ.1 v3 hn).symm
  · rw [(hne i (by omega)).1]; exact v5 i hi
  · obtain ⟨e0, e1, e2, e3⟩ := hne i (by omega)
    rw [e0, e1, e3]; exact v6 i hi
  · have h2' : σ.1 + 1 ≤ i := h2
    rw [(hne i (by omega)).1]; exact v7 i hi (by omega)
  · have : q < H.size := by
      rw [v2]; exact Nat.lt_of_lt_of_le hq (hA.2.2 _ v4)
    rw [oq q this]; exact v8 q hq
/-- the kind of a cell is told anew: its fixed references -/
def sK (σ : CS) (i : Nat) (k : rgK) : CS := (σ.1, fun j => if j = i then some k else σ.2.1 j, σ.2.2)
theorem xV_s {D : va_G} {dA : Nat → ClassId} {ad : Nat → Nat} {n0 : Nat} {Hs : Heap} {σ : CS} {H : Heap} (hV : cV D dA ad n0 Hs σ H) {i ci N : Nat} {ks ks' : Nat → Nat × Nat} (hn : n0 ≤ i) (hi : i < CB) (hL : gK σ i = some (.inl (ci, N, ks))) (hk : ∀ j, j < N → rgV ad σ.2.2 i (ks j) j = rgV ad σ.2.2 i (ks' j) j) : cV D dA ad n0 Hs (sK σ i (.inl (ci, N, ks'))) H := by
  obtain ⟨v1, v2, v3, v4, v5, v6, v7, v8⟩ := hV
  have hne : ∀ j, j ≠ i → (sK σ i (.inl (ci, N, ks'))).2.1 j = σ.2.1 j := fun j hj => if_neg hj
  refine ⟨fun j k' hj => ?_, v2, v3, v4, fun j hj => ?_, fun j hj => ?_, fun j hj h2 => ?_, v8⟩
  · by_cases e : j = i
    · subst e
      have h : (sK σ j (.inl (ci, N, ks'))).2.1 j = some (.inl (ci, N, ks')) := if_pos rfl
      have : k' = .inl (ci, N, ks') := Option.some.inj (hj.symm.trans h)
      subst this
      exact ⟨fun h => t_OB.to ((v1 j _ hL).1 h) hk, fun h => absurd hi (Nat.not_lt.mpr h)⟩
    · rw [hne j e] at hj
      exact v1 j k' hj
  · rw [hne j (by omega)]; exact v5 j hj
  · rw [hne j (by omega)]; exact v6 j hj
  · by_cases e : j = i
    · subst e
      have := v7 j hj h2
      rw [show σ.2.1 j = _ from hL] at this
      cases this
    · rw [hne j e]; exact v7 j hj h2
section CN
variable {p : Program} {l : Launch} {e : Env} {R : Room} {s : State} {m : MethodId} {args : Array Value} {below : List Frame} {meth : Method} {c : Code} {H : Heap} {locs : List Loc} {cells slots : Nat} {Q : State → Prop}
variable {cc : ByteArray} {nL : Nat} {own : String} {D : va_G} {dA : Nat → ClassId} {ad : Nat → Nat} {n0 : Nat} {Hs H0 : Heap} {σ : CS} {pc : Nat} {ls : Array Slot} {rest : List Value} {P : CS → Prop}
theorem xS_n (hI : xI D dA ad n0 Hs H0 σ H locs) {H1 : Heap} (z : H1.size = H.size + 1) (oq : ∀ q : Nat, q < H.size → H1[q]? = H[q]?) : va_S (cA ad) H0 H1 locs := ⟨Nat.le_trans hI.2.1 (by omega), fun q h1 h2 => (oq q (Nat.lt_of_lt_of_le h1 hI.2.1)).trans (hI.2.2.1 q h1 h2), hI.2.2.2⟩
theorem x_new (hC : xC p m c cc nL s args own D dA ad n0 Hs) (hI : xI D dA ad n0 Hs H0 σ H locs) {C : String} {T : u_T} {N ns ci index : Nat} {ks : Nat → Nat × Nat} (hc : vwCl[ci]? = some (C, T, N)) (hin : ∀ w ∈ u_ws C T N, w ∈ lw_all) (ty : Nat → FieldType) (hty : ∀ k, k < N → parseFieldDescriptor (T k).2.2.1 = some (ty k)) (hcl : Cond.classLink own index C ∈ lw_all) (hinst : Cond.instantiable C ns ∈ lw_all) (hini : Cond.initialized C ∈ lw_all) (hks : ∀ j, j < N → defaultValue (ty j) = match (ks j).1 with
    | 0 => .int 0
    | 1 => .long 0
    | _ => .null) (hk4 : ∀ j, j < N → (ks j).1 ≠ 2 ∧ (ks j).1 ≠ 3)
    (hT : (cells + 1 ≤ R.cells ∧ slots + ns ≤ R.slots) ∧ σ.1 < CB ∧ ∀ y, y = nC σ (.inl (ci, N, ks)) → P y) (hdg : decode cc pc = .ok (.new index, 3))
    (kk : ∀ (σ1 : CS) (H1 : Heap), P σ1 → xI D dA ad n0 Hs H0 σ1 H1 locs → W p l e R s m args below meth c H1 locs (cells + 1) (slots + ns) Q (F0 m (pc + 3) ls (.ref (ad σ.1) :: rest))) : W p l e R s m args below meth c H locs cells slots Q (F0 m pc ls rest) := by
  have hKn := hC.2.1.1.1 ci _ hc
  have hts := hC.1.2.2.2.2
  refine W.newcK hC.1.1 hC.1.2.1 hC.1.2.2.2.1 (hts _ hcl) (hts _ hinst) (hts _ hini) rfl hdg hT.1.1 hT.1.2 hKn.2.1 hI.1.2.1 fun H1 kC hkC e1 z1 o1 => ?_
  have z : H1.size = H.size + 1 := by rw [z1, hI.1.2.1]
  have oq : ∀ q : Nat, q < H.size → H1[q]? = H[q]? := fun q h => o1 q (by rw [← hI.1.2.1]; exact h)
  refine kk _ H1 (hT.2.2 _ rfl) ⟨xV_n hI.1 hC.2.2 hT.2.1 z oq ?_, xS_n hI z oq⟩
  refine (u_born ty hts hin hKn hkC e1 hty).to (fun j hj => ?_)
  rw [hks j hj]
  have h4 := hk4 j hj
  unfold rgV
  split <;> simp_all [nC, va_rf, rgR]
theorem x_newa (hC : xC p m c cc nL s args own D dA ad n0 Hs) (hI : xI D dA ad n0 Hs H0 σ H locs) {atype : ArrayType} (t : Nat) (ht : (rgTy dA)[t]? = some (dA t, newarray.typeOf atype)) (harr : Cond.arrayClass (newarray.typeOf atype) ∈ lw_all) (hdef : ∀ j, defaultValue (newarray.typeOf atype) = rgE ad (nC σ (.inr (t, j))).2.2 σ.1 t 0) {n : Int32}
    (hT : ¬ n < 0 ∧ (n.toNatClampNeg ≤ 1000000 ∧ (cells + 1 ≤ R.cells ∧ slots + n.toNatClampNeg ≤ R.slots) ∧ σ.1 < CB ∧ ∀ y, y = nC σ (.inr (t, n.toNatClampNeg)) → P y)) (hdg : decode cc pc = .ok (.newarray atype, 2))
    (kk : ∀ (σ1 : CS) (H1 : Heap), P σ1 → xI D dA ad n0 Hs H0 σ1 H1 locs → W p l e R s m args below meth c H1 locs (cells + 1) (slots + n.toNatClampNeg) Q (F0 m (pc + 2) ls (.ref (ad σ.1) :: rest))) : W p l e R s m args below meth c H locs cells slots Q (F0 m pc ls (.int n :: rest)) := by
  obtain ⟨h0, h1, h2, h3, h4⟩ := hT
  have hb : n.toNatClampNeg * componentBytes (newarray.typeOf atype) ≤ 536870912 := by
    have : componentBytes (newarray.typeOf atype) ≤ 8 := by cases atype <;> decide
    exact Nat.le_trans (Nat.mul_le_mul h1 this) (by decide)
  refine va_newaK hC.1.1 hC.1.2.1 (hC.1.2.2.2.2 _ harr) rfl hdg rfl h0 rfl hb h2.1 h2.2 hI.1.2.1 fun H1 cA e1 z1 o1 hAr hNm => ?_
  have z : H1.size = H.size + 1 := by rw [z1, hI.1.2.1]
  have oq : ∀ q : Nat, q < H.size → H1[q]? = H[q]? := fun q h => o1 q (by rw [← hI.1.2.1]; exact h)
  have hcA : cA = dA t := by
    have h := (hC.2.1.1.2 t _ ht).2
    have h' : s.vm.findClass ("[" ++ (newarray.typeOf atype).toString) = some (dA t) := by cases atype <;> exact h
    exact Option.some.inj (hNm.symm.trans h')
  refine kk _ H1 (h4 _ rfl) ⟨xV_n hI.1 hC.2.2 h3 z oq ?_, xS_n hI z oq⟩
  show H1[ad σ.1]? = some (vp_cell _ _)
  rw [rgA_cell, e1, hcA]
  congr 2
  funext j
  rw [hdef n.toNatClampNeg]
  simp [rgE, nC]
theorem x_anew (hC : xC p m c cc nL s args own D dA ad n0 Hs) (hI : xI D dA ad n0 Hs H0 σ H locs) {C : String} {index : Nat} (t : Nat) (ht : (rgTy dA)[t]? = some (dA t, .object C)) (h5 : 4 < t) (hcl : Cond.classLink own index C ∈ lw_all) (hover : va_AO C s) {n : Int32}
    (hT : ¬ n < 0 ∧ (n.toNatClampNeg ≤ 1000000 ∧ (cells + 1 ≤ R.cells ∧ slots + n.toNatClampNeg ≤ R.slots) ∧ σ.1 < CB ∧ ∀ y, y = nC σ (.inr (t, n.toNatClampNeg)) → P y)) (hdg : decode cc pc = .ok (.anewarray index, 3))
    (kk : ∀ (σ1 : CS) (H1 : Heap), P σ1 → xI D dA ad n0 Hs H0 σ1 H1 locs → W p l e R s m args below meth c H1 locs (cells + 1) (slots + n.toNatClampNeg) Q (F0 m (pc + 3) ls (.ref (ad σ.1) :: rest))) : W p l e R s m args below meth c H locs cells slots Q (F0 m pc ls (.int n :: rest)) := by
  obtain ⟨h0, h1, h2, h3, h4⟩ := hT
  refine W.anew hC.1.1 hC.1.2.1 hC.1.2.2.2.1 (hC.1.2.2.2.2 _ hcl) (va_AO.use hover) rfl hdg rfl h0 (Nat.le_trans (Nat.mul_le_mul_right 4 h1) (by decide)) h2.1 h2.2 fun cA kA comp f1 f2 f3 f4 => ?_
  generalize hH1 : H.push ({ cls := cA, slots := Array.replicate n.toNatClampNeg .null, vm := .none } : Cell) = H1
  have z : H1.size = H.size + 1 := by rw [← hH1, Array.size_push]
  have e1 : H1[H.size]? = some (arrV cA n.toNatClampNeg (fun _ => .null)) := by rw [← hH1, Array.getElem?_push_size, ← arrV_new]
  have oq : ∀ q : Nat, q < H.size → H1[q]? = H[q]? := fun q hq => by rw [← hH1, Array.getElem?_push, if_neg (Nat.ne_of_lt hq)]
  have hcA : cA = dA t := by
    obtain ⟨kA', comp', g1, g2, g3, g4⟩ := (hC.2.1.1.2 t _ ht).2
    exact Option.some.inj (f1.symm.trans g4)
  rw [show (Value.ref H.size) = .ref (ad σ.1) by rw [hI.1.2.1]]
  refine kk _ H1 (h4 _ rfl) ⟨xV_n hI.1 hC.2.2 h3 z oq ?_, xS_n hI z oq⟩
  show H1[ad σ.1]? = some (vp_cell _ _)
  rw [rgA_rc h5, ← hI.1.2.1, e1, hcA]
  congr 2
  funext j
  simp [nC, rgR, va_rf]
/-! calls -/
def xQ {ρ : Type} (rv : ρ → Option Value) (K : ρ → CS → Prop) (B : CS → State → Prop) (A : Nat → Prop) : Array Value → State → Outcome → State → Prop := fun _ st oc t => (∃ (r : ρ) (u : CS), oc = .returned (rv r) ∧ K r u ∧ B u t) ∧ va_F A st t
def rvI (r : Int32) : Option Value := some (.int r)
def rvL (r : Int64) : Option Value := some (.long r)
def rvU (_ : Unit) : Option Value := none
def rvR (ad : Nat → Nat) (r : Nat) : Option Value := some (va_rf (rgR ad r))
theorem cU.blind {av : List Value} : FrameBlind (va_Pc av (cU D dA ad n0 Hs σ)) := by
  intro a U g mk h
  exact ⟨h.1, h.2.1, h.2.2.calling⟩
theorem x_pre (hC : xC p m c cc nL s args own D dA ad n0 Hs) (hI : xI D dA ad n0 Hs H0 σ H locs) (av : List Value) : ∀ U : State, U.heap = H → s.WarmedH U.vm → va_Pc av (cU D dA ad n0 Hs σ) av.toArray U := fun U hU hW => ⟨rfl, by rw [hU]; exact hI.1, hC.2.1.warm hW⟩
theorem x_recv (hC : xC p m c cc nL s args own D dA ad n0 Hs) (hI : xI D dA ad n0 Hs H0 σ H locs) {C : String} {T : u_T} {N ci i : Nat} {ks : Nat → Nat × Nat} (hL : gK σ i = some (.inl (ci, N, ks))) (hc : vwCl[ci]? = some (C, T, N)) : ∃ cell : Cell, H[ad i]? = some cell ∧ cell.vm.isStatics = false ∧ s.vm.findClass C = some cell.cls := by
  obtain ⟨cell, g1, g2, g3, g4, -⟩ := hI.1.1.wk hL
  exact ⟨cell, g1, g4, by rw [g2]; exact (hC.2.1.1.1 ci _ hc).2.1⟩
theorem x_call {ρ : Type} {rv : ρ → Option Value} {K : ρ → CS → Prop} {a : Array Value} {st : List Value} {mc ms : Nat} (hr : va_Run p l e R s m args below meth c H locs cells slots mc ms (F0 m pc ls st) rest (xQ rv K (cU D dA ad n0 Hs) (cA ad) a) (cA ad)) (hI : xI D dA ad n0 Hs H0 σ H locs)
    (kk : ∀ (r : ρ) (σ1 : CS) (H1 : Heap) (locs1 : List Loc), K r σ1 → xI D dA ad n0 Hs H0 σ1 H1 locs1 → W p l e R s m args below meth c H1 locs1 (cells + mc) (slots + ms) Q (F0 m (pc + 3) ls ((rv r).toList ++ rest))) : W p l e R s m args below meth c H locs cells slots Q (F0 m pc ls st) := by
  intro T hT X
  obtain ⟨v, st₀, t, T', L, h0, X', hL, e1, e2, ⟨⟨r, u, hv, hp, hb⟩, hz, hk⟩, stp⟩ := hr T hT X
  cases hv
  rw [h0] at hz hk
  have hS := hI.2
  obtain ⟨t2, a1, b1⟩ := kk r u T'.heap (locs ++ L) hp ⟨by rw [e1]; exact hb.1, Nat.le_trans hS.1 (by rw [e1]; exact hz), fun q h1 h2 => by rw [e1, hk q (Nat.lt_of_lt_of_le h1 hS.1) h2]; exact hS.2.1 q h1 h2, fun q hq => by
      rcases List.mem_append.mp hq with h | h
      · exact hS.2.2 q h
      · exact hL q h⟩ T' rfl X'
  exact ⟨t2, stp t2 a1, b1⟩
theorem x_call5 {ρ : Type} {rv : ρ → Option Value} {K : ρ → CS → Prop} {a : Array Value} {st : List Value} {mc ms : Nat} (hr : va_Run5 p l e R s m args below meth c H locs cells slots mc ms (F0 m pc ls st) rest (xQ rv K (cU D dA ad n0 Hs) (cA ad) a) (cA ad)) (hI : xI D dA ad n0 Hs H0 σ H locs)
    (kk : ∀ (r : ρ) (σ1 : CS) (H1 : Heap) (locs1 : List Loc), K r σ1 → xI D dA ad n0 Hs H0 σ1 H1 locs1 → W p l e R s m args below meth c H1 locs1 (cells + mc) (slots + ms) Q (F0 m (pc + 5) ls ((rv r).toList ++ rest))) : W p l e R s m args below meth c H locs cells slots Q (F0 m pc ls st) := by
  intro T hT X
  obtain ⟨v, st₀, t, T', L, h0, X', hL, e1, e2, ⟨⟨r, u, hv, hp, hb⟩, hz, hk⟩, stp⟩ := hr T hT X
  cases hv
  rw [h0] at hz hk
  have hS := hI.2
  obtain ⟨t2, a1, b1⟩ := kk r u T'.heap (locs ++ L) hp ⟨by rw [e1]; exact hb.1, Nat.le_trans hS.1 (by rw [e1]; exact hz), fun q h1 h2 => by rw [e1, hk q (Nat.lt_of_lt_of_le h1 hS.1) h2]; exact hS.2.1 q h1 h2, fun q hq => by
      rcases List.mem_append.mp hq with h | h
      · exact hS.2.2 q h
      · exact hL q h⟩ T' rfl X'
  exact ⟨t2, stp t2 a1, b1⟩
end CN
