/-! ROWS over the component's region: reads, writes, new cells. -/
theorem xst {D : va_G} {dA : Nat → ClassId} {ad : Nat → Nat} {n0 : Nat} {Hs H0 : Heap} {σ : CS} {H : Heap} {locs : List Loc} (hI : xI D dA ad n0 Hs H0 σ H locs) {i : Nat} {k : rgK} (h : i < n0) (hs : sLay i = some k) : gK σ i = some k := (hI.1.2.2.2.2.1 i h).trans hs
theorem xJ {D : va_G} {dA : Nat → ClassId} {ad : Nat → Nat} {n0 : Nat} {Hs : Heap} {σ : CS} (hA : cAd ad n0 Hs.size) {i : Nat} (hi : i < CB) : ∀ j k', σ.2.1 j = some k' → ad j = ad i → j = i := fun j _ _ e => (hA.2.1 i j hi e.symm).symm
/-- a write to the cell i -/
theorem xV_w {D : va_G} {dA : Nat → ClassId} {ad : Nat → Nat} {n0 : Nat} {Hs : Heap} {σ : CS} {H H1 : Heap} (hV : cV D dA ad n0 Hs σ H) (hA : cAd ad n0 Hs.size) {i : Nat} {k : rgK} {τ' : Sto} (hi : i < CB) (hL : σ.2.1 i = some k) (z : H1.size = H.size) (oq : ∀ q : Nat, q ≠ ad i → H1[q]? = H[q]?) (h1 : rgAt D dA ad τ' i H1 k)
    (ho : ∀ j, j ≠ i → τ'.1 j = σ.2.2.1 j ∧ τ'.2.1 j = σ.2.2.2.1 j ∧ τ'.2.2 j = σ.2.2.2.2 j) : cV D dA ad n0 Hs (σ.1, σ.2.1, τ') H1 := by
  obtain ⟨v1, v2, v3, v4, v5, v6, v7, v8⟩ := hV
  refine ⟨v1.upd hi (xJ (D := D) (dA := dA) (σ := σ) hA hi) hL oq h1 ho, z.trans v2, v3, v4, v5, fun j hj => ?_, v7, fun q hq => ?_⟩
  · obtain ⟨e1, e2, e3⟩ := v6 j hj
    obtain ⟨o1, o2, o3⟩ := ho j (fun e => absurd hi (by rw [← e]; omega))
    exact ⟨e1, o1.trans e2, o3.trans e3⟩
  · rw [oq q (fun e => absurd (hA.2.2 i (Nat.le_of_lt hi)) (by rw [← e]; omega))]
    exact v8 q hq
theorem xWin {ad : Nat → Nat} {i : Nat} (hi : i < CB) : cA ad (ad i) := ⟨i, hi, rfl⟩
theorem arrO {s : State} {cell : Cell} {cA : ClassId} {ty : FieldType} (hA : ArrOfT s cA ty) (hc : cell.cls = cA) (hs : cell.vm.isStatics = false) : s.isArrayOf cell ty := by
  obtain ⟨-, k, hk, comp, hkind⟩ := hA 0 (fun _ => .null)
  exact ⟨fun q e => (by rw [e] at hs; cases hs), k, (by rw [hc]; exact hk), comp, hkind⟩
section CR
variable {p : Program} {l : Launch} {e : Env} {R : Room} {s : State} {m : MethodId} {args : Array Value} {below : List Frame} {meth : Method} {c : Code} {H : Heap} {locs : List Loc} {cells slots : Nat} {Q : State → Prop}
variable {cc : ByteArray} {nL : Nat} {own : String} {D : va_G} {dA : Nat → ClassId} {ad : Nat → Nat} {n0 : Nat} {Hs H0 : Heap} {σ : CS} {pc : Nat} {ls : Array Slot} {rest : List Value} {P : Prop}
theorem x_get (hC : xC p m c cc nL s args own D dA ad n0 Hs) (hI : xI D dA ad n0 Hs H0 σ H locs) {C ref : String} {T : u_T} {N ci i index : Nat} {ks : Nat → Nat × Nat} (hL : gK σ i = some (.inl (ci, N, ks))) (hc : vwCl[ci]? = some (C, T, N)) (hin : ∀ w ∈ u_ws C T N, w ∈ lw_all) (j : Nat) (hj : j < N) (hq : Cond.fieldLink own index ref (T j).2.1 (T j).2.2.1 ∈ lw_all) (hsame : ∀ x, s.fieldFound? (T j).1 (T j).2.1 (T j).2.2.1 = some x → s.fieldFound? ref (T j).2.1 (T j).2.2.1 = some x) {v : Value} (hv : rgV ad σ.2.2 i (ks j) j = v) (hdg : decode cc pc = .ok (.getfield index, 3))
    (kk : W p l e R s m args below meth c H locs cells slots Q (F0 m (pc + 3) ls (v :: rest))) : W p l e R s m args below meth c H locs cells slots Q (F0 m pc ls (.ref (ad i) :: rest)) := by
  obtain ⟨⟨hx, hb, -, hown, hts⟩, hT, -⟩ := hC
  obtain ⟨cell, q1, q2, q3, q5, q4⟩ := hI.1.1.wk hL
  obtain ⟨hS, hfc, kC, hkC, hkind⟩ := hT.1.1 ci _ hc
  obtain ⟨cf, kf, fi, f, hi, hsl⟩ := hS j hj
  refine W.getf hx hb hown (hts _ hq) (hsame _ hi) (u_facts hfc hkC (u_lays hts hin hj) hi).1 q1 q3 (v := v) ?_ rfl rfl hdg kk
  rw [hsl, q4 j hj]
  exact congrArg some hv
theorem x_getN (hC : xC p m c cc nL s args own D dA ad n0 Hs) (hI : xI D dA ad n0 Hs H0 σ H locs) {C ref host : String} {T : u_T} {N ci i index : Nat} {ks : Nat → Nat × Nat} (hL : gK σ i = some (.inl (ci, N, ks))) (hc : vwCl[ci]? = some (C, T, N)) (hin : ∀ w ∈ u_ws C T N, w ∈ lw_all) (j : Nat) (hj : j < N) (hq : Cond.fieldLinkNest own index ref (T j).2.1 (T j).2.2.1 host ∈ lw_tbl) (hsame : ∀ x, s.fieldFound? (T j).1 (T j).2.1 (T j).2.2.1 = some x → s.fieldFound? ref (T j).2.1 (T j).2.2.1 = some x) {v : Value} (hv : rgV ad σ.2.2 i (ks j) j = v) (hdg : decode cc pc = .ok (.getfield index, 3))
    (kk : W p l e R s m args below meth c H locs cells slots Q (F0 m (pc + 3) ls (v :: rest))) : W p l e R s m args below meth c H locs cells slots Q (F0 m pc ls (.ref (ad i) :: rest)) := by
  obtain ⟨⟨hx, hb, -, hown, hts⟩, hT, -⟩ := hC
  obtain ⟨cell, q1, q2, q3, q5, q4⟩ := hI.1.1.wk hL
  obtain ⟨hS, hfc, kC, hkC, hkind⟩ := hT.1.1 ci _ hc
  obtain ⟨cf, kf, fi, f, hi, hsl⟩ := hS j hj
  refine va_Wgetf hx hb hown (va_Nw.use rfl (hT.2.1 _ (lw_n hq rfl))) (hsame _ hi) (u_facts hfc hkC (u_lays hts hin hj) hi).1 q1 q3 (v := v) ?_ rfl rfl hdg kk
  rw [hsl, q4 j hj]
  exact congrArg some hv
theorem x_put (hC : xC p m c cc nL s args own D dA ad n0 Hs) (hI : xI D dA ad n0 Hs H0 σ H locs) {C ref : String} {T : u_T} {N ci i index : Nat} {ks : Nat → Nat × Nat} (hic : i < CB) (hL : gK σ i = some (.inl (ci, N, ks))) (hc : vwCl[ci]? = some (C, T, N)) (hin : ∀ w ∈ u_ws C T N, w ∈ lw_all) (ty0 : Nat → FieldType) (hty : ∀ k, k < N → parseFieldDescriptor (T k).2.2.1 = some (ty0 k)) (hnm : ∀ a, a < N → ∀ b, b < N → a ≠ b → (T a).2.1 ≠ (T b).2.1) (j : Nat) (hj : j < N) (hq : Cond.fieldLink own index ref (T j).2.1 (T j).2.2.1 ∈ lw_all) (hsame : ∀ x, s.fieldFound? (T j).1 (T j).2.1 (T j).2.2.1 = some x → s.fieldFound? ref (T j).2.1 (T j).2.2.1 = some x) (hfin : (T j).2.2.2 = false) {v : Value} {τ' : Sto} (hn : narrow (ty0 j) v = v) (hfit : fits (ty0 j) v = true) (hv : rgV ad τ' i (ks j) j = v) (hv' : ∀ a, a ≠ j → rgV ad τ' i (ks a) a = rgV ad σ.2.2 i (ks a) a) (ho : ∀ a, a ≠ i → τ'.1 a = σ.2.2.1 a ∧ τ'.2.1 a = σ.2.2.2.1 a ∧ τ'.2.2 a = σ.2.2.2.2 a) (hdg : decode cc pc = .ok (.putfield index, 3))
    (kk : ∀ (H1 : Heap) (locs1 : List Loc), xI D dA ad n0 Hs H0 (σ.1, σ.2.1, τ') H1 locs1 → W p l e R s m args below meth c H1 locs1 cells slots Q (F0 m (pc + 3) ls rest)) : W p l e R s m args below meth c H locs cells slots Q (F0 m pc ls (v :: .ref (ad i) :: rest)) := by
  obtain ⟨⟨hx, hb, -, hown, hts⟩, hT, hA⟩ := hC
  have hap := va_apart (own := own) hts hin ty0 hty hnm hT.1 hc
  obtain ⟨cell, q1, q2, q3, q4⟩ := (hI.1.1 i _ hL).1 hic
  obtain ⟨hS, hfc, kC, hkC, hkind⟩ := hT.1.1 ci _ hc
  obtain ⟨cf, kf, fi, f, hi, hsl⟩ := hS j hj
  have hlay := hts _ (hin _ (u_in_lay hj))
  unfold u_lay at hlay
  rw [if_neg (by rw [hfin]; decide)] at hlay
  have hst := (u_facts hfc hkC (u_lays hts hin hj) hi).1
  have h6 := u_store hfc hkC hkind hlay hi (hty j hj) hn hfit
  refine W.putK hx hb (f := f) ⟨hown, hts _ hq, ⟨_, _, _, hsame _ hi⟩, hst⟩ (by rw [q2]; exact h6) q1 q3 (by rw [hsl]; exact k2_hasslot (q4 j hj)) rfl rfl hdg fun H' e1 e2 e3 => ?_
  rw [hsl] at e1 ⊢
  refine kk H' _ ⟨xV_w hI.1 hA hic hL e2 e3 ?_ ho, hI.2.put e2 e3 (xWin hic)⟩
  refine t_OB.to (V := updV (fun j => rgV ad σ.2.2 i (ks j) j) j v) ⟨_, e1, q2, q3, t_set q4 hap hj v⟩ (fun a _ => ?_)
  by_cases h : a = j
  · subst h; simp [updV]; exact hv.symm
  · simp [updV, h]; exact (hv' a h).symm
theorem x_putN (hC : xC p m c cc nL s args own D dA ad n0 Hs) (hI : xI D dA ad n0 Hs H0 σ H locs) {C ref host : String} {T : u_T} {N ci i index : Nat} {ks : Nat → Nat × Nat} (hic : i < CB) (hL : gK σ i = some (.inl (ci, N, ks))) (hc : vwCl[ci]? = some (C, T, N)) (hin : ∀ w ∈ u_ws C T N, w ∈ lw_all) (ty0 : Nat → FieldType) (hty : ∀ k, k < N → parseFieldDescriptor (T k).2.2.1 = some (ty0 k)) (hnm : ∀ a, a < N → ∀ b, b < N → a ≠ b → (T a).2.1 ≠ (T b).2.1) (j : Nat) (hj : j < N) (hq : Cond.fieldLinkNest own index ref (T j).2.1 (T j).2.2.1 host ∈ lw_tbl) (hsame : ∀ x, s.fieldFound? (T j).1 (T j).2.1 (T j).2.2.1 = some x → s.fieldFound? ref (T j).2.1 (T j).2.2.1 = some x) (hfin : (T j).2.2.2 = false) {v : Value} {τ' : Sto} (hn : narrow (ty0 j) v = v) (hfit : fits (ty0 j) v = true) (hv : rgV ad τ' i (ks j) j = v) (hv' : ∀ a, a ≠ j → rgV ad τ' i (ks a) a = rgV ad σ.2.2 i (ks a) a) (ho : ∀ a, a ≠ i → τ'.1 a = σ.2.2.1 a ∧ τ'.2.1 a = σ.2.2.2.1 a ∧ τ'.2.2 a = σ.2.2.2.2 a) (hdg : decode cc pc = .ok (.putfield index, 3))
    (kk : ∀ (H1 : Heap) (locs1 : List Loc), xI D dA ad n0 Hs H0 (σ.1, σ.2.1, τ') H1 locs1 → W p l e R s m args below meth c H1 locs1 cells slots Q (F0 m (pc + 3) ls rest)) : W p l e R s m args below meth c H locs cells slots Q (F0 m pc ls (v :: .ref (ad i) :: rest)) := by
  obtain ⟨⟨hx, hb, -, hown, hts⟩, hT, hA⟩ := hC
  have hap := va_apart (own := own) hts hin ty0 hty hnm hT.1 hc
  obtain ⟨cell, q1, q2, q3, q4⟩ := (hI.1.1 i _ hL).1 hic
  obtain ⟨hS, hfc, kC, hkC, hkind⟩ := hT.1.1 ci _ hc
  obtain ⟨cf, kf, fi, f, hi, hsl⟩ := hS j hj
  have hlay := hts _ (hin _ (u_in_lay hj))
  unfold u_lay at hlay
  rw [if_neg (by rw [hfin]; decide)] at hlay
  have hst := (u_facts hfc hkC (u_lays hts hin hj) hi).1
  have h6 := u_store hfc hkC hkind hlay hi (hty j hj) hn hfit
  refine va_WputK hx hb (f := f) hown (va_Nw.use rfl (hT.2.1 _ (lw_n hq rfl))) (hsame _ hi) hst (by rw [q2]; exact h6) q1 q3 (by rw [hsl]; exact k2_hasslot (q4 j hj)) rfl rfl hdg fun H' e1 e2 e3 => ?_
  rw [hsl] at e1 ⊢
  refine kk H' _ ⟨xV_w hI.1 hA hic hL e2 e3 ?_ ho, hI.2.put e2 e3 (xWin hic)⟩
  refine t_OB.to (V := updV (fun j => rgV ad σ.2.2 i (ks j) j) j v) ⟨_, e1, q2, q3, t_set q4 hap hj v⟩ (fun a _ => ?_)
  by_cases h : a = j
  · subst h; simp [updV]; exact hv.symm
  · simp [updV, h]; exact (hv' a h).symm
/-- a final field, in its class's constructor -/
theorem x_putF (hC : xC p m c cc nL s args own D dA ad n0 Hs) (hI : xI D dA ad n0 Hs H0 σ H locs) {C ref : String} {T : u_T} {N ci i index : Nat} {ks : Nat → Nat × Nat} (hic : i < CB) (hL : gK σ i = some (.inl (ci, N, ks))) (hc : vwCl[ci]? = some (C, T, N)) (hin : ∀ w ∈ u_ws C T N, w ∈ lw_all) (ty0 : Nat → FieldType) (hty : ∀ k, k < N → parseFieldDescriptor (T k).2.2.1 = some (ty0 k)) (hnm : ∀ a, a < N → ∀ b, b < N → a ≠ b → (T a).2.1 ≠ (T b).2.1) (j : Nat) (hj : j < N) (hq : Cond.fieldLink own index ref (T j).2.1 (T j).2.2.1 ∈ lw_all) (hsame : ∀ x, s.fieldFound? (T j).1 (T j).2.1 (T j).2.2.1 = some x → s.fieldFound? ref (T j).2.1 (T j).2.2.1 = some x) (hfin : (T j).2.2.2 = true) (hin2 : meth.name = "<init>") (hdecl : (T j).1 = own) {v : Value} {τ' : Sto} (hn : narrow (ty0 j) v = v) (hfit : fits (ty0 j) v = true) (hv : rgV ad τ' i (ks j) j = v) (hv' : ∀ a, a ≠ j → rgV ad τ' i (ks a) a = rgV ad σ.2.2 i (ks a) a) (ho : ∀ a, a ≠ i → τ'.1 a = σ.2.2.1 a ∧ τ'.2.1 a = σ.2.2.2.1 a ∧ τ'.2.2 a = σ.2.2.2.2 a) (hdg : decode cc pc = .ok (.putfield index, 3))
    (kk : ∀ (H1 : Heap) (locs1 : List Loc), xI D dA ad n0 Hs H0 (σ.1, σ.2.1, τ') H1 locs1 → W p l e R s m args below meth c H1 locs1 cells slots Q (F0 m (pc + 3) ls rest)) : W p l e R s m args below meth c H locs cells slots Q (F0 m pc ls (v :: .ref (ad i) :: rest)) := by
  obtain ⟨⟨hx, hb, -, hown, hts⟩, hT, hA⟩ := hC
  have hap := va_apart (own := own) hts hin ty0 hty hnm hT.1 hc
  obtain ⟨cell, q1, q2, q3, q4⟩ := (hI.1.1 i _ hL).1 hic
  obtain ⟨hS, hfc, kC, hkC, hkind⟩ := hT.1.1 ci _ hc
  obtain ⟨cf, kf, fi, f, hi, hsl⟩ := hS j hj
  have hlay := hts _ (hin _ (u_in_lay hj))
  unfold u_lay at hlay
  rw [if_pos hfin] at hlay
  have hst := (u_facts hfc hkC (u_lays hts hin hj) hi).1
  have hcf : m.cls = cf := by
    obtain ⟨_, _, c', _, _, _, -, -, hf', -, -, -, hown2, -⟩ := Cond.laysFinal_spec hlay
    have e1 : c' = cf := by have := hi.symm.trans hf'; simp at this; exact this.1.symm
    rw [hdecl] at hown2
    rw [← e1]; exact Option.some.inj (hown.symm.trans hown2)
  have h6 := u_fits hfc hkC hkind (Or.inr hlay) hi (hty j hj) hn hfit
  refine W.putFinK hx hb hown (hts _ hq) (hsame _ hi) hst hcf hin2 (by rw [q2]; exact h6) q1 q3 (by rw [hsl]; exact k2_hasslot (q4 j hj)) rfl rfl hdg fun H' e1 e2 e3 => ?_
  rw [hsl] at e1 ⊢
  refine kk H' _ ⟨xV_w hI.1 hA hic hL e2 e3 ?_ ho, hI.2.put e2 e3 (xWin hic)⟩
  refine t_OB.to (V := updV (fun j => rgV ad σ.2.2 i (ks j) j) j v) ⟨_, e1, q2, q3, t_set q4 hap hj v⟩ (fun a _ => ?_)
  by_cases h : a = j
  · subst h; simp [updV]; exact hv.symm
  · simp [updV, h]; exact (hv' a h).symm
/-! arrays -/
theorem x_ld (hC : xC p m c cc nL s args own D dA ad n0 Hs) (hI : xI D dA ad n0 Hs H0 σ H locs) {i t n : Nat} (hL : gK σ i = some (.inr (t, n))) {ty : FieldType} (ht : (rgTy dA)[t]? = some (dA t, ty)) {k : Int32} (hin : vp_in k n) : ∃ cell : Cell, H[ad i]? = some cell ∧ s.isArrayOf cell ty ∧ cell.vm ≠ .unknown ∧ (¬ (k < 0 ∨ cell.slots.size ≤ k.toNatClampNeg)) ∧ cell.slots[k.toNatClampNeg]? = some (rgE ad σ.2.2 i t k.toNatClampNeg) := by
  obtain ⟨cell, q1, q2, q3, q4, q5, q6⟩ := hI.1.1.wk hL
  have hlt : k.toNatClampNeg < n := Nat.not_le.mp fun q => hin (Or.inr q)
  exact ⟨cell, q1, arrO (hC.2.1.1.2 t _ ht).1 q2 q4, q3, by rw [q5]; exact hin, q6 _ hlt⟩
theorem x_iald (hC : xC p m c cc nL s args own D dA ad n0 Hs) (hI : xI D dA ad n0 Hs H0 σ H locs) {i n : Nat} (hL : gK σ i = some (.inr (0, n))) {k : Int32} (hT : vp_in k n ∧ P) (hdg : decode cc pc = .ok (.iaload, 1)) (kk : P → W p l e R s m args below meth c H locs cells slots Q (F0 m (pc + 1) ls (.int (gI σ i k.toNatClampNeg) :: rest))) : W p l e R s m args below meth c H locs cells slots Q (F0 m pc ls (.int k :: .ref (ad i) :: rest)) := by
  obtain ⟨cell, h1, h2, h3, h4, h5⟩ := x_ld hC hI hL rfl hT.1
  exact W.iald hC.1.1 hC.1.2.1 h1 h2 h3 h4 h5 rfl rfl hdg (kk hT.2)
theorem x_bald (hC : xC p m c cc nL s args own D dA ad n0 Hs) (hI : xI D dA ad n0 Hs H0 σ H locs) {i n : Nat} (hL : gK σ i = some (.inr (1, n))) {k : Int32} (hT : vp_in k n ∧ P) (hdg : decode cc pc = .ok (.baload, 1)) (kk : P → W p l e R s m args below meth c H locs cells slots Q (F0 m (pc + 1) ls (.int (gI σ i k.toNatClampNeg) :: rest))) : W p l e R s m args below meth c H locs cells slots Q (F0 m pc ls (.int k :: .ref (ad i) :: rest)) := by
  obtain ⟨cell, h1, h2, h3, h4, h5⟩ := x_ld hC hI hL rfl hT.1
  exact W.bald hC.1.1 hC.1.2.1 h1 h2 h3 h4 h5 rfl rfl hdg (kk hT.2)
theorem x_zald (hC : xC p m c cc nL s args own D dA ad n0 Hs) (hI : xI D dA ad n0 Hs H0 σ H locs) {i n : Nat} (hL : gK σ i = some (.inr (2, n))) {k : Int32} (hT : vp_in k n ∧ P) (hdg : decode cc pc = .ok (.baload, 1)) (kk : P → W p l e R s m args below meth c H locs cells slots Q (F0 m (pc + 1) ls (.int (gI σ i k.toNatClampNeg) :: rest))) : W p l e R s m args below meth c H locs cells slots Q (F0 m pc ls (.int k :: .ref (ad i) :: rest)) := by
  obtain ⟨cell, h1, h2, h3, h4, h5⟩ := x_ld hC hI hL rfl hT.1
  exact W.zald hC.1.1 hC.1.2.1 h1 h2 h3 h4 h5 rfl rfl hdg (kk hT.2)
theorem x_cald (hC : xC p m c cc nL s args own D dA ad n0 Hs) (hI : xI D dA ad n0 Hs H0 σ H locs) {i n : Nat} (hL : gK σ i = some (.inr (3, n))) {k : Int32} (hT : vp_in k n ∧ P) (hdg : decode cc pc = .ok (.caload, 1)) (kk : P → W p l e R s m args below meth c H locs cells slots Q (F0 m (pc + 1) ls (.int (gI σ i k.toNatClampNeg) :: rest))) : W p l e R s m args below meth c H locs cells slots Q (F0 m pc ls (.int k :: .ref (ad i) :: rest)) := by
  obtain ⟨cell, h1, h2, h3, h4, h5⟩ := x_ld hC hI hL rfl hT.1
  exact W.cald hC.1.1 hC.1.2.1 h1 h2 h3 h4 h5 rfl rfl hdg (kk hT.2)
theorem x_lald (hC : xC p m c cc nL s args own D dA ad n0 Hs) (hI : xI D dA ad n0 Hs H0 σ H locs) {i n : Nat} (hL : gK σ i = some (.inr (4, n))) {k : Int32} (hT : vp_in k n ∧ P) (hdg : decode cc pc = .ok (.laload, 1)) (kk : P → W p l e R s m args below meth c H locs cells slots Q (F0 m (pc + 1) ls (.long (gL σ i k.toNatClampNeg) :: rest))) : W p l e R s m args below meth c H locs cells slots Q (F0 m pc ls (.int k :: .ref (ad i) :: rest)) := by
  obtain ⟨cell, h1, h2, h3, h4, h5⟩ := x_ld hC hI hL rfl hT.1
  exact W.lald hC.1.1 hC.1.2.1 h1 h2 h3 h4 h5 rfl rfl hdg (kk hT.2)
theorem x_aald (hC : xC p m c cc nL s args own D dA ad n0 Hs) (hI : xI D dA ad n0 Hs H0 σ H locs) {i t n : Nat} (hL : gK σ i = some (.inr (t, n))) {ty : FieldType} (ht : (rgTy dA)[t]? = some (dA t, ty)) (hr : ty.isReference = true) (h5 : 4 < t) {k : Int32} (hT : vp_in k n ∧ P) (hdg : decode cc pc = .ok (.aaload, 1)) (kk : P → W p l e R s m args below meth c H locs cells slots Q (F0 m (pc + 1) ls (va_rf (rgR ad (gR σ i k.toNatClampNeg)) :: rest))) : W p l e R s m args below meth c H locs cells slots Q (F0 m pc ls (.int k :: .ref (ad i) :: rest)) := by
  obtain ⟨cell, h1, h2, h3, h4, h6⟩ := x_ld hC hI hL ht hT.1
  rw [show rgE ad σ.2.2 i t k.toNatClampNeg = va_rf (rgR ad (gR σ i k.toNatClampNeg)) by unfold rgE gR; rw [if_neg (by omega), if_neg (by omega)]] at h6
  exact W.aald hC.1.1 hC.1.2.1 h1 h2 hr h3 h4 h6 rfl rfl hdg (kk hT.2)
theorem x_alen (hC : xC p m c cc nL s args own D dA ad n0 Hs) (hI : xI D dA ad n0 Hs H0 σ H locs) {i t n : Nat} (hL : gK σ i = some (.inr (t, n))) (ht : t < 9) (hdg : decode cc pc = .ok (.arraylength, 1)) (kk : W p l e R s m args below meth c H locs cells slots Q (F0 m (pc + 1) ls (.int (Int32.ofNat n) :: rest))) : W p l e R s m args below meth c H locs cells slots Q (F0 m pc ls (.ref (ad i) :: rest)) := by
  have h : ∃ ty, (rgTy dA)[t]? = some (dA t, ty) := by
    rcases (show t = 0 ∨ t = 1 ∨ t = 2 ∨ t = 3 ∨ t = 4 ∨ t = 5 ∨ t = 6 ∨ t = 7 ∨ t = 8 by omega) with rfl | rfl | rfl | rfl | rfl | rfl | rfl | rfl | rfl <;> exact ⟨_, rfl⟩
  obtain ⟨ty, h⟩ := h
  obtain ⟨cell, q1, q2, q3, q4, q5, q6⟩ := hI.1.1.wk hL
  exact W.alen hC.1.1 hC.1.2.1 q1 (arrO (hC.2.1.1.2 t _ h).1 q2 q4) (by rw [q5]) rfl rfl hdg kk
theorem x_iast (hC : xC p m c cc nL s args own D dA ad n0 Hs) (hI : xI D dA ad n0 Hs H0 σ H locs) {i n : Nat} (hic : i < CB) (hL : gK σ i = some (.inr (0, n))) {k x : Int32} {P : CS → Prop} (hT : vp_in k n ∧ ∀ y, y = wI σ i k.toNatClampNeg x → P y) (hdg : decode cc pc = .ok (.iastore, 1)) (kk : ∀ (σ1 : CS) (H1 : Heap) (locs1 : List Loc), P σ1 → xI D dA ad n0 Hs H0 σ1 H1 locs1 → W p l e R s m args below meth c H1 locs1 cells slots Q (F0 m (pc + 1) ls rest)) : W p l e R s m args below meth c H locs cells slots Q (F0 m pc ls (.int x :: .int k :: .ref (ad i) :: rest)) := by
  have hcell : H[ad i]? = some (arrV (dA 0) n (fun j => .int (σ.2.2.1 i j))) := ((hI.1.1 i _ hL).1 hic).trans (by rw [rgA_c (Nat.le_of_ble_eq_true rfl)])
  refine W.iast hC.1.1 hC.1.2.1 hcell ((hC.2.1.1.2 0 _ rfl).1 n _) (fun q => by cases q) (by rw [arrV_size]; exact hT.1) rfl rfl hdg fun H1 e z oq => ?_
  refine kk _ H1 _ (hT.2 _ rfl) ⟨xV_w hI.1 hC.2.2 hic hL z oq ?_ rgSo_I, hI.2.put z oq (xWin hic)⟩
  show H1[ad i]? = some (vp_cell _ _)
  rw [e, rgA_I (Nat.le_of_ble_eq_true rfl), arrV_store]
theorem x_bast (hC : xC p m c cc nL s args own D dA ad n0 Hs) (hI : xI D dA ad n0 Hs H0 σ H locs) {i n : Nat} (hic : i < CB) (hL : gK σ i = some (.inr (1, n))) {k x : Int32} {P : CS → Prop} (hT : vp_in k n ∧ ∀ y, y = wI σ i k.toNatClampNeg (vp_nar .byte x) → P y) (hdg : decode cc pc = .ok (.bastore, 1)) (kk : ∀ (σ1 : CS) (H1 : Heap) (locs1 : List Loc), P σ1 → xI D dA ad n0 Hs H0 σ1 H1 locs1 → W p l e R s m args below meth c H1 locs1 cells slots Q (F0 m (pc + 1) ls rest)) : W p l e R s m args below meth c H locs cells slots Q (F0 m pc ls (.int x :: .int k :: .ref (ad i) :: rest)) := by
  have hcell : H[ad i]? = some (arrV (dA 1) n (fun j => .int (σ.2.2.1 i j))) := ((hI.1.1 i _ hL).1 hic).trans (by rw [rgA_c (Nat.le_of_ble_eq_true rfl)])
  refine W.bast hC.1.1 hC.1.2.1 hcell ((hC.2.1.1.2 1 _ rfl).1 n _) (fun q => by cases q) (by rw [arrV_size]; exact hT.1) rfl rfl hdg fun H1 e z oq => ?_
  refine kk _ H1 _ (hT.2 _ rfl) ⟨xV_w hI.1 hC.2.2 hic hL z oq ?_ rgSo_I, hI.2.put z oq (xWin hic)⟩
  show H1[ad i]? = some (vp_cell _ _)
  rw [e, rgA_I (Nat.le_of_ble_eq_true rfl), arrV_store]
  rfl
theorem x_zast (hC : xC p m c cc nL s args own D dA ad n0 Hs) (hI : xI D dA ad n0 Hs H0 σ H locs) {i n : Nat} (hic : i < CB) (hL : gK σ i = some (.inr (2, n))) {k x : Int32} {P : CS → Prop} (hT : vp_in k n ∧ ∀ y, y = wI σ i k.toNatClampNeg (vp_nar .boolean x) → P y) (hdg : decode cc pc = .ok (.bastore, 1)) (kk : ∀ (σ1 : CS) (H1 : Heap) (locs1 : List Loc), P σ1 → xI D dA ad n0 Hs H0 σ1 H1 locs1 → W p l e R s m args below meth c H1 locs1 cells slots Q (F0 m (pc + 1) ls rest)) : W p l e R s m args below meth c H locs cells slots Q (F0 m pc ls (.int x :: .int k :: .ref (ad i) :: rest)) := by
  have hcell : H[ad i]? = some (arrV (dA 2) n (fun j => .int (σ.2.2.1 i j))) := ((hI.1.1 i _ hL).1 hic).trans (by rw [rgA_c (Nat.le_of_ble_eq_true rfl)])
  refine W.zast hC.1.1 hC.1.2.1 hcell ((hC.2.1.1.2 2 _ rfl).1 n _) (fun q => by cases q) (by rw [arrV_size]; exact hT.1) rfl rfl hdg fun H1 e z oq => ?_
  refine kk _ H1 _ (hT.2 _ rfl) ⟨xV_w hI.1 hC.2.2 hic hL z oq ?_ rgSo_I, hI.2.put z oq (xWin hic)⟩
  show H1[ad i]? = some (vp_cell _ _)
  rw [e, rgA_I (Nat.le_of_ble_eq_true rfl), arrV_store]
  rfl
theorem x_cast (hC : xC p m c cc nL s args own D dA ad n0 Hs) (hI : xI D dA ad n0 Hs H0 σ H locs) {i n : Nat} (hic : i < CB) (hL : gK σ i = some (.inr (3, n))) {k x : Int32} {P : CS → Prop} (hT : vp_in k n ∧ ∀ y, y = wI σ i k.toNatClampNeg (vp_nar .char x) → P y) (hdg : decode cc pc = .ok (.castore, 1)) (kk : ∀ (σ1 : CS) (H1 : Heap) (locs1 : List Loc), P σ1 → xI D dA ad n0 Hs H0 σ1 H1 locs1 → W p l e R s m args below meth c H1 locs1 cells slots Q (F0 m (pc + 1) ls rest)) : W p l e R s m args below meth c H locs cells slots Q (F0 m pc ls (.int x :: .int k :: .ref (ad i) :: rest)) := by
  have hcell : H[ad i]? = some (arrV (dA 3) n (fun j => .int (σ.2.2.1 i j))) := ((hI.1.1 i _ hL).1 hic).trans (by rw [rgA_c (Nat.le_of_ble_eq_true rfl)])
  refine W.cast hC.1.1 hC.1.2.1 hcell ((hC.2.1.1.2 3 _ rfl).1 n _) (fun q => by cases q) (by rw [arrV_size]; exact hT.1) rfl rfl hdg fun H1 e z oq => ?_
  refine kk _ H1 _ (hT.2 _ rfl) ⟨xV_w hI.1 hC.2.2 hic hL z oq ?_ rgSo_I, hI.2.put z oq (xWin hic)⟩
  show H1[ad i]? = some (vp_cell _ _)
  rw [e, rgA_I (Nat.le_of_ble_eq_true rfl), arrV_store]
  rfl
theorem x_last (hC : xC p m c cc nL s args own D dA ad n0 Hs) (hI : xI D dA ad n0 Hs H0 σ H locs) {i n : Nat} (hic : i < CB) (hL : gK σ i = some (.inr (4, n))) {k : Int32} {x : Int64} {P : CS → Prop} (hT : vp_in k n ∧ ∀ y, y = wL σ i k.toNatClampNeg x → P y) (hdg : decode cc pc = .ok (.lastore, 1)) (kk : ∀ (σ1 : CS) (H1 : Heap) (locs1 : List Loc), P σ1 → xI D dA ad n0 Hs H0 σ1 H1 locs1 → W p l e R s m args below meth c H1 locs1 cells slots Q (F0 m (pc + 1) ls rest)) : W p l e R s m args below meth c H locs cells slots Q (F0 m pc ls (.long x :: .int k :: .ref (ad i) :: rest)) := by
  have hcell : H[ad i]? = some (arrV (dA 4) n (fun j => .long (σ.2.2.2.1 i j))) := ((hI.1.1 i _ hL).1 hic).trans (by rw [rgA_lc])
  refine W.last hC.1.1 hC.1.2.1 hcell ((hC.2.1.1.2 4 _ rfl).1 n _) (fun q => by cases q) (by rw [arrV_size]; exact hT.1) rfl rfl hdg fun H1 e z oq => ?_
  refine kk _ H1 _ (hT.2 _ rfl) ⟨xV_w hI.1 hC.2.2 hic hL z oq ?_ rgSo_L, hI.2.put z oq (xWin hic)⟩
  show H1[ad i]? = some (vp_cell _ _)
  rw [e, rgA_lc, arrV_store]
  congr 2
  funext j
  by_cases h : j = k.toNatClampNeg <;> simp [sL, updV, h]
theorem rgA_rc {τ : Sto} {i t n : Nat} {cA : ClassId} (h5 : 4 < t) : vp_cell cA (n, rgA ad τ i t) = arrV cA n (fun j => va_rf (rgR ad (τ.2.2 i j))) := by
  rw [rgA_cell]
  congr 1
  funext j
  unfold rgE; rw [if_neg (by omega), if_neg (by omega)]
/-- the store of a cell into an array of references: the class of what is stored fits -/
theorem x_aast (hC : xC p m c cc nL s args own D dA ad n0 Hs) (hI : xI D dA ad n0 Hs H0 σ H locs) {i t n q : Nat} (hic : i < CB) (hL : gK σ i = some (.inr (t, n))) (h5 : 4 < t) {kA kv kcomp : Class} {comp cv : ClassId} {ty : FieldType} (hk : s.vm.classes[dA t]? = some kA) (hkind : kA.kind = .array comp ty) (href : ty.isReference = true) (hkc : s.vm.classes[comp]? = some kcomp) (hv : ∃ cellv : Cell, H[ad q]? = some cellv ∧ cellv.vm.isStatics = false ∧ cellv.cls = cv) (hkv : s.vm.classes[cv]? = some kv) (has : s.vm.assignable cv comp = true) {k : Int32} {P : CS → Prop} (hT : vp_in k n ∧ ∀ y, y = wR σ i k.toNatClampNeg (q + 1) → P y) (hdg : decode cc pc = .ok (.aastore, 1)) (kk : ∀ (σ1 : CS) (H1 : Heap) (locs1 : List Loc), P σ1 → xI D dA ad n0 Hs H0 σ1 H1 locs1 → W p l e R s m args below meth c H1 locs1 cells slots Q (F0 m (pc + 1) ls rest)) : W p l e R s m args below meth c H locs cells slots Q (F0 m pc ls (.ref (ad q) :: .int k :: .ref (ad i) :: rest)) := by
  have hcell : H[ad i]? = some (arrV (dA t) n (fun j => va_rf (rgR ad (σ.2.2.2.2 i j)))) := ((hI.1.1 i _ hL).1 hic).trans (by rw [rgA_rc h5])
  obtain ⟨cellv, g1, g2, g3⟩ := hv
  have hlt : k.toNatClampNeg < n := Nat.not_le.mp fun q => hT.1 (Or.inr q)
  have h0 : ¬ k < 0 := fun q => hT.1 (Or.inl q)
  refine W.aast hC.1.1 hC.1.2.1 hcell (fun q h => by cases h) (fun h => by cases h) hk hkind href hkc ⟨h0, by rw [arrV_size]; exact hlt⟩ g1 (fun q h => by rw [h] at g2; cases g2) (by rw [g3]; exact hkv) (by rw [g3]; exact has) rfl rfl hdg fun H1 e z oq => ?_
  refine kk _ H1 _ (hT.2 _ rfl) ⟨xV_w hI.1 hC.2.2 hic hL z oq ?_ rgSo_R, hI.2.put z oq (xWin hic)⟩
  show H1[ad i]? = some (vp_cell _ _)
  rw [e, rgA_rc h5, arrV_store]
  congr 2
  funext j
  by_cases h : j = k.toNatClampNeg
  · simp [sR, updV, h, rgR, va_rf]
  · simp [sR, updV, h]
end CR
