/-! THE REGION: objects and arrays known by numbers (ids), their contents a store of ints, longs and references; rows over the machine. -/
abbrev Sto : Type := (Nat → Nat → Int32) × (Nat → Nat → Int64) × (Nat → Nat → Nat)
def sI (τ : Sto) (i j : Nat) (v : Int32) : Sto := (fun a b => if a = i ∧ b = j then v else τ.1 a b, τ.2.1, τ.2.2)
def sL (τ : Sto) (i j : Nat) (v : Int64) : Sto := (τ.1, fun a b => if a = i ∧ b = j then v else τ.2.1 a b, τ.2.2)
def sR (τ : Sto) (i j : Nat) (v : Nat) : Sto := (τ.1, τ.2.1, fun a b => if a = i ∧ b = j then v else τ.2.2 a b)
/-- what an id is: an object (its class's number, its fields' number, each field's kind) or an array (its kind, its length) -/
abbrev rgK : Type := (Nat × Nat × (Nat → Nat × Nat)) ⊕ (Nat × Nat)
abbrev rgL : Type := Nat → Option rgK
/-- a reference as a number: 0 null, i + 1 the id i -/
def rgR (ad : Nat → Nat) (r : Nat) : Option Nat := match r with
  | 0 => none
  | i + 1 => some (ad i)
/-- kinds of fields: 0 int, 1 long, 2 a fixed reference (by an offset), 3 a fixed reference (to an id), else a reference -/
def rgV (ad : Nat → Nat) (τ : Sto) (id : Nat) (k : Nat × Nat) (j : Nat) : Value := match k.1 with
  | 0 => .int (τ.1 id j)
  | 1 => .long (τ.2.1 id j)
  | 2 => .ref (ad (id + k.2))
  | 3 => .ref (ad k.2)
  | _ => va_rf (rgR ad (τ.2.2 id j))
/-- kinds of arrays: 0 int, 1 byte, 2 boolean, 3 char, 4 long, 5.. references -/
def rgA (ad : Nat → Nat) (τ : Sto) (id : Nat) (t : Nat) : (Nat → Int32) ⊕ (Nat → Int64) ⊕ (Nat → UInt32) ⊕ (Nat → UInt64) ⊕ (Nat → Option Nat) :=
  if t < 4 then .inl (τ.1 id) else if t = 4 then .inr (.inl (τ.2.1 id)) else .inr (.inr (.inr (.inr (fun j => rgR ad (τ.2.2 id j)))))
def rgAt (D : va_G) (dA : Nat → ClassId) (ad : Nat → Nat) (τ : Sto) (id : Nat) (H : Heap) : rgK → Prop
  | .inl o => t_OB (ad id) (D.1 o.1) o.2.1 (D.2 o.1) H (fun j => rgV ad τ id (o.2.2 j) j)
  | .inr a => H[ad id]? = some (vp_cell (dA a.1) (a.2, rgA ad τ id a.1))
def rgP (D : va_G) (dA : Nat → ClassId) (L : rgL) (ad : Nat → Nat) (τ : Sto) (H : Heap) : Prop := ∀ (id : Nat) (k : rgK), L id = some k → rgAt D dA ad τ id H k
def rgJ (L : rgL) (ad : Nat → Nat) : Prop := ∀ (i j : Nat) (k k' : rgK), L i = some k → L j = some k' → ad i = ad j → i = j
def rgAd (L : rgL) (ad : Nat → Nat) : Nat → Prop := fun q => ∃ (id : Nat) (k : rgK), L id = some k ∧ ad id = q
def rgTy (dA : Nat → ClassId) : List (ClassId × FieldType) := [(dA 0, .int), (dA 1, .byte), (dA 2, .boolean), (dA 3, .char), (dA 4, .long), (dA 5, .object "java/lang/Object"), (dA 6, .object "MendedThings$State"), (dA 7, .array .int), (dA 8, .object "java/lang/String")]
theorem sI_1 (τ : Sto) (i j a b : Nat) (v : Int32) : (sI τ i j v).1 a b = if a = i ∧ b = j then v else τ.1 a b := rfl
theorem sI_2 (τ : Sto) (i j : Nat) (v : Int32) : (sI τ i j v).2 = τ.2 := rfl
theorem sL_1 (τ : Sto) (i j : Nat) (v : Int64) : (sL τ i j v).1 = τ.1 := rfl
theorem sL_2 (τ : Sto) (i j a b : Nat) (v : Int64) : (sL τ i j v).2.1 a b = if a = i ∧ b = j then v else τ.2.1 a b := rfl
theorem sL_3 (τ : Sto) (i j : Nat) (v : Int64) : (sL τ i j v).2.2 = τ.2.2 := rfl
theorem sR_1 (τ : Sto) (i j : Nat) (v : Nat) : (sR τ i j v).1 = τ.1 := rfl
theorem sR_2 (τ : Sto) (i j : Nat) (v : Nat) : (sR τ i j v).2.1 = τ.2.1 := rfl
theorem sR_3 (τ : Sto) (i j a b : Nat) (v : Nat) : (sR τ i j v).2.2 a b = if a = i ∧ b = j then v else τ.2.2 a b := rfl
theorem sI_off {τ : Sto} {i j a : Nat} {v : Int32} (h : a ≠ i) : (sI τ i j v).1 a = τ.1 a := by
  funext b; simp [sI, h]
theorem sL_off {τ : Sto} {i j a : Nat} {v : Int64} (h : a ≠ i) : (sL τ i j v).2.1 a = τ.2.1 a := by
  funext b; simp [sL, h]
theorem sR_off {τ : Sto} {i j a : Nat} {v : Nat} (h : a ≠ i) : (sR τ i j v).2.2 a = τ.2.2 a := by
  funext b; simp [sR, h]
theorem rgAt.congr {D : va_G} {dA : Nat → ClassId} {ad : Nat → Nat} {τ τ' : Sto} {id : Nat} {H H1 : Heap} {k : rgK} (h : rgAt D dA ad τ id H k) (hq : H1[ad id]? = H[ad id]?) (e1 : τ'.1 id = τ.1 id) (e2 : τ'.2.1 id = τ.2.1 id) (e3 : τ'.2.2 id = τ.2.2 id) : rgAt D dA ad τ' id H1 k := by
  cases k with
  | inl o =>
    refine t_OB.to (t_OB.kept h hq) (fun j _ => ?_)
    simp only [rgV, e1, e2, e3]
  | inr a =>
    show H1[ad id]? = _
    rw [hq, show H[ad id]? = _ from h]
    simp only [rgA, e1, e2, e3]
theorem rgP.upd {D : va_G} {dA : Nat → ClassId} {L : rgL} {ad : Nat → Nat} {τ τ' : Sto} {H H1 : Heap} (hP : rgP D dA L ad τ H) (hJ : rgJ L ad) {id : Nat} {k : rgK} (hL : L id = some k) (oq : ∀ q : Nat, q ≠ ad id → H1[q]? = H[q]?) (h1 : rgAt D dA ad τ' id H1 k)
    (ho : ∀ i, i ≠ id → τ'.1 i = τ.1 i ∧ τ'.2.1 i = τ.2.1 i ∧ τ'.2.2 i = τ.2.2 i) : rgP D dA L ad τ' H1 := by
  intro i k' hi
  by_cases h : i = id
  · subst h
    rw [hL] at hi
    cases hi
    exact h1
  · obtain ⟨e1, e2, e3⟩ := ho i h
    exact (hP i k' hi).congr (oq _ (fun z => h (hJ i id k' k hi hL z))) e1 e2 e3
theorem rgP.kept {D : va_G} {dA : Nat → ClassId} {L : rgL} {ad : Nat → Nat} {τ : Sto} {H H1 : Heap} (hP : rgP D dA L ad τ H) (hq : ∀ q, rgAd L ad q → H1[q]? = H[q]?) : rgP D dA L ad τ H1 := fun id k h => (hP id k h).congr (hq _ ⟨id, k, h, rfl⟩) rfl rfl rfl
theorem rgAt.lt {D : va_G} {dA : Nat → ClassId} {ad : Nat → Nat} {τ : Sto} {id : Nat} {H : Heap} {k : rgK} (h : rgAt D dA ad τ id H k) : ad id < H.size := by
  cases k with
  | inl o =>
    obtain ⟨cell, q, -⟩ := h
    exact (Array.getElem?_eq_some_iff.mp q).1
  | inr a => exact (Array.getElem?_eq_some_iff.mp h).1
theorem rgSo_I {τ : Sto} {id j : Nat} {v : Int32} : ∀ i, i ≠ id → (sI τ id j v).1 i = τ.1 i ∧ (sI τ id j v).2.1 i = τ.2.1 i ∧ (sI τ id j v).2.2 i = τ.2.2 i := fun _ h => ⟨sI_off h, rfl, rfl⟩
theorem rgSo_L {τ : Sto} {id j : Nat} {v : Int64} : ∀ i, i ≠ id → (sL τ id j v).1 i = τ.1 i ∧ (sL τ id j v).2.1 i = τ.2.1 i ∧ (sL τ id j v).2.2 i = τ.2.2 i := fun _ h => ⟨rfl, sL_off h, rfl⟩
theorem rgSo_R {τ : Sto} {id j : Nat} {v : Nat} : ∀ i, i ≠ id → (sR τ id j v).1 i = τ.1 i ∧ (sR τ id j v).2.1 i = τ.2.1 i ∧ (sR τ id j v).2.2 i = τ.2.2 i := fun _ h => ⟨rfl, rfl, sR_off h⟩
section RG
variable {p : Program} {l : Launch} {e : Env} {R : Room} {s : State} {m : MethodId} {args : Array Value} {below : List Frame} {meth : Method} {c : Code} {H : Heap} {locs : List Loc} {cells slots : Nat} {Q : State → Prop}
variable {cc : ByteArray} {nL : Nat} {own : String} {Ts : List Cond} {D : va_G} {cl : List vw_C} {tys : List (ClassId × FieldType)} {dA : Nat → ClassId} {L : rgL} {ad : Nat → Nat} {τ : Sto} {A : Nat → Prop} {H0 : Heap} {pc : Nat} {ls : Array Slot} {rest : List Value}
theorem rg_get (S : CallFix p m c cc nL s args Ts own) (hK : va_K D cl tys s) (hP : rgP D dA L ad τ H) {C ref : String} {T : u_T} {N ci id index : Nat} {ks : Nat → Nat × Nat} (hL : L id = some (.inl (ci, N, ks))) (hc : cl[ci]? = some (C, T, N)) (hin : ∀ w ∈ u_ws C T N, w ∈ Ts) (j : Nat) (hj : j < N) (hq : Cond.fieldLink own index ref (T j).2.1 (T j).2.2.1 ∈ Ts) (hsame : ref = (T j).1) {v : Value} (hv : rgV ad τ id (ks j) j = v) (hdg : decode cc pc = .ok (.getfield index, 3))
    (kk : W p l e R s m args below meth c H locs cells slots Q (F0 m (pc + 3) ls (v :: rest))) : W p l e R s m args below meth c H locs cells slots Q (F0 m pc ls (.ref (ad id) :: rest)) := by
  obtain ⟨hx, hb, -, hown, hts⟩ := S
  obtain ⟨cell, q1, q2, q3, q4⟩ := hP id _ hL
  obtain ⟨hS, hfc, kC, hkC, hkind⟩ := hK.1 ci _ hc
  obtain ⟨cf, kf, fi, f, hi, hsl⟩ := hS j hj
  subst hsame
  refine W.getf hx hb hown (hts _ hq) hi (u_facts hfc hkC (u_lays hts hin hj) hi).1 q1 (by rw [q3]; exact fun h => by cases h) (v := v) ?_ rfl rfl hdg kk
  rw [hsl, q4 j hj]
  exact congrArg some hv
theorem rg_put (S : CallFix p m c cc nL s args Ts own) (hK : va_K D cl tys s) (hP : rgP D dA L ad τ H) (hJ : rgJ L ad) (hS0 : va_S A H0 H locs) (hAd : ∀ q, rgAd L ad q → A q) {C ref : String} {T : u_T} {N ci id index : Nat} {ks : Nat → Nat × Nat} (hL : L id = some (.inl (ci, N, ks))) (hc : cl[ci]? = some (C, T, N)) (hin : ∀ w ∈ u_ws C T N, w ∈ Ts) (ty0 : Nat → FieldType) (hty : ∀ k, k < N → parseFieldDescriptor (T k).2.2.1 = some (ty0 k)) (hnm : ∀ a, a < N → ∀ b, b < N → a ≠ b → (T a).2.1 ≠ (T b).2.1) (j : Nat) (hj : j < N) (hq : Cond.fieldLink own index ref (T j).2.1 (T j).2.2.1 ∈ Ts) (hsame : ref = (T j).1) (hfin : (T j).2.2.2 = false) {v : Value} {τ' : Sto} (hn : narrow (ty0 j) v = v) (hfit : fits (ty0 j) v = true) (hv : rgV ad τ' id (ks j) j = v) (hv' : ∀ i, i ≠ j → rgV ad τ' id (ks i) i = rgV ad τ id (ks i) i) (ho : ∀ i, i ≠ id → τ'.1 i = τ.1 i ∧ τ'.2.1 i = τ.2.1 i ∧ τ'.2.2 i = τ.2.2 i) (hdg : decode cc pc = .ok (.putfield index, 3))
    (kk : ∀ (H1 : Heap) (locs1 : List Loc), H1.size = H.size → rgP D dA L ad τ' H1 → va_S A H0 H1 locs1 → W p l e R s m args below meth c H1 locs1 cells slots Q (F0 m (pc + 3) ls rest)) : W p l e R s m args below meth c H locs cells slots Q (F0 m pc ls (v :: .ref (ad id) :: rest)) := by
  obtain ⟨hx, hb, -, hown, hts⟩ := S
  have hap := va_apart (own := own) hts hin ty0 hty hnm hK hc
  obtain ⟨cell, q1, q2, q3, q4⟩ := hP id _ hL
  obtain ⟨hS, hfc, kC, hkC, hkind⟩ := hK.1 ci _ hc
  obtain ⟨cf, kf, fi, f, hi, hsl⟩ := hS j hj
  have hlay := hts _ (hin _ (u_in_lay hj))
  unfold u_lay at hlay
  rw [if_neg (by rw [hfin]; decide)] at hlay
  have hst := (u_facts hfc hkC (u_lays hts hin hj) hi).1
  have h6 := u_store hfc hkC hkind hlay hi (hty j hj) hn hfit
  subst hsame
  refine W.putK hx hb (f := f) ⟨hown, hts _ hq, ⟨_, _, _, hi⟩, hst⟩ (by rw [q2]; exact h6) q1 q3 (by rw [hsl]; exact k2_hasslot (q4 j hj)) rfl rfl hdg fun H' e1 e2 e3 => ?_
  rw [hsl] at e1 ⊢
  refine kk H' _ e2 (hP.upd hJ hL e3 ?_ ho) (hS0.put e2 e3 (hAd _ ⟨id, _, hL, rfl⟩))
  refine t_OB.to (V := updV (fun j => rgV ad τ id (ks j) j) j v) ⟨_, e1, q2, q3, t_set q4 hap hj v⟩ (fun i _ => ?_)
  by_cases h : i = j
  · subst h; simp [updV]; exact hv.symm
  · simp [updV, h]; exact (hv' i h).symm
theorem rgV_I {τ : Sto} {id j : Nat} {v : Int32} {ks : Nat → Nat × Nat} : ∀ i, i ≠ j → rgV ad (sI τ id j v) id (ks i) i = rgV ad τ id (ks i) i := by
  intro i h
  simp [rgV, sI, h]
theorem rgV_L {τ : Sto} {id j : Nat} {v : Int64} {ks : Nat → Nat × Nat} : ∀ i, i ≠ j → rgV ad (sL τ id j v) id (ks i) i = rgV ad τ id (ks i) i := by
  intro i h
  simp [rgV, sL, h]
theorem rgV_R {τ : Sto} {id j : Nat} {v : Nat} {ks : Nat → Nat × Nat} : ∀ i, i ≠ j → rgV ad (sR τ id j v) id (ks i) i = rgV ad τ id (ks i) i := by
  intro i h
  simp [rgV, sR, h]
/-- an array of the region as the kit has it -/
theorem rg_arr (hP : rgP D dA L ad τ H) {id t n : Nat} (hL : L id = some (.inr (t, n))) : va_P D cl [(ad id, .inl (dA t, n, rgA ad τ id t))] H := by
  intro k q hk
  match k, hk with
  | 0, hk => cases hk; exact hP id _ hL
  | k + 1, hk => cases hk
theorem rg_iald (S : CallFix p m c cc nL s args Ts own) (hK : va_K D cl (rgTy dA) s) (hP : rgP D dA L ad τ H) {id n : Nat} (hL : L id = some (.inr (0, n))) {i : Int32} (hin : vp_in i n) (hdg : decode cc pc = .ok (.iaload, 1))
    (kk : W p l e R s m args below meth c H locs cells slots Q (F0 m (pc + 1) ls (.int (τ.1 id i.toNatClampNeg) :: rest))) : W p l e R s m args below meth c H locs cells slots Q (F0 m pc ls (.int i :: .ref (ad id) :: rest)) :=
  va_iald S.1 S.2.1 hK (rg_arr hP hL) 0 0 rfl rfl hin hdg kk
theorem rg_bald (S : CallFix p m c cc nL s args Ts own) (hK : va_K D cl (rgTy dA) s) (hP : rgP D dA L ad τ H) {id n : Nat} (hL : L id = some (.inr (1, n))) {i : Int32} (hin : vp_in i n) (hdg : decode cc pc = .ok (.baload, 1))
    (kk : W p l e R s m args below meth c H locs cells slots Q (F0 m (pc + 1) ls (.int (τ.1 id i.toNatClampNeg) :: rest))) : W p l e R s m args below meth c H locs cells slots Q (F0 m pc ls (.int i :: .ref (ad id) :: rest)) :=
  va_bald S.1 S.2.1 hK (rg_arr hP hL) 0 1 rfl rfl hin hdg kk
theorem rg_zald (S : CallFix p m c cc nL s args Ts own) (hK : va_K D cl (rgTy dA) s) (hP : rgP D dA L ad τ H) {id n : Nat} (hL : L id = some (.inr (2, n))) {i : Int32} (hin : vp_in i n) (hdg : decode cc pc = .ok (.baload, 1))
    (kk : W p l e R s m args below meth c H locs cells slots Q (F0 m (pc + 1) ls (.int (τ.1 id i.toNatClampNeg) :: rest))) : W p l e R s m args below meth c H locs cells slots Q (F0 m pc ls (.int i :: .ref (ad id) :: rest)) :=
  va_zald S.1 S.2.1 hK (rg_arr hP hL) 0 2 rfl rfl hin hdg kk
theorem rg_cald (S : CallFix p m c cc nL s args Ts own) (hK : va_K D cl (rgTy dA) s) (hP : rgP D dA L ad τ H) {id n : Nat} (hL : L id = some (.inr (3, n))) {i : Int32} (hin : vp_in i n) (hdg : decode cc pc = .ok (.caload, 1))
    (kk : W p l e R s m args below meth c H locs cells slots Q (F0 m (pc + 1) ls (.int (τ.1 id i.toNatClampNeg) :: rest))) : W p l e R s m args below meth c H locs cells slots Q (F0 m pc ls (.int i :: .ref (ad id) :: rest)) :=
  va_cald S.1 S.2.1 hK (rg_arr hP hL) 0 3 rfl rfl hin hdg kk
theorem rg_lald (S : CallFix p m c cc nL s args Ts own) (hK : va_K D cl (rgTy dA) s) (hP : rgP D dA L ad τ H) {id n : Nat} (hL : L id = some (.inr (4, n))) {i : Int32} (hin : vp_in i n) (hdg : decode cc pc = .ok (.laload, 1))
    (kk : W p l e R s m args below meth c H locs cells slots Q (F0 m (pc + 1) ls (.long (τ.2.1 id i.toNatClampNeg) :: rest))) : W p l e R s m args below meth c H locs cells slots Q (F0 m pc ls (.int i :: .ref (ad id) :: rest)) :=
  va_lald S.1 S.2.1 hK (rg_arr hP hL) 0 4 rfl rfl hin hdg kk
theorem rg_alen (S : CallFix p m c cc nL s args Ts own) (hK : va_K D cl (rgTy dA) s) (hP : rgP D dA L ad τ H) {id t n : Nat} (hL : L id = some (.inr (t, n))) (ht : t < 8) {v : Int32} (hv : Int32.ofNat n = v) (hdg : decode cc pc = .ok (.arraylength, 1))
    (kk : W p l e R s m args below meth c H locs cells slots Q (F0 m (pc + 1) ls (.int v :: rest))) : W p l e R s m args below meth c H locs cells slots Q (F0 m pc ls (.ref (ad id) :: rest)) := by
  have h : ∃ ty, (rgTy dA)[t]? = some (dA t, ty) := by
    rcases (show t = 0 ∨ t = 1 ∨ t = 2 ∨ t = 3 ∨ t = 4 ∨ t = 5 ∨ t = 6 ∨ t = 7 by omega) with rfl | rfl | rfl | rfl | rfl | rfl | rfl | rfl <;> exact ⟨_, rfl⟩
  obtain ⟨ty, h⟩ := h
  exact va_alen S.1 S.2.1 hK (rg_arr hP hL) 0 t rfl h hv hdg kk
theorem rgA_I {τ : Sto} {id t n k : Nat} {cA : ClassId} {x : Int32} (ht : t < 4) : vp_cell cA (n, rgA ad (sI τ id k x) id t) = arrV cA n (updV (fun j => .int (τ.1 id j)) k (.int x)) := by
  simp only [rgA, ht, if_true, vp_cell_i]
  congr 1
  funext j
  by_cases h : j = k <;> simp [sI, updV, h]
theorem rgA_c {τ : Sto} {id t n : Nat} {cA : ClassId} (ht : t < 4) : vp_cell cA (n, rgA ad τ id t) = arrV cA n (fun j => .int (τ.1 id j)) := by
  simp only [rgA, ht, if_true, vp_cell_i]
theorem rg_iast (S : CallFix p m c cc nL s args Ts own) (hK : va_K D cl (rgTy dA) s) (hP : rgP D dA L ad τ H) (hJ : rgJ L ad) (hS0 : va_S A H0 H locs) (hAd : ∀ q, rgAd L ad q → A q) {id n : Nat} (hL : L id = some (.inr (0, n))) {i x : Int32} (hin : vp_in i n) (hdg : decode cc pc = .ok (.iastore, 1))
    (kk : ∀ (H1 : Heap) (locs1 : List Loc), H1.size = H.size → rgP D dA L ad (sI τ id i.toNatClampNeg x) H1 → va_S A H0 H1 locs1 → W p l e R s m args below meth c H1 locs1 cells slots Q (F0 m (pc + 1) ls rest)) : W p l e R s m args below meth c H locs cells slots Q (F0 m pc ls (.int x :: .int i :: .ref (ad id) :: rest)) := by
  have hcell : H[ad id]? = some (arrV (dA 0) n (fun j => .int (τ.1 id j))) := (hP id _ hL).trans (by rw [rgA_c (Nat.le_of_ble_eq_true rfl)])
  refine W.iast S.1 S.2.1 hcell ((hK.2 0 _ rfl).1 n _) (fun q => by cases q) (by rw [arrV_size]; exact hin) rfl rfl hdg fun H1 e z oq => ?_
  refine kk H1 _ z (hP.upd hJ hL oq ?_ rgSo_I) (hS0.put z oq (hAd _ ⟨id, _, hL, rfl⟩))
  show H1[ad id]? = some (vp_cell _ _)
  rw [e, rgA_I (Nat.le_of_ble_eq_true rfl), arrV_store]
theorem rg_bast (S : CallFix p m c cc nL s args Ts own) (hK : va_K D cl (rgTy dA) s) (hP : rgP D dA L ad τ H) (hJ : rgJ L ad) (hS0 : va_S A H0 H locs) (hAd : ∀ q, rgAd L ad q → A q) {id n : Nat} (hL : L id = some (.inr (1, n))) {i x : Int32} (hin : vp_in i n) (hdg : decode cc pc = .ok (.bastore, 1))
    (kk : ∀ (H1 : Heap) (locs1 : List Loc), H1.size = H.size → rgP D dA L ad (sI τ id i.toNatClampNeg (vp_nar .byte x)) H1 → va_S A H0 H1 locs1 → W p l e R s m args below meth c H1 locs1 cells slots Q (F0 m (pc + 1) ls rest)) : W p l e R s m args below meth c H locs cells slots Q (F0 m pc ls (.int x :: .int i :: .ref (ad id) :: rest)) := by
  have hcell : H[ad id]? = some (arrV (dA 1) n (fun j => .int (τ.1 id j))) := (hP id _ hL).trans (by rw [rgA_c (Nat.le_of_ble_eq_true rfl)])
  refine W.bast S.1 S.2.1 hcell ((hK.2 1 _ rfl).1 n _) (fun q => by cases q) (by rw [arrV_size]; exact hin) rfl rfl hdg fun H1 e z oq => ?_
  refine kk H1 _ z (hP.upd hJ hL oq ?_ rgSo_I) (hS0.put z oq (hAd _ ⟨id, _, hL, rfl⟩))
  show H1[ad id]? = some (vp_cell _ _)
  rw [e, rgA_I (Nat.le_of_ble_eq_true rfl), arrV_store]
  rfl
theorem rg_zast (S : CallFix p m c cc nL s args Ts own) (hK : va_K D cl (rgTy dA) s) (hP : rgP D dA L ad τ H) (hJ : rgJ L ad) (hS0 : va_S A H0 H locs) (hAd : ∀ q, rgAd L ad q → A q) {id n : Nat} (hL : L id = some (.inr (2, n))) {i x : Int32} (hin : vp_in i n) (hdg : decode cc pc = .ok (.bastore, 1))
    (kk : ∀ (H1 : Heap) (locs1 : List Loc), H1.size = H.size → rgP D dA L ad (sI τ id i.toNatClampNeg (vp_nar .boolean x)) H1 → va_S A H0 H1 locs1 → W p l e R s m args below meth c H1 locs1 cells slots Q (F0 m (pc + 1) ls rest)) : W p l e R s m args below meth c H locs cells slots Q (F0 m pc ls (.int x :: .int i :: .ref (ad id) :: rest)) := by
  have hcell : H[ad id]? = some (arrV (dA 2) n (fun j => .int (τ.1 id j))) := (hP id _ hL).trans (by rw [rgA_c (Nat.le_of_ble_eq_true rfl)])
  refine W.zast S.1 S.2.1 hcell ((hK.2 2 _ rfl).1 n _) (fun q => by cases q) (by rw [arrV_size]; exact hin) rfl rfl hdg fun H1 e z oq => ?_
  refine kk H1 _ z (hP.upd hJ hL oq ?_ rgSo_I) (hS0.put z oq (hAd _ ⟨id, _, hL, rfl⟩))
  show H1[ad id]? = some (vp_cell _ _)
  rw [e, rgA_I (Nat.le_of_ble_eq_true rfl), arrV_store]
  rfl
theorem rg_cast (S : CallFix p m c cc nL s args Ts own) (hK : va_K D cl (rgTy dA) s) (hP : rgP D dA L ad τ H) (hJ : rgJ L ad) (hS0 : va_S A H0 H locs) (hAd : ∀ q, rgAd L ad q → A q) {id n : Nat} (hL : L id = some (.inr (3, n))) {i x : Int32} (hin : vp_in i n) (hdg : decode cc pc = .ok (.castore, 1))
    (kk : ∀ (H1 : Heap) (locs1 : List Loc), H1.size = H.size → rgP D dA L ad (sI τ id i.toNatClampNeg (vp_nar .char x)) H1 → va_S A H0 H1 locs1 → W p l e R s m args below meth c H1 locs1 cells slots Q (F0 m (pc + 1) ls rest)) : W p l e R s m args below meth c H locs cells slots Q (F0 m pc ls (.int x :: .int i :: .ref (ad id) :: rest)) := by
  have hcell : H[ad id]? = some (arrV (dA 3) n (fun j => .int (τ.1 id j))) := (hP id _ hL).trans (by rw [rgA_c (Nat.le_of_ble_eq_true rfl)])
  refine W.cast S.1 S.2.1 hcell ((hK.2 3 _ rfl).1 n _) (fun q => by cases q) (by rw [arrV_size]; exact hin) rfl rfl hdg fun H1 e z oq => ?_
  refine kk H1 _ z (hP.upd hJ hL oq ?_ rgSo_I) (hS0.put z oq (hAd _ ⟨id, _, hL, rfl⟩))
  show H1[ad id]? = some (vp_cell _ _)
  rw [e, rgA_I (Nat.le_of_ble_eq_true rfl), arrV_store]
  rfl
theorem rgA_lc {τ : Sto} {id n : Nat} {cA : ClassId} : vp_cell cA (n, rgA ad τ id 4) = arrV cA n (fun j => .long (τ.2.1 id j)) := by
  simp [rgA, vp_cell_l]
theorem rg_last (S : CallFix p m c cc nL s args Ts own) (hK : va_K D cl (rgTy dA) s) (hP : rgP D dA L ad τ H) (hJ : rgJ L ad) (hS0 : va_S A H0 H locs) (hAd : ∀ q, rgAd L ad q → A q) {id n : Nat} (hL : L id = some (.inr (4, n))) {i : Int32} {x : Int64} (hin : vp_in i n) (hdg : decode cc pc = .ok (.lastore, 1))
    (kk : ∀ (H1 : Heap) (locs1 : List Loc), H1.size = H.size → rgP D dA L ad (sL τ id i.toNatClampNeg x) H1 → va_S A H0 H1 locs1 → W p l e R s m args below meth c H1 locs1 cells slots Q (F0 m (pc + 1) ls rest)) : W p l e R s m args below meth c H locs cells slots Q (F0 m pc ls (.long x :: .int i :: .ref (ad id) :: rest)) := by
  have hcell : H[ad id]? = some (arrV (dA 4) n (fun j => .long (τ.2.1 id j))) := (hP id _ hL).trans (by rw [rgA_lc])
  refine W.last S.1 S.2.1 hcell ((hK.2 4 _ rfl).1 n _) (fun q => by cases q) (by rw [arrV_size]; exact hin) rfl rfl hdg fun H1 e z oq => ?_
  refine kk H1 _ z (hP.upd hJ hL oq ?_ rgSo_L) (hS0.put z oq (hAd _ ⟨id, _, hL, rfl⟩))
  show H1[ad id]? = some (vp_cell _ _)
  rw [e, rgA_lc, arrV_store]
  congr 2
  funext j
  by_cases h : j = i.toNatClampNeg <;> simp [sL, updV, h]
end RG
