/-! MORE ROWS: inherited methods, super calls, copies, casts of arrays, the class of an array. -/
def wC (σ : CS) (b a sp dp n : Nat) : CS := (σ.1, σ.2.1, fun i j => if i = a then va_cpy (σ.2.2.1 b) (σ.2.2.1 a) sp dp n j else σ.2.2.1 i j, σ.2.2.2.1, fun i j => if i = a then va_cpy (σ.2.2.2.2 b) (σ.2.2.2.2 a) sp dp n j else σ.2.2.2.2 i j)
section CM
variable {p : Program} {l : Launch} {e : Env} {R : Room} {s : State} {m : MethodId} {args : Array Value} {below : List Frame} {meth : Method} {c : Code} {H : Heap} {locs : List Loc} {cells slots : Nat} {Q : State → Prop}
variable {cc : ByteArray} {nL : Nat} {own : String} {D : va_G} {dA : Nat → ClassId} {ad : Nat → Nat} {n0 : Nat} {Hs H0 : Heap} {σ : CS} {pc : Nat} {ls : Array Slot} {rest : List Value}
variable {y : MethodName} {bytes : ByteArray} {maxL mc ms index : Nat} {ret : Option FieldType} {rm : Room} {Qc : Array Value → State → Outcome → State → Prop} {As st : List Value} {P : Prop}
/-- an inherited method -/
theorem x_runU (hC : xC p m c cc nL s args own D dA ad n0 Hs) (hI : xI D dA ad n0 Hs H0 σ H locs) {C owner : String} {T : u_T} {N ci i : Nat} {ks : Nat → Nat × Nat} {x : MethodName} (hL : gK σ i = some (.inl (ci, N, ks))) (hc : vwCl[ci]? = some (C, T, N)) (hM : Met l y (ws_ y bytes maxL ret) rm (va_Pc (.ref (ad i) :: As) (cU D dA ad n0 Hs σ)) Qc mc ms (cA ad)) (hw : GoodIn lw_all (va_wsU own index C owner x y (ws_ y bytes maxL ret))) (hyx : y = ⟨owner, x.name, x.desc⟩) (n : Nat) (hd : owner ≠ "java/lang/invoke/MethodHandle" ∧ owner ≠ "java/lang/invoke/VarHandle" ∧ (parseMethodDescriptor x.desc).map (fun d => d.parameters.length) = some n) (hr0 : rm.cells = mc ∧ rm.slots = ms) (hR : rm.frames + 1 ≤ R.frames ∧ 8 + (maxL + 11) + rm.locals ≤ R.locals) (hn : As.length = n) (hsz : ls.size = nL) (hst : st = As.reverse ++ .ref (ad i) :: rest) (hroom : (rest.map fun v => v.category).sum ≤ 8) (hf : cells + mc ≤ R.cells ∧ slots + ms ≤ R.slots) (hdg : decode cc pc = .ok (.invokevirtual index, 3)) :
    va_Run p l e R s m args below meth c H locs cells slots mc ms (F0 m pc ls st) rest (Qc (Value.ref (ad i) :: As).toArray) (cA ad) := by
  subst hst
  exact va_runU hC.1 hM (va_cwU n hC.1.2.2.2.2 hw rfl hr0.1 hr0.2 hyx hd hR) ⟨cU.blind, x_recv hC hI hL hc, x_pre hC hI _⟩ rfl hn hsz rfl (lv_room hroom) hdg hf
/-- an inherited private method: what it selects is told apart -/
theorem x_runP (hC : xC p m c cc nL s args own D dA ad n0 Hs) (hI : xI D dA ad n0 Hs H0 σ H locs) {C : String} {T : u_T} {N ci i : Nat} {ks : Nat → Nat × Nat} (hL : gK σ i = some (.inl (ci, N, ks))) (hc : vwCl[ci]? = some (C, T, N)) (hM : Met l y (ws_ y bytes maxL ret) rm (va_Pc (.ref (ad i) :: As) (cU D dA ad n0 Hs σ)) Qc mc ms (cA ad)) (hcode : Cond.code y bytes maxL ret ∈ lw_all) (hini : Cond.initialized y.cls ∈ lw_all) (hq : Cond.methodLink own index y ∈ lw_all) (hsm : Cond.sameMethod y.cls y.cls y.name y.desc ∈ lw_all) (hin : Cond.instanceMethod y ∈ lw_all) (hse : (Cond.selects C y y).before #[] s = true) (n : Nat) (hd : y.cls ≠ "java/lang/invoke/MethodHandle" ∧ y.cls ≠ "java/lang/invoke/VarHandle" ∧ (parseMethodDescriptor y.desc).map (fun d => d.parameters.length) = some n) (hr0 : rm.cells = mc ∧ rm.slots = ms) (hR : rm.frames + 1 ≤ R.frames ∧ 8 + (maxL + 11) + rm.locals ≤ R.locals) (hn : As.length = n) (hsz : ls.size = nL) (hst : st = As.reverse ++ .ref (ad i) :: rest) (hroom : (rest.map fun v => v.category).sum ≤ 8) (hf : cells + mc ≤ R.cells ∧ slots + ms ≤ R.slots) (hdg : decode cc pc = .ok (.invokevirtual index, 3)) :
    va_Run p l e R s m args below meth c H locs cells slots mc ms (F0 m pc ls st) rest (Qc (Value.ref (ad i) :: As).toArray) (cA ad) := by
  subst hst
  have hts := hC.1.2.2.2.2
  have hG := lw_meth hcode
  have cu : va_CU R s args own C y.cls index y y bytes maxL ret (ws_ y bytes maxL ret) rm mc ms n := by
    refine ⟨⟨hr0.1, hr0.2, hR.1, hR.2, pay_in hts hG, List.mem_cons_self⟩, hts _ hcode, hts _ hini, ⟨hd.1, hd.2.1⟩, fun sig h => ?_, hts _ hq, hts _ hsm, va_Decl.of (hts _ hin) (hts _ hcode), va_Nw.use (w := .selects C y y) rfl hse, hts _ hin⟩
    have h2 := hd.2.2
    rw [h] at h2
    exact (Option.some.inj h2).symm
  exact va_runU hC.1 hM cu ⟨cU.blind, x_recv hC hI hL hc, x_pre hC hI _⟩ rfl hn hsz rfl (lv_room hroom) hdg hf
/-- 'super.y(..)' -/
theorem x_runSU (hC : xC p m c cc nL s args own D dA ad n0 Hs) (hI : xI D dA ad n0 Hs H0 σ H locs) {C : String} {T : u_T} {N ci i : Nat} {ks : Nat → Nat × Nat} (hL : gK σ i = some (.inl (ci, N, ks))) (hc : vwCl[ci]? = some (C, T, N)) (hM : Met l y (ws_ y bytes maxL ret) rm (va_Pc (.ref (ad i) :: As) (cU D dA ad n0 Hs σ)) Qc mc ms (cA ad)) (hw : GoodIn lw_all (va_wsSU own index y (ws_ y bytes maxL ret))) (n : Nat) (hd : y.name ≠ "<init>" ∧ (parseMethodDescriptor y.desc).map (fun d => d.parameters.length) = some n) (hr0 : rm.cells = mc ∧ rm.slots = ms) (hR : rm.frames + 1 ≤ R.frames ∧ 8 + (maxL + 11) + rm.locals ≤ R.locals) (hn : As.length = n) (hsz : ls.size = nL) (hst : st = As.reverse ++ .ref (ad i) :: rest) (hroom : (rest.map fun v => v.category).sum ≤ 8) (hf : cells + mc ≤ R.cells ∧ slots + ms ≤ R.slots) (hdg : decode cc pc = .ok (.invokespecial index, 3)) :
    va_Run p l e R s m args below meth c H locs cells slots mc ms (F0 m pc ls st) rest (Qc (Value.ref (ad i) :: As).toArray) (cA ad) := by
  subst hst
  exact va_runSU (hC.2.1.1.1 ci _ hc).2 hC.1 hM (va_cwSU n hC.1.2.2.2.2 hw rfl hr0.1 hr0.2 hd hR) ⟨cU.blind, x_recv hC hI hL hc, x_pre hC hI _⟩ rfl hn hsz rfl (lv_room hroom) hdg hf
theorem x_acmp_ne (hC : xC p m c cc nL s args own D dA ad n0 Hs) {a b : Nat} {off : Int} {tgt : Nat} (hab : a < CB ∨ b < CB) (hdg : decode cc pc = .ok (.if_acmp .ne off, 3)) (ht : (pc : Int) + off = (tgt : Int)) (kt : ¬ a = b → W p l e R s m args below meth c H locs cells slots Q (F0 m tgt ls rest)) (kf : a = b → W p l e R s m args below meth c H locs cells slots Q (F0 m (pc + 3) ls rest)) : W p l e R s m args below meth c H locs cells slots Q (F0 m pc ls (.ref (ad b) :: .ref (ad a) :: rest)) := by
  have hj : ad a = ad b → a = b := fun h => by
    rcases hab with g | g
    · exact hC.2.2.2.1 a b g h
    · exact (hC.2.2.2.1 b a g h.symm).symm
  exact lv_acmp_ne (rx := some (ad a)) (ry := some (ad b)) hC.1.1 hC.1.2.1 hdg ht (fun h => kt (fun e => h (by rw [e]))) (fun h => kf (hj (Option.some.inj h)))
theorem x_acmpw_ne (hC : xC p m c cc nL s args own D dA ad n0 Hs) {a b : Option Nat} {off : Int} {tgt : Nat} (hdg : decode cc pc = .ok (.if_acmp .ne off, 3)) (ht : (pc : Int) + off = (tgt : Int)) (kt : ¬ a = b → W p l e R s m args below meth c H locs cells slots Q (F0 m tgt ls rest)) (kf : a = b → W p l e R s m args below meth c H locs cells slots Q (F0 m (pc + 3) ls rest)) : W p l e R s m args below meth c H locs cells slots Q (F0 m pc ls (va_rf b :: va_rf a :: rest)) := lv_acmp_ne hC.1.1 hC.1.2.1 hdg ht kt kf
theorem x_inst (hC : xC p m c cc nL s args own D dA ad n0 Hs) (hI : xI D dA ad n0 Hs H0 σ H locs) {C : String} {T : u_T} {N ci i : Nat} {ks : Nat → Nat × Nat} (hL : gK σ i = some (.inl (ci, N, ks))) (hc : vwCl[ci]? = some (C, T, N)) (hq : Cond.classLink own index C ∈ lw_all) (hdg : decode cc pc = .ok (.instanceof index, 3)) (kk : W p l e R s m args below meth c H locs cells slots Q (F0 m (pc + 3) ls (.int 1 :: rest))) : W p l e R s m args below meth c H locs cells slots Q (F0 m pc ls (.ref (ad i) :: rest)) :=
  va_instS hC.1.1 hC.1.2.1 hC.1.2.2.2.1 (hC.1.2.2.2.2 _ hq) (hC.2.1.1.1 ci _ hc).2 (x_recv hC hI hL hc) hdg kk
theorem x_castA (hC : xC p m c cc nL s args own D dA ad n0 Hs) (hI : xI D dA ad n0 Hs H0 σ H locs) {i t n : Nat} {nm : String} (hL : gK σ i = some (.inr (t, n))) (hnm : s.vm.findClass nm = some (dA t)) (hq : Cond.classLink own index nm ∈ lw_all) (hdg : decode cc pc = .ok (.checkcast index, 3)) (kk : W p l e R s m args below meth c H locs cells slots Q (F0 m (pc + 3) ls (.ref (ad i) :: rest))) : W p l e R s m args below meth c H locs cells slots Q (F0 m pc ls (.ref (ad i) :: rest)) := by
  obtain ⟨cell, q1, q2, q3, q4, q5, q6⟩ := hI.1.1.wk hL
  intro T hT X
  obtain ⟨vm', X', st⟩ := X.checkcastYes hC.1.1 hC.1.2.2.2.1 (hC.1.2.2.2.2 _ hq) (by rw [hT]; exact q1) q4 hnm (by rw [q2]; exact va_asg _ _) (g := F0 m pc ls (.ref (ad i) :: rest)) rfl rfl (by rw [hC.1.2.1]; exact hdg)
  obtain ⟨t, a1, b1⟩ := kk (T.setVm vm') hT X'
  exact ⟨t, st t a1, b1⟩
theorem x_acmp_same (hC : xC p m c cc nL s args own D dA ad n0 Hs) {a : Nat} {off : Int} {tgt : Nat} (hdg : decode cc pc = .ok (.if_acmp .ne off, 3)) (ht : (pc : Int) + off = (tgt : Int)) (kf : W p l e R s m args below meth c H locs cells slots Q (F0 m (pc + 3) ls rest)) : W p l e R s m args below meth c H locs cells slots Q (F0 m pc ls (.ref a :: .ref a :: rest)) := lv_acmp_ne (rx := some a) (ry := some a) hC.1.1 hC.1.2.1 hdg ht (fun h => absurd rfl h) (fun _ => kf)
theorem x_ldcM (hC : xC p m c cc nL s args own D dA ad n0 Hs) (hq : Cond.classLink own index "[Ljava/lang/Object;" ∈ lw_all) (hdg : decode cc pc = .ok (.ldc index, 2)) (kk : W p l e R s m args below meth c H locs cells slots Q (F0 m (pc + 2) ls (.ref (ad 1049000) :: rest))) : W p l e R s m args below meth c H locs cells slots Q (F0 m pc ls rest) :=
  va_ldcM hC.1.1 hC.1.2.1 hC.1.2.2.2.1 (hC.1.2.2.2.2 _ hq) hC.2.1.2.2.2.2.2.2.1.2.1.1 hdg kk
theorem x_getC (hC : xC p m c cc nL s args own D dA ad n0 Hs) (hI : xI D dA ad n0 Hs H0 σ H locs) (hsz : ls.size = nL) {i n : Nat} (hL : gK σ i = some (.inr (5, n))) (hq : Cond.methodLink own index ⟨"java/lang/Object", "getClass", "()Ljava/lang/Class;"⟩ ∈ lw_all) (hsel : Cond.selects "[Ljava/lang/Object;" ⟨"java/lang/Object", "getClass", "()Ljava/lang/Class;"⟩ ⟨"java/lang/Object", "getClass", "()Ljava/lang/Class;"⟩ ∈ lw_all) (hinst : Cond.instanceMethod ⟨"java/lang/Object", "getClass", "()Ljava/lang/Class;"⟩ ∈ lw_all) (hnat : Cond.native ⟨"java/lang/Object", "getClass", "()Ljava/lang/Class;"⟩ ∈ lw_all) (hfr : 1 ≤ R.frames) (hlo : (rest.map fun v => v.category).sum + 14 ≤ R.locals) (hdg : decode cc pc = .ok (.invokevirtual index, 3)) (kk : W p l e R s m args below meth c H locs cells slots Q (F0 m (pc + 3) ls (.ref (ad 1049000) :: rest))) : W p l e R s m args below meth c H locs cells slots Q (F0 m pc ls (.ref (ad i) :: rest)) := by
  obtain ⟨cell, q1, q2, q3, q4, q5, q6⟩ := hI.1.1.wk hL
  exact va_getC hC.1.1 hC.1.2.1 (by rw [hC.1.2.2.1, hsz]) hC.1.2.2.2.1 (hC.1.2.2.2.2 _ hq) (va_Dc.use hC.2.1.2.2.2.2.2.2.1.2.1.2.1) (hC.1.2.2.2.2 _ hsel) (hC.1.2.2.2.2 _ hinst) (hC.1.2.2.2.2 _ hnat) hC.2.1.2.2.2.2.2.2.1.2.1.1 ⟨cell, q1, q4, by rw [q2]; exact va_nmO (hC.2.1.1.2 5 _ rfl).2 rfl⟩ hfr hlo hdg kk
/-- the name's row of a Thing, a Mender, a Trial -/
def isNm (σ : CS) (q : Nat) : Prop := gK σ q = some kO7 ∨ gK σ q = some kO8 ∨ gK σ q = some kO9
theorem xgNm (hC : xC p m c cc nL s args own D dA ad n0 Hs) (hI : xI D dA ad n0 Hs H0 σ H locs) {i : Nat} (hL : isNm σ i) (hq : Cond.fieldLink own index RX7 "name" "Ljava/lang/String;" ∈ lw_all) (hdg : decode cc pc = .ok (.getfield index, 3)) (kk : W p l e R s m args below meth c H locs cells slots Q (F0 m (pc + 3) ls (va_rf (rgR ad (gR σ i 0)) :: rest))) : W p l e R s m args below meth c H locs cells slots Q (F0 m pc ls (.ref (ad i) :: rest)) := by
  rcases hL with h | h | h
  · exact xg7_0 hC hI h hq (fun _ h => h) hdg kk
  · exact xg8_0 hC hI h hq (fun _ h => h) hdg kk
  · exact xg9_0 hC hI h hq (fun _ h => h) hdg kk
theorem xpNm (hC : xC p m c cc nL s args own D dA ad n0 Hs) (hI : xI D dA ad n0 Hs H0 σ H locs) (hN : meth.name = "<init>") (ho : RX7 = own) {i : Nat} (hic : i < CB) (hL : isNm σ i) {v : Nat} {P : CS → Prop} (hT : ∀ y, y = wR σ i 0 v → P y) (hq : Cond.fieldLink own index RX7 "name" "Ljava/lang/String;" ∈ lw_all) (hdg : decode cc pc = .ok (.putfield index, 3)) (kk : ∀ (σ1 : CS) (H1 : Heap) (locs1 : List Loc), P σ1 → xI D dA ad n0 Hs H0 σ1 H1 locs1 → W p l e R s m args below meth c H1 locs1 cells slots Q (F0 m (pc + 3) ls rest)) : W p l e R s m args below meth c H locs cells slots Q (F0 m pc ls (va_rf (rgR ad v) :: .ref (ad i) :: rest)) := by
  rcases hL with h | h | h
  · exact xpF7_0 hC hI hN ho hic h hT hq (fun _ h => h) hdg kk
  · exact xpF8_0 hC hI hN ho hic h hT hq (fun _ h => h) hdg kk
  · exact xpF9_0 hC hI hN ho hic h hT hq (fun _ h => h) hdg kk
theorem x_nn {z : Int32} (hz : ¬ z < 0) : z.toInt = (z.toNatClampNeg : Int) := by
  have hz0 : (0 : Int) ≤ z.toInt := by
    have := Int32.not_lt.mp hz
    simpa using Int32.le_iff_toInt_le.mp this
  show z.toInt = ((z.toInt.toNat : Nat) : Int)
  omega
/-- System.arraycopy between two byte arrays, or two arrays of objects -/
theorem x_copy (hC : xC p m c cc nL s args own D dA ad n0 Hs) (hI : xI D dA ad n0 Hs H0 σ H locs) (hsz : ls.size = nL) (hq : Cond.methodLink own index arraycopyName ∈ lw_all) (hnat : Cond.native arraycopyName ∈ lw_all) (hstat : Cond.static arraycopyName ∈ lw_all) (hini : Cond.initialized "java/lang/System" ∈ lw_all) {b a t nb na : Nat} (hb : b < CB) (ha : a < CB) (hLb : gK σ b = some (.inr (t, nb))) (hLa : gK σ a = some (.inr (t, na))) (ht : t = 1 ∨ t = 5) {sp dp n : Int32} {P : CS → Prop}
    (hT : (¬ sp < 0 ∧ ¬ dp < 0 ∧ ¬ n < 0) ∧ (sp.toNatClampNeg + n.toNatClampNeg ≤ nb ∧ dp.toNatClampNeg + n.toNatClampNeg ≤ na) ∧ (∀ i, i < n.toNatClampNeg → (t = 1 → fits .byte (.int (gI σ b (sp.toNatClampNeg + i))) = true) ∧ (t = 5 → gR σ b (sp.toNatClampNeg + i) = 0 ∨ ∃ q, gR σ b (sp.toNatClampNeg + i) = q + 1 ∧ isC "java/lang/Object" σ q)) ∧ ∀ y, y = wC σ b a sp.toNatClampNeg dp.toNatClampNeg n.toNatClampNeg → P y)
    (hframes : 1 ≤ R.frames) (hlocals : (rest.map fun v => v.category).sum + (nativeFrameWords "java/lang/System" "arraycopy" 5 + 11) ≤ R.locals) (hdg : decode cc pc = .ok (.invokestatic index, 3))
    (kk : ∀ (σ1 : CS) (H1 : Heap) (locs1 : List Loc), P σ1 → xI D dA ad n0 Hs H0 σ1 H1 locs1 → W p l e R s m args below meth c H1 locs1 cells slots Q (F0 m (pc + 3) ls rest)) : W p l e R s m args below meth c H locs cells slots Q (F0 m pc ls (.int n :: .int dp :: .ref (ad a) :: .int sp :: .ref (ad b) :: rest)) := by
  obtain ⟨⟨h1, h2, h3⟩, ⟨h4, h5⟩, hel, hP⟩ := hT
  have hts := hC.1.2.2.2.2
  have hcb : H[ad b]? = some (arrV (dA t) nb (fun j => rgE ad σ.2.2 b t j)) := ((hI.1.1 b _ hLb).1 hb).trans (by rw [rgA_cell])
  have hca : H[ad a]? = some (arrV (dA t) na (fun j => rgE ad σ.2.2 a t j)) := ((hI.1.1 a _ hLa).1 ha).trans (by rw [rgA_cell])
  have hty : ∃ ty, (rgTy dA)[t]? = some (dA t, ty) ∧ (t = 1 → ty = .byte) ∧ (t = 5 → ty = .object "java/lang/Object") := by
    rcases ht with rfl | rfl
    · exact ⟨_, rfl, fun _ => rfl, fun h => (by cases h)⟩
    · exact ⟨_, rfl, fun h => (by cases h), fun _ => rfl⟩
  obtain ⟨ty, hty, hty1, hty5⟩ := hty
  have hK := hC.2.1.1.2 t _ hty
  obtain ⟨-, k0, hk0, cm0, hkk0⟩ := hK.1 nb (fun j => rgE ad σ.2.2 b t j)
  have hcop : copied (arrV (dA t) nb (fun j => rgE ad σ.2.2 b t j)) (arrV (dA t) na (fun j => rgE ad σ.2.2 a t j)) sp dp n = arrV (dA t) na (fun j => rgE ad (wC σ b a sp.toNatClampNeg dp.toNatClampNeg n.toNatClampNeg).2.2 a t j) := by
    have := va_copied (fun z : Value => z) (dA t) (dA t) (n1 := na) (dp := dp.toNatClampNeg) (fun j => rgE ad σ.2.2 b t j) (fun j => rgE ad σ.2.2 a t j) h4
    refine Eq.trans this ?_
    congr 1
    funext j
    rcases ht with rfl | rfl <;> simp only [rgE, wC, va_cpy] <;> by_cases hj : dp.toNatClampNeg ≤ j ∧ j < dp.toNatClampNeg + n.toNatClampNeg <;> simp [hj]
  intro T hT X
  obtain ⟨vm', X', step⟩ := X.arraycopy hC.1.1 hC.1.2.2.2.1 (hts _ hq) (hts _ hnat) (hts _ hstat) (hts _ hini) (src := ad b) (dst := ad a) (cs := arrV (dA t) nb (fun j => rgE ad σ.2.2 b t j)) (cd := arrV (dA t) na (fun j => rgE ad σ.2.2 a t j)) (srcPos := sp) (destPos := dp) (n := n) (by rw [hT]; exact hcb) (by rw [hT]; exact hca) (fun _ h => by cases h) (fun _ h => by cases h) (fun h => by cases h) (fun h => by cases h) hk0 hk0 hkk0 hkk0 (by simp) h1 h2 h3
    (by rw [x_nn h1, x_nn h3, arrV_size]; omega) (by rw [x_nn h2, x_nn h3, arrV_size]; omega)
    (fun vm₁ hal i hi => by
      have e : (arrV (dA t) nb (fun j => rgE ad σ.2.2 b t j)).slots.getD (sp.toNatClampNeg + i) .null = rgE ad σ.2.2 b t (sp.toNatClampNeg + i) := by
        rw [Array.getD_eq_getD_getElem?, arrV_read _ _ (by omega)]
        rfl
      rw [e]
      have h := hel i hi
      rcases ht with rfl | rfl
      · cases hty1 rfl
        exact ⟨h.1 rfl, trivial⟩
      · cases hty5 rfl
        have e2 : rgE ad σ.2.2 b 5 (sp.toNatClampNeg + i) = va_rf (rgR ad (gR σ b (sp.toNatClampNeg + i))) := rfl
        rw [e2]
        rcases h.2 rfl with h0 | ⟨q, hq, ci, C, T', N, ks, g1, g2, g3⟩
        · rw [h0]; exact ⟨rfl, trivial⟩
        · rw [hq]
          obtain ⟨cellV, v1, v2, v3⟩ := x_recv hC hI g1 g2
          obtain ⟨kA, comp, r1, r2, r3, -⟩ := hK.2
          cases hk0.symm.trans r1
          cases hkk0.symm.trans r2
          obtain ⟨kC, hkC, -⟩ := Vm.findClass_spec v3
          obtain ⟨kE, hkE, -⟩ := Vm.findClass_spec r3
          obtain ⟨kC', hkC', -⟩ := hal.2.2 _ _ hkC
          obtain ⟨kE', hkE', -⟩ := hal.2.2 _ _ hkE
          refine ⟨rfl, cellV, (show T.heap[ad q]? = some cellV by rw [hT]; exact v1), (fun z h => by rw [h] at v2; cases v2), ⟨kC', hkC'⟩, ⟨kE', hkE'⟩, ?_⟩
          show vm₁.assignable _ _ = true
          rw [hal.assignable]
          rcases g3 with rfl | g3
          · cases r3.symm.trans v3
            exact va_asg _ _
          · obtain ⟨c9, t9, f1, f2, f3⟩ := Cond.castable_spec (hC.2.1.2.1 _ (lw_n g3 rfl))
            cases v3.symm.trans f1
            cases r3.symm.trans f2
            exact f3)
    (g := F0 m pc ls (.int n :: .int dp :: .ref (ad a) :: .int sp :: .ref (ad b) :: rest)) rfl (by rw [hC.1.2.2.1]; exact hsz) (rest := rest) rfl (by rw [hC.1.2.1]; exact hdg) hframes (by show 2 * 0 + _ + _ ≤ _; omega)
  rw [hcop] at X' step
  have hl : ad a < H.size := (Array.getElem?_eq_some_iff.mp hca).1
  have oq : ∀ (x : Cell) (q : Nat), q ≠ ad a → (H.setIfInBounds (ad a) x)[q]? = H[q]? := fun x q hq => by simp [Array.getElem?_setIfInBounds, Ne.symm hq]
  obtain ⟨t2, a1, b1⟩ := kk _ (H.setIfInBounds (ad a) _) _ (hP _ rfl) ⟨xV_w (τ' := (wC σ b a sp.toNatClampNeg dp.toNatClampNeg n.toNatClampNeg).2.2) hI.1 hC.2.2 ha hLa (by simp) (oq _) (by
      show (H.setIfInBounds (ad a) _)[ad a]? = some (vp_cell _ _)
      rw [rgA_cell]
      simp [Array.getElem?_setIfInBounds, hl]
      rfl) (fun j hj => ⟨by funext z; simp [wC, hj], rfl, by funext z; simp [wC, hj]⟩), ⟨by simp; exact hI.2.1, fun q g1 g2 => by
      rw [oq _ q (fun e => g2 ⟨a, ha, e.symm⟩)]
      exact hI.2.2.1 q g1 g2, fun q hq => by
      rcases List.mem_append.mp hq with h | h
      · exact hI.2.2.2 q h
      · obtain ⟨z, -, hz⟩ := List.mem_map.mp h
        rw [← hz]
        exact ⟨a, ha, rfl⟩⟩⟩ _ (by rw [← hT]; rfl) X'
  exact ⟨t2, step t2 a1, b1⟩
end CM
