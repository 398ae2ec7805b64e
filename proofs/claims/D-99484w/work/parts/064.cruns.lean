/-! CALLS of each kind, contracts' starts and ends, over the component's region. -/
section CX
variable {p : Program} {l : Launch} {e : Env} {R : Room} {s : State} {m : MethodId} {args : Array Value} {below : List Frame} {meth : Method} {c : Code} {H : Heap} {locs : List Loc} {cells slots : Nat} {Q : State → Prop}
variable {cc : ByteArray} {nL : Nat} {own : String} {D : va_G} {dA : Nat → ClassId} {ad : Nat → Nat} {n0 : Nat} {Hs H0 : Heap} {σ : CS} {pc : Nat} {ls : Array Slot} {rest : List Value}
variable {y : MethodName} {bytes : ByteArray} {maxL mc ms index : Nat} {ret : Option FieldType} {rm : Room} {Qc : Array Value → State → Outcome → State → Prop} {As st : List Value}
theorem x_runV (hC : xC p m c cc nL s args own D dA ad n0 Hs) (hI : xI D dA ad n0 Hs H0 σ H locs) {C : String} {T : u_T} {N ci i : Nat} {ks : Nat → Nat × Nat} (hL : gK σ i = some (.inl (ci, N, ks))) (hc : vwCl[ci]? = some (C, T, N)) (hM : Met l y (ws_ y bytes maxL ret) rm (va_Pc (.ref (ad i) :: As) (cU D dA ad n0 Hs σ)) Qc mc ms (cA ad)) (hw : GoodIn lw_all (wsV own index C y (ws_ y bytes maxL ret))) (n : Nat) (hd : y.cls = C ∧ y.cls ≠ "java/lang/invoke/MethodHandle" ∧ y.cls ≠ "java/lang/invoke/VarHandle" ∧ (parseMethodDescriptor y.desc).map (fun d => d.parameters.length) = some n) (hr0 : rm.cells = mc ∧ rm.slots = ms) (hR : rm.frames + 1 ≤ R.frames ∧ 8 + (maxL + 11) + rm.locals ≤ R.locals) (hn : As.length = n) (hsz : ls.size = nL) (hst : st = As.reverse ++ .ref (ad i) :: rest) (hroom : (rest.map fun v => v.category).sum ≤ 8) (hf : cells + mc ≤ R.cells ∧ slots + ms ≤ R.slots) (hdg : decode cc pc = .ok (.invokevirtual index, 3)) :
    va_Run p l e R s m args below meth c H locs cells slots mc ms (F0 m pc ls st) rest (Qc (Value.ref (ad i) :: As).toArray) (cA ad) := by
  subst hst
  exact va_runV hC.1 hM (cwV n hC.1.2.2.2.2 hw rfl hr0.1 hr0.2 hd hR) ⟨cU.blind, x_recv hC hI hL hc, x_pre hC hI _⟩ rfl hn hsz rfl (lv_room hroom) hdg hf
theorem x_runVN (hC : xC p m c cc nL s args own D dA ad n0 Hs) (hI : xI D dA ad n0 Hs H0 σ H locs) {C host : String} {T : u_T} {N ci i : Nat} {ks : Nat → Nat × Nat} (hL : gK σ i = some (.inl (ci, N, ks))) (hc : vwCl[ci]? = some (C, T, N)) (hM : Met l y (ws_ y bytes maxL ret) rm (va_Pc (.ref (ad i) :: As) (cU D dA ad n0 Hs σ)) Qc mc ms (cA ad)) (hq : Cond.methodLinkNest own index y host ∈ lw_tbl) (hi : Cond.instanceMethod y ∈ lw_all) (hs : Cond.selects C y y ∈ lw_all) (hini : Cond.initialized y.cls ∈ lw_all) (hcode : Cond.code y bytes maxL ret ∈ lw_all) (n : Nat) (hd : y.cls ≠ "java/lang/invoke/MethodHandle" ∧ y.cls ≠ "java/lang/invoke/VarHandle" ∧ (parseMethodDescriptor y.desc).map (fun d => d.parameters.length) = some n) (hr0 : rm.cells = mc ∧ rm.slots = ms) (hR : rm.frames + 1 ≤ R.frames ∧ 8 + (maxL + 11) + rm.locals ≤ R.locals) (hn : As.length = n) (hsz : ls.size = nL) (hst : st = As.reverse ++ .ref (ad i) :: rest) (hroom : (rest.map fun v => v.category).sum ≤ 8) (hf : cells + mc ≤ R.cells ∧ slots + ms ≤ R.slots) (hdg : decode cc pc = .ok (.invokevirtual index, 3)) :
    va_Run p l e R s m args below meth c H locs cells slots mc ms (F0 m pc ls st) rest (Qc (Value.ref (ad i) :: As).toArray) (cA ad) := by
  subst hst
  have hts := hC.1.2.2.2.2
  exact va_runVN hC.1 hM ⟨va_cnB n hts (lw_meth hcode) rfl hr0.1 hr0.2 (hC.2.1.2.1 _ (lw_n hq rfl)) (hts _ hini) hd hR, hts _ hi, hts _ hs⟩ ⟨cU.blind, x_recv hC hI hL hc, x_pre hC hI _⟩ rfl hn hsz rfl (lv_room hroom) hdg hf
theorem x_runS (hC : xC p m c cc nL s args own D dA ad n0 Hs) (hI : xI D dA ad n0 Hs H0 σ H locs) (hM : Met l y (ws_ y bytes maxL ret) rm (va_Pc As (cU D dA ad n0 Hs σ)) Qc mc ms (cA ad)) (hw : GoodIn lw_all (va_wsS own index y (ws_ y bytes maxL ret))) (n : Nat) (hd : y.cls ≠ "java/lang/invoke/MethodHandle" ∧ y.cls ≠ "java/lang/invoke/VarHandle" ∧ (parseMethodDescriptor y.desc).map (fun d => d.parameters.length) = some n) (hr0 : rm.cells = mc ∧ rm.slots = ms) (hR : rm.frames + 1 ≤ R.frames ∧ 8 + (maxL + 11) + rm.locals ≤ R.locals) (hn : As.length = n) (hsz : ls.size = nL) (hst : st = As.reverse ++ rest) (hroom : (rest.map fun v => v.category).sum ≤ 8) (hf : cells + mc ≤ R.cells ∧ slots + ms ≤ R.slots) (hdg : decode cc pc = .ok (.invokestatic index, 3)) :
    va_Run p l e R s m args below meth c H locs cells slots mc ms (F0 m pc ls st) rest (Qc As.toArray) (cA ad) := by
  subst hst
  exact va_runS hC.1 hM (va_cwS n hC.1.2.2.2.2 hw rfl hr0.1 hr0.2 hd hR) ⟨cU.blind, x_pre hC hI _⟩ rfl hn hsz rfl (lv_room hroom) hdg hf
theorem x_runSN (hC : xC p m c cc nL s args own D dA ad n0 Hs) (hI : xI D dA ad n0 Hs H0 σ H locs) {host : String} (hM : Met l y (ws_ y bytes maxL ret) rm (va_Pc As (cU D dA ad n0 Hs σ)) Qc mc ms (cA ad)) (hq : Cond.methodLinkNest own index y host ∈ lw_tbl) (hi : Cond.static y ∈ lw_all) (hini : Cond.initialized y.cls ∈ lw_all) (hcode : Cond.code y bytes maxL ret ∈ lw_all) (n : Nat) (hd : y.cls ≠ "java/lang/invoke/MethodHandle" ∧ y.cls ≠ "java/lang/invoke/VarHandle" ∧ (parseMethodDescriptor y.desc).map (fun d => d.parameters.length) = some n) (hr0 : rm.cells = mc ∧ rm.slots = ms) (hR : rm.frames + 1 ≤ R.frames ∧ 8 + (maxL + 11) + rm.locals ≤ R.locals) (hn : As.length = n) (hsz : ls.size = nL) (hst : st = As.reverse ++ rest) (hroom : (rest.map fun v => v.category).sum ≤ 8) (hf : cells + mc ≤ R.cells ∧ slots + ms ≤ R.slots) (hdg : decode cc pc = .ok (.invokestatic index, 3)) :
    va_Run p l e R s m args below meth c H locs cells slots mc ms (F0 m pc ls st) rest (Qc As.toArray) (cA ad) := by
  subst hst
  have hts := hC.1.2.2.2.2
  exact va_runSN hC.1 hM ⟨va_cnB n hts (lw_meth hcode) rfl hr0.1 hr0.2 (hC.2.1.2.1 _ (lw_n hq rfl)) (hts _ hini) hd hR, hts _ hi, trivial⟩ ⟨cU.blind, x_pre hC hI _⟩ rfl hn hsz rfl (lv_room hroom) hdg hf
theorem x_runI (hC : xC p m c cc nL s args own D dA ad n0 Hs) (hI : xI D dA ad n0 Hs H0 σ H locs) {i : Nat} (hM : Met l y (ws_ y bytes maxL none) rm (va_Pc (.ref (ad i) :: As) (cU D dA ad n0 Hs σ)) Qc mc ms (cA ad)) (hcode : Cond.code y bytes maxL none ∈ lw_all) (hini : Cond.initialized y.cls ∈ lw_all) (hq : Cond.methodLink own index y ∈ lw_all) (hi : Cond.instanceMethod y ∈ lw_all) (hy : y.name = "<init>") (n : Nat) (hd : y.cls ≠ "java/lang/invoke/MethodHandle" ∧ y.cls ≠ "java/lang/invoke/VarHandle" ∧ (parseMethodDescriptor y.desc).map (fun d => d.parameters.length) = some n) (hr0 : rm.cells = mc ∧ rm.slots = ms) (hR : rm.frames + 1 ≤ R.frames ∧ 8 + (maxL + 11) + rm.locals ≤ R.locals) (hn : As.length = n) (hsz : ls.size = nL) (hst : st = As.reverse ++ .ref (ad i) :: rest) (hroom : (rest.map fun v => v.category).sum ≤ 8) (hf : cells + mc ≤ R.cells ∧ slots + ms ≤ R.slots) (hdg : decode cc pc = .ok (.invokespecial index, 3)) :
    va_Run p l e R s m args below meth c H locs cells slots mc ms (F0 m pc ls st) rest (Qc (Value.ref (ad i) :: As).toArray) (cA ad) := by
  subst hst
  have hts := hC.1.2.2.2.2
  exact va_runI hC.1 hM (cwI n hts (lw_meth hcode) rfl hr0.1 hr0.2 (hts _ hini) (hts _ hq) (hts _ hi) hy hd hR) ⟨cU.blind, x_pre hC hI _⟩ rfl hn hsz rfl (lv_room hroom) hdg hf
theorem x_runIN (hC : xC p m c cc nL s args own D dA ad n0 Hs) (hI : xI D dA ad n0 Hs H0 σ H locs) {i : Nat} {host : String} (hM : Met l y (ws_ y bytes maxL none) rm (va_Pc (.ref (ad i) :: As) (cU D dA ad n0 Hs σ)) Qc mc ms (cA ad)) (hcode : Cond.code y bytes maxL none ∈ lw_all) (hini : Cond.initialized y.cls ∈ lw_all) (hq : Cond.methodLinkNest own index y host ∈ lw_tbl) (hi : Cond.instanceMethod y ∈ lw_all) (hy : y.name = "<init>") (n : Nat) (hd : y.cls ≠ "java/lang/invoke/MethodHandle" ∧ y.cls ≠ "java/lang/invoke/VarHandle" ∧ (parseMethodDescriptor y.desc).map (fun d => d.parameters.length) = some n) (hr0 : rm.cells = mc ∧ rm.slots = ms) (hR : rm.frames + 1 ≤ R.frames ∧ 8 + (maxL + 11) + rm.locals ≤ R.locals) (hn : As.length = n) (hsz : ls.size = nL) (hst : st = As.reverse ++ .ref (ad i) :: rest) (hroom : (rest.map fun v => v.category).sum ≤ 8) (hf : cells + mc ≤ R.cells ∧ slots + ms ≤ R.slots) (hdg : decode cc pc = .ok (.invokespecial index, 3)) :
    va_Run p l e R s m args below meth c H locs cells slots mc ms (F0 m pc ls st) rest (Qc (Value.ref (ad i) :: As).toArray) (cA ad) := by
  subst hst
  have hts := hC.1.2.2.2.2
  exact va_runIN hC.1 hM ⟨va_cnB n hts (lw_meth hcode) rfl hr0.1 hr0.2 (hC.2.1.2.1 _ (lw_n hq rfl)) (hts _ hini) hd hR, hy, hts _ hi⟩ ⟨cU.blind, x_pre hC hI _⟩ rfl hn hsz rfl (lv_room hroom) hdg hf
/-- through an interface: a list's method -/
theorem x_runF (hC : xC p m c cc nL s args own D dA ad n0 Hs) (hI : xI D dA ad n0 Hs H0 σ H locs) {C : String} {T : u_T} {N ci i count : Nat} {ks : Nat → Nat × Nat} {x : MethodName} (hL : gK σ i = some (.inl (ci, N, ks))) (hc : vwCl[ci]? = some (C, T, N)) (hM : Met l y (ws_ y bytes maxL ret) rm (va_Pc (.ref (ad i) :: As) (cU D dA ad n0 Hs σ)) Qc mc ms (cA ad)) (hw : GoodIn lw_all (va_wsF own index C x y (ws_ y bytes maxL ret))) (hF : va_Fw C x y s) (n : Nat) (hd : x.cls ≠ "java/lang/invoke/MethodHandle" ∧ x.cls ≠ "java/lang/invoke/VarHandle" ∧ (parseMethodDescriptor x.desc).map (fun d => d.parameters.length) = some n) (hr0 : rm.cells = mc ∧ rm.slots = ms) (hR : rm.frames + 1 ≤ R.frames ∧ 8 + (maxL + 11) + rm.locals ≤ R.locals) (hn : As.length = n) (hsz : ls.size = nL) (hst : st = As.reverse ++ .ref (ad i) :: rest) (hroom : (rest.map fun v => v.category).sum ≤ 8) (hf : cells + mc ≤ R.cells ∧ slots + ms ≤ R.slots) (hdg : decode cc pc = .ok (.invokeinterface index count, 5)) :
    va_Run5 p l e R s m args below meth c H locs cells slots mc ms (F0 m pc ls st) rest (Qc (Value.ref (ad i) :: As).toArray) (cA ad) := by
  subst hst
  exact va_runF (hC.2.1.1.1 ci _ hc).2 hC.1 hM (va_cwF n hC.1.2.2.2.2 hw rfl hr0.1 hr0.2 hF hd hR) ⟨cU.blind, x_recv hC hI hL hc, x_pre hC hI _⟩ rfl hn hsz rfl (lv_room hroom) hdg hf
/-- an abstract method, of a receiver of a known class -/
theorem x_runA (hC : xC p m c cc nL s args own D dA ad n0 Hs) (hI : xI D dA ad n0 Hs H0 σ H locs) {C owner : String} {T : u_T} {N ci i : Nat} {ks : Nat → Nat × Nat} {x : MethodName} (hL : gK σ i = some (.inl (ci, N, ks))) (hc : vwCl[ci]? = some (C, T, N)) (hM : Met l y (ws_ y bytes maxL ret) rm (va_Pc (.ref (ad i) :: As) (cU D dA ad n0 Hs σ)) Qc mc ms (cA ad)) (hw : GoodIn lw_all (va_wsU own index C owner x y (ws_ y bytes maxL ret))) (hz : Cond.declares ⟨owner, x.name, x.desc⟩ ∈ lw_tbl) (n : Nat) (hd : owner ≠ "java/lang/invoke/MethodHandle" ∧ owner ≠ "java/lang/invoke/VarHandle" ∧ (parseMethodDescriptor x.desc).map (fun d => d.parameters.length) = some n) (hr0 : rm.cells = mc ∧ rm.slots = ms) (hR : rm.frames + 1 ≤ R.frames ∧ 8 + (maxL + 11) + rm.locals ≤ R.locals) (hn : As.length = n) (hsz : ls.size = nL) (hst : st = As.reverse ++ .ref (ad i) :: rest) (hroom : (rest.map fun v => v.category).sum ≤ 8) (hf : cells + mc ≤ R.cells ∧ slots + ms ≤ R.slots) (hdg : decode cc pc = .ok (.invokevirtual index, 3)) :
    va_Run p l e R s m args below meth c H locs cells slots mc ms (F0 m pc ls st) rest (Qc (Value.ref (ad i) :: As).toArray) (cA ad) := by
  subst hst
  exact va_runU hC.1 hM (va_cwA n hC.1.2.2.2.2 hw rfl hr0.1 hr0.2 (hC.2.1.2.1 _ (lw_n hz rfl)) hd hR) ⟨cU.blind, x_recv hC hI hL hc, x_pre hC hI _⟩ rfl hn hsz rfl (lv_room hroom) hdg hf
/-! null, casts, constants -/
theorem x_ifnull (hx : p.tables.exec = Jvm.exec) (hb : c.code = cc) {r : Nat} {off : Int} {tgt : Nat} (hdg : decode cc pc = .ok (.ifnull off, 3)) (ht : (pc : Int) + off = (tgt : Int)) (kt : r = 0 → W p l e R s m args below meth c H locs cells slots Q (F0 m tgt ls rest)) (kf : ¬ r = 0 → W p l e R s m args below meth c H locs cells slots Q (F0 m (pc + 3) ls rest)) : W p l e R s m args below meth c H locs cells slots Q (F0 m pc ls (va_rf (rgR ad r) :: rest)) := by
  cases r with
  | zero => exact lv_ifnullN hx hb hdg ht (kt rfl)
  | succ q => exact lv_ifnull hx hb hdg (kf (Nat.succ_ne_zero q))
theorem x_ifnonnull (hx : p.tables.exec = Jvm.exec) (hb : c.code = cc) {r : Nat} {off : Int} {tgt : Nat} (hdg : decode cc pc = .ok (.ifnonnull off, 3)) (ht : (pc : Int) + off = (tgt : Int)) (kt : ¬ r = 0 → W p l e R s m args below meth c H locs cells slots Q (F0 m tgt ls rest)) (kf : r = 0 → W p l e R s m args below meth c H locs cells slots Q (F0 m (pc + 3) ls rest)) : W p l e R s m args below meth c H locs cells slots Q (F0 m pc ls (va_rf (rgR ad r) :: rest)) := by
  cases r with
  | zero => exact lv_ifnonnullN hx hb hdg (kf rfl)
  | succ q => exact lv_ifnonnull hx hb hdg ht (kt (Nat.succ_ne_zero q))
/-- a cell of a class that may be cast to nm -/
def isC (nm : String) (σ : CS) (q : Nat) : Prop := ∃ (ci : Nat) (C : String) (T : u_T) (N : Nat) (ks : Nat → Nat × Nat), gK σ q = some (.inl (ci, N, ks)) ∧ vwCl[ci]? = some (C, T, N) ∧ (C = nm ∨ Cond.castable C nm ∈ lw_tbl)
theorem x_cast0 (hC : xC p m c cc nL s args own D dA ad n0 Hs) (hI : xI D dA ad n0 Hs H0 σ H locs) {nm : String} {q : Nat} (hL : isC nm σ q) (hq : Cond.classLink own index nm ∈ lw_all) (hdg : decode cc pc = .ok (.checkcast index, 3)) (kk : W p l e R s m args below meth c H locs cells slots Q (F0 m (pc + 3) ls (.ref (ad q) :: rest))) : W p l e R s m args below meth c H locs cells slots Q (F0 m pc ls (.ref (ad q) :: rest)) := by
  obtain ⟨ci, C, T, N, ks, h1, h2, h3⟩ := hL
  have hr := x_recv hC hI h1 h2
  rcases h3 with rfl | h3
  · exact va_castS hC.1.1 hC.1.2.1 hC.1.2.2.2.1 (hC.1.2.2.2.2 _ hq) (hC.2.1.1.1 ci _ h2).2 hr hdg kk
  · exact va_castY hC.1.1 hC.1.2.1 hC.1.2.2.2.1 (hC.1.2.2.2.2 _ hq) (hC.2.1.2.1 _ (lw_n h3 rfl)) hr hdg kk
theorem x_ldcS (hC : xC p m c cc nL s args own D dA ad n0 Hs) {tx : String} {q : Nat} (hm : (own, index, tx, q) ∈ strTab) (hdg : decode cc pc = .ok (.ldc index, 2)) (kk : W p l e R s m args below meth c H locs cells slots Q (F0 m (pc + 2) ls (.ref (ad q) :: rest))) : W p l e R s m args below meth c H locs cells slots Q (F0 m pc ls rest) :=
  va_ldcS hC.1.1 hC.1.2.1 hC.1.2.2.2.1 (hC.2.1.2.2.2.2.1 _ hm) hdg kk
theorem va_Zto {C n d : String} {v : Value} {A B : Nat → Prop} {U : State} {H H1 : Heap} (h : va_Z C n d v A U H) (hq : ∀ a : Nat, a < H.size → ¬ A a → H1[a]? = H[a]? ∧ ¬ B a) : va_Z C n d v B U H1 := by
  obtain ⟨cf, kf, fi, f, a, cell, h1, h2, h3, h4, h5, h6, h7, h8⟩ := h
  obtain ⟨g1, g2⟩ := hq a (Array.getElem?_eq_some_iff.mp h5).1 h8
  exact ⟨cf, kf, fi, f, a, cell, h1, h2, h3, h4, g1.trans h5, h6, h7, g2⟩
theorem va_getsH (hexec : p.tables.exec = Jvm.exec) (hb : c.code = cc) {C n d ref : String} {v : Value} {A : Nat → Prop} (hZ : va_Z C n d v A s H) (hown : s.vm.findClass own = some m.cls) (hlink : (Cond.fieldLink own index ref n d).before args s = true) (hsame : ref = C) (hdg : decode cc pc = .ok (.getstatic index, 3))
    (kk : W p l e R s m args below meth c H locs cells slots Q (F0 m (pc + 3) ls (v :: rest))) : W p l e R s m args below meth c H locs cells slots Q (F0 m pc ls rest) := by
  obtain ⟨cf, kf, fi, f, a, cell, h1, h2, h3, h4, h5, h6, h7, h8⟩ := hZ
  subst hsame
  exact W.gets hexec hb hown hlink h1 h2 h3 h4 h5 (fun e => by rw [e] at h6; cases h6) h7 rfl hdg kk
theorem va_getsHN (hexec : p.tables.exec = Jvm.exec) (hb : c.code = cc) {C n d ref host : String} {v : Value} {A : Nat → Prop} (hZ : va_Z C n d v A s H) (hown : s.vm.findClass own = some m.cls) (hlink : (Cond.fieldLinkNest own index ref n d host).before args s = true) (hsame : ref = C) (hdg : decode cc pc = .ok (.getstatic index, 3))
    (kk : W p l e R s m args below meth c H locs cells slots Q (F0 m (pc + 3) ls (v :: rest))) : W p l e R s m args below meth c H locs cells slots Q (F0 m pc ls rest) := by
  obtain ⟨cf, kf, fi, f, a, cell, h1, h2, h3, h4, h5, h6, h7, h8⟩ := hZ
  subst hsame
  exact va_WgetsN hexec hb hown hlink h1 h2 h3 h4 h5 (fun e => by rw [e] at h6; cases h6) h7 rfl hdg kk
theorem x_Z (hC : xC p m c cc nL s args own D dA ad n0 Hs) (hI : xI D dA ad n0 Hs H0 σ H locs) {C n d : String} {v : Option Nat} (hz : (C, n, d, v) ∈ zTab) : va_Z C n d (zVal ad v) (fun q => Hs.size ≤ q) s H := va_Zto (hC.2.1.2.2.2.2.2.1 _ hz) (fun a h1 h2 => ⟨hI.1.2.2.2.2.2.2.2 a h1, h2⟩)
theorem x_gets (hC : xC p m c cc nL s args own D dA ad n0 Hs) (hI : xI D dA ad n0 Hs H0 σ H locs) {C n d : String} {v : Option Nat} (hz : (C, n, d, v) ∈ zTab) (hq : Cond.fieldLink own index C n d ∈ lw_all) {w : Value} (hw : zVal ad v = w) (hdg : decode cc pc = .ok (.getstatic index, 3))
    (kk : W p l e R s m args below meth c H locs cells slots Q (F0 m (pc + 3) ls (w :: rest))) : W p l e R s m args below meth c H locs cells slots Q (F0 m pc ls rest) := by
  subst hw
  exact va_getsH hC.1.1 hC.1.2.1 (x_Z hC hI hz) hC.1.2.2.2.1 (hC.1.2.2.2.2 _ hq) rfl hdg kk
theorem x_getsN (hC : xC p m c cc nL s args own D dA ad n0 Hs) (hI : xI D dA ad n0 Hs H0 σ H locs) {C n d host : String} {v : Option Nat} (hz : (C, n, d, v) ∈ zTab) (hq : Cond.fieldLinkNest own index C n d host ∈ lw_tbl) {w : Value} (hw : zVal ad v = w) (hdg : decode cc pc = .ok (.getstatic index, 3))
    (kk : W p l e R s m args below meth c H locs cells slots Q (F0 m (pc + 3) ls (w :: rest))) : W p l e R s m args below meth c H locs cells slots Q (F0 m pc ls rest) := by
  subst hw
  exact va_getsHN hC.1.1 hC.1.2.1 (x_Z hC hI hz) hC.1.2.2.2.1 (va_Nw.use rfl (hC.2.1.2.1 _ (lw_n hq rfl))) rfl hdg kk
end CX
