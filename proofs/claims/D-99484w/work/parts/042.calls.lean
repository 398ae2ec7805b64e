/-! CONTRACTS OVER A REGION of a fixed layout (no new cells): start, end, calls. -/
def rgU (D : va_G) (cl : List vw_C) (dA : Nat → ClassId) (L : rgL) (ad : Nat → Nat) (sz : Nat) (τ : Sto) (U : State) : Prop := U.heap.size = sz ∧ rgP D dA L ad τ U.heap ∧ va_K D cl (rgTy dA) U
theorem rgU.blind {D : va_G} {cl : List vw_C} {dA : Nat → ClassId} {L : rgL} {ad : Nat → Nat} {sz : Nat} {τ : Sto} {av : List Value} : FrameBlind (va_Pc av (rgU D cl dA L ad sz τ)) := by
  intro a U g mk h
  obtain ⟨h0, h1, h2, h3⟩ := h
  exact ⟨h0, h1, h2, va_K.moved (u := U) (U := U.calling g mk a) (Vm.Alike.refl U.vm) h3⟩
theorem rg_open {l : Launch} {y : MethodName} {cc : ByteArray} {n : Nat} {ret : Option FieldType} {rm : Room} {av : List Value} {PU : State → Prop} {Qc : Array Value → State → Outcome → State → Prop} {mc ms : Nat} {free : Addr → Prop} {own : String} (hy : plainName y.cls = true) (ho : y.cls = own) (hn : (lg_sl av).length ≤ n)
    (body : ∀ (p : Program) (e : Env) (s : State) (m : MethodId) (below : List Frame) (meth : Method) (c : Code), CallFix p m c cc n s av.toArray lw_all own → meth.sig.returnType = ret → meth.locks = false → meth.name = y.name → PU s → ∀ ls : Array Slot, lv_has ls n (lv_args 0 av) →
      W p l e rm s m av.toArray below meth c s.heap [] 0 0 (MQ below Qc av.toArray s mc ms free) (F0 m 0 ls [])) : Met l y (ws_ y cc n ret) rm (va_Pc av PU) Qc mc ms free := by
  refine Met.ofW (cc := cc) (maxL := n) (ret := ret) hy rfl ?_
  intro p e s m args below meth c s₁ B hml hv
  obtain ⟨rfl, hU⟩ := hv
  have hts := atoms_spec (ws := ws_ y cc n ret) B.pre
  have hts : ∀ w ∈ lw_all, w.before _ s = true := fun w h => hts w (List.mem_cons_of_mem _ h)
  have hown : s.vm.findClass own = some m.cls := by rw [← ho]; exact findClass_of_methodNamed B.named
  rw [lg_entry_eq]
  exact body p e s m below meth c ⟨B.exec, B.bytes, hml, hown, hts⟩ B.returns B.notSynchronized (name_of_methodNamed B.named B.method).1 hU _ (lv_entry av hn)
section RGC
variable {p : Program} {l : Launch} {e : Env} {R : Room} {s : State} {m : MethodId} {args : Array Value} {below : List Frame} {meth : Method} {c : Code} {H : Heap} {locs : List Loc} {cells slots : Nat} {Q : State → Prop}
variable {cc : ByteArray} {nL : Nat} {own : String} {D : va_G} {cl : List vw_C} {dA : Nat → ClassId} {L : rgL} {ad : Nat → Nat} {τ : Sto} {A : Nat → Prop} {H0 : Heap} {pc sz : Nat} {ls : Array Slot} {rest : List Value}
theorem rg_recv (hK : va_K D cl (rgTy dA) s) (hP : rgP D dA L ad τ H) {C : String} {T : u_T} {N ci id : Nat} {ks : Nat → Nat × Nat} (hL : L id = some (.inl (ci, N, ks))) (hc : cl[ci]? = some (C, T, N)) : ∃ cell : Cell, H[ad id]? = some cell ∧ cell.vm.isStatics = false ∧ s.vm.findClass C = some cell.cls := by
  obtain ⟨cell, g1, g2, g3, -⟩ := hP id _ hL
  exact ⟨cell, g1, by rw [g3]; rfl, by rw [g2]; exact (hK.1 ci _ hc).2.1⟩
theorem rg_pre (hK : va_K D cl (rgTy dA) s) (hP : rgP D dA L ad τ H) (hz : H.size = sz) (av : List Value) : ∀ U : State, U.heap = H → s.WarmedH U.vm → va_Pc av (rgU D cl dA L ad sz τ) av.toArray U := fun U hU hW => ⟨rfl, by rw [hU]; exact hz, by rw [hU]; exact hP, va_K.moved hW.alike hK⟩
theorem rg_iret {post : Int32 → Sto → Prop} (S : CallFix p m c cc nL s args lw_all own) (hr : meth.sig.returnType = some .int) (hlocks : meth.locks = false) (hK : va_K D cl (rgTy dA) s) (hP : rgP D dA L ad τ H) (hz : H.size = sz) (hS : va_S A s.heap H locs) {v : Int32} (hk : post v τ) (hdg : decode cc pc = .ok (.ireturn, 1)) : W p l e R s m args below meth c H locs cells slots (MQ below (va_Qi post (rgU D cl dA L ad sz) A) args s cells slots A) (F0 m pc ls [.int v]) :=
  W.iret S.1 S.2.1 hr (fun t ht hW => ⟨⟨v, τ, rfl, hk, by rw [ht]; exact hz, by rw [ht]; exact hP, va_K.moved hW.alike hK⟩, hS.F ht⟩) hS.2.2 hdg hlocks
theorem rg_zret {post : Int32 → Sto → Prop} (S : CallFix p m c cc nL s args lw_all own) (hr : meth.sig.returnType = some .boolean) (hlocks : meth.locks = false) (hK : va_K D cl (rgTy dA) s) (hP : rgP D dA L ad τ H) (hz : H.size = sz) (hS : va_S A s.heap H locs) {v : Int32} (hn : v = 0 ∨ v = 1) (hk : post v τ) (hdg : decode cc pc = .ok (.ireturn, 1)) : W p l e R s m args below meth c H locs cells slots (MQ below (va_Qi post (rgU D cl dA L ad sz) A) args s cells slots A) (F0 m pc ls [.int v]) :=
  W.zret S.1 S.2.1 hr (by rcases hn with h | h <;> subst h <;> rfl) (fun t ht hW => ⟨⟨v, τ, rfl, hk, by rw [ht]; exact hz, by rw [ht]; exact hP, va_K.moved hW.alike hK⟩, hS.F ht⟩) hS.2.2 hdg hlocks
theorem rg_lret {post : Int64 → Sto → Prop} (S : CallFix p m c cc nL s args lw_all own) (hr : meth.sig.returnType = some .long) (hlocks : meth.locks = false) (hK : va_K D cl (rgTy dA) s) (hP : rgP D dA L ad τ H) (hz : H.size = sz) (hS : va_S A s.heap H locs) {v : Int64} (hk : post v τ) (hdg : decode cc pc = .ok (.lreturn, 1)) : W p l e R s m args below meth c H locs cells slots (MQ below (va_Ql post (rgU D cl dA L ad sz) A) args s cells slots A) (F0 m pc ls [.long v]) :=
  W.lret S.1 S.2.1 hr (fun t ht hW => ⟨⟨v, τ, rfl, hk, by rw [ht]; exact hz, by rw [ht]; exact hP, va_K.moved hW.alike hK⟩, hS.F ht⟩) hS.2.2 hdg hlocks
theorem rg_vret {post : Sto → Prop} (S : CallFix p m c cc nL s args lw_all own) (hr : meth.sig.returnType = none) (hlocks : meth.locks = false) (hK : va_K D cl (rgTy dA) s) (hP : rgP D dA L ad τ H) (hz : H.size = sz) (hS : va_S A s.heap H locs) (hk : post τ) (hdg : decode cc pc = .ok (.return_, 1)) : W p l e R s m args below meth c H locs cells slots (MQ below (va_Qv post (rgU D cl dA L ad sz) A) args s cells slots A) (F0 m pc ls []) :=
  W.vret S.1 S.2.1 hr (fun t ht hW => ⟨⟨τ, rfl, hk, by rw [ht]; exact hz, by rw [ht]; exact hP, va_K.moved hW.alike hK⟩, hS.F ht⟩) hS.2.2 hdg hlocks
theorem rg_runV (S : CallFix p m c cc nL s args lw_all own) (hK : va_K D cl (rgTy dA) s) (hP : rgP D dA L ad τ H) (hz : H.size = sz) {C : String} {T : u_T} {N ci id index maxL : Nat} {ks : Nat → Nat × Nat} (hL : L id = some (.inl (ci, N, ks))) (hc : cl[ci]? = some (C, T, N)) {y : MethodName} {bytes : ByteArray} {ret : Option FieldType} {rm : Room} {Qc : Array Value → State → Outcome → State → Prop} {As st : List Value}
    (hM : Met l y (ws_ y bytes maxL ret) rm (va_Pc (.ref (ad id) :: As) (rgU D cl dA L ad sz τ)) Qc 0 0 A) (hw : GoodIn lw_all (wsV own index C y (ws_ y bytes maxL ret))) (n : Nat) (hd : y.cls = C ∧ y.cls ≠ "java/lang/invoke/MethodHandle" ∧ y.cls ≠ "java/lang/invoke/VarHandle" ∧ (parseMethodDescriptor y.desc).map (fun d => d.parameters.length) = some n) (hr0 : rm.cells = 0 ∧ rm.slots = 0) (hR : rm.frames + 1 ≤ R.frames ∧ 8 + (maxL + 11) + rm.locals ≤ R.locals) (hn : As.length = n) (hsz : ls.size = nL) (hst : st = As.reverse ++ .ref (ad id) :: rest) (hroom : (rest.map fun v => v.category).sum ≤ 8) (hf : cells ≤ R.cells ∧ slots ≤ R.slots) (hdg : decode cc pc = .ok (.invokevirtual index, 3)) :
    va_Run p l e R s m args below meth c H locs cells slots 0 0 (F0 m pc ls st) rest (Qc (Value.ref (ad id) :: As).toArray) A := by
  subst hst
  exact va_runV S hM (cwV n S.2.2.2.2 hw rfl hr0.1 hr0.2 hd hR) ⟨rgU.blind, rg_recv hK hP hL hc, rg_pre hK hP hz _⟩ rfl hn hsz rfl (lv_room hroom) hdg hf
theorem rg_runS (S : CallFix p m c cc nL s args lw_all own) (hK : va_K D cl (rgTy dA) s) (hP : rgP D dA L ad τ H) (hz : H.size = sz) {index maxL : Nat} {y : MethodName} {bytes : ByteArray} {ret : Option FieldType} {rm : Room} {Qc : Array Value → State → Outcome → State → Prop} {As st : List Value}
    (hM : Met l y (ws_ y bytes maxL ret) rm (va_Pc As (rgU D cl dA L ad sz τ)) Qc 0 0 A) (hw : GoodIn lw_all (va_wsS own index y (ws_ y bytes maxL ret))) (n : Nat) (hd : y.cls ≠ "java/lang/invoke/MethodHandle" ∧ y.cls ≠ "java/lang/invoke/VarHandle" ∧ (parseMethodDescriptor y.desc).map (fun d => d.parameters.length) = some n) (hr0 : rm.cells = 0 ∧ rm.slots = 0) (hR : rm.frames + 1 ≤ R.frames ∧ 8 + (maxL + 11) + rm.locals ≤ R.locals) (hn : As.length = n) (hsz : ls.size = nL) (hst : st = As.reverse ++ rest) (hroom : (rest.map fun v => v.category).sum ≤ 8) (hf : cells ≤ R.cells ∧ slots ≤ R.slots) (hdg : decode cc pc = .ok (.invokestatic index, 3)) :
    va_Run p l e R s m args below meth c H locs cells slots 0 0 (F0 m pc ls st) rest (Qc As.toArray) A := by
  subst hst
  exact va_runS S hM (va_cwS n S.2.2.2.2 hw rfl hr0.1 hr0.2 hd hR) ⟨rgU.blind, rg_pre hK hP hz _⟩ rfl hn hsz rfl (lv_room hroom) hdg hf
theorem rg_calli {post : Int32 → Sto → Prop} {a : Array Value} {st : List Value} (hr : va_Run p l e R s m args below meth c H locs cells slots 0 0 (F0 m pc ls st) rest (va_Qi post (rgU D cl dA L ad sz) A a) A) (hS : va_S A H0 H locs)
    (kk : ∀ (r : Int32) (τ1 : Sto) (H1 : Heap) (locs1 : List Loc), post r τ1 → H1.size = sz → rgP D dA L ad τ1 H1 → va_S A H0 H1 locs1 → W p l e R s m args below meth c H1 locs1 cells slots Q (F0 m (pc + 3) ls (.int r :: rest))) : W p l e R s m args below meth c H locs cells slots Q (F0 m pc ls st) := by
  refine va_calli hr hS (fun _ _ h => h) (fun _ h => h) ?_
  intro r u t H1 locs1 ht _ hp hB _ _ hS1
  obtain ⟨b1, b2, -⟩ := hB
  rw [ht] at b1 b2
  exact kk r u H1 locs1 hp b1 b2 hS1
theorem rg_calll {post : Int64 → Sto → Prop} {a : Array Value} {st : List Value} (hr : va_Run p l e R s m args below meth c H locs cells slots 0 0 (F0 m pc ls st) rest (va_Ql post (rgU D cl dA L ad sz) A a) A) (hS : va_S A H0 H locs)
    (kk : ∀ (r : Int64) (τ1 : Sto) (H1 : Heap) (locs1 : List Loc), post r τ1 → H1.size = sz → rgP D dA L ad τ1 H1 → va_S A H0 H1 locs1 → W p l e R s m args below meth c H1 locs1 cells slots Q (F0 m (pc + 3) ls (.long r :: rest))) : W p l e R s m args below meth c H locs cells slots Q (F0 m pc ls st) := by
  refine va_calll hr hS (fun _ _ h => h) (fun _ h => h) ?_
  intro r u t H1 locs1 ht _ hp hB _ _ hS1
  obtain ⟨b1, b2, -⟩ := hB
  rw [ht] at b1 b2
  exact kk r u H1 locs1 hp b1 b2 hS1
theorem rg_callv {post : Sto → Prop} {a : Array Value} {st : List Value} (hr : va_Run p l e R s m args below meth c H locs cells slots 0 0 (F0 m pc ls st) rest (va_Qv post (rgU D cl dA L ad sz) A a) A) (hS : va_S A H0 H locs)
    (kk : ∀ (τ1 : Sto) (H1 : Heap) (locs1 : List Loc), post τ1 → H1.size = sz → rgP D dA L ad τ1 H1 → va_S A H0 H1 locs1 → W p l e R s m args below meth c H1 locs1 cells slots Q (F0 m (pc + 3) ls rest)) : W p l e R s m args below meth c H locs cells slots Q (F0 m pc ls st) := by
  refine va_callv hr hS (fun _ _ h => h) (fun _ h => h) ?_
  intro u t H1 locs1 ht _ hp hB _ _ hS1
  obtain ⟨b1, b2, -⟩ := hB
  rw [ht] at b1 b2
  exact kk u H1 locs1 hp b1 b2 hS1
end RGC
