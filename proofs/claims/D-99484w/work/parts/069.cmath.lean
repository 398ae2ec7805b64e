/-! methods of java.lang.Math that no entry of the machine runs -/
theorem met_ofWF {l : Launch} {y : MethodName} {ws ws' : List Cond} {rm : Room} {Pc : Array Value → State → Prop} {Qc : Array Value → State → Outcome → State → Prop} {mc ms : Nat} {free : Addr → Prop} {cc : ByteArray} {maxL : Nat} {ret : Option FieldType} (hy : plainFor y = true) (hw : ws = Cond.code y cc maxL ret :: ws')
    (body : ∀ p e s m args below meth c s₁, BodyLoose p l y (headSpec ws rm) cc maxL ret e s m args below meth c s₁ → c.maxLocals = maxL → Pc args s → W p l e (headSpec ws rm).room s m args below meth c s.heap [] 0 0 (MQ below Qc args s mc ms free) (entryFrame m args maxL)) : Met l y ws rm Pc Qc mc ms free := by
  refine MetFree.of_bodySF (code := cc) (maxLocals := maxL) (ret := ret) hy ?_ ?_
  · intro args s m h hn
    obtain ⟨meth, c, h1, h2, h3, h4, h5, h6, -, -⟩ := Cond.code_spec hn (atoms_spec (ws := ws) h _ (by rw [hw]; exact List.mem_cons_self))
    exact ⟨meth, c, h1, h2, h3, h4, h5, h6⟩
  · intro p e s m args below meth c s₁ B hml hP _
    have hh0 : s₁.heap = s.heap := by rw [B.state]; rfl
    obtain ⟨t, a1, o, b1, b2, b3⟩ := body p e s m args below meth c s₁ B hml hP s₁ hh0 (Stand.of_body B)
    exact ⟨t, o, a1, b1, b2, ⟨b3.1, b3.2⟩⟩
theorem rg_openF {l : Launch} {y : MethodName} {cc : ByteArray} {n : Nat} {ret : Option FieldType} {rm : Room} {av : List Value} {PU : State → Prop} {Qc : Array Value → State → Outcome → State → Prop} {mc ms : Nat} {free : Addr → Prop} {own : String} (hy : plainFor y = true) (ho : y.cls = own) (hn : (lg_sl av).length ≤ n)
    (body : ∀ (p : Program) (e : Env) (s : State) (m : MethodId) (below : List Frame) (meth : Method) (c : Code), CallFix p m c cc n s av.toArray lw_all own → meth.sig.returnType = ret → meth.locks = false → meth.name = y.name → PU s → ∀ ls : Array Slot, lv_has ls n (lv_args 0 av) →
      W p l e rm s m av.toArray below meth c s.heap [] 0 0 (MQ below Qc av.toArray s mc ms free) (F0 m 0 ls [])) : Met l y (ws_ y cc n ret) rm (va_Pc av PU) Qc mc ms free := by
  refine met_ofWF (cc := cc) (maxL := n) (ret := ret) hy rfl ?_
  intro p e s m args below meth c s₁ B hml hv
  obtain ⟨rfl, hU⟩ := hv
  have hts := atoms_spec (ws := ws_ y cc n ret) B.pre
  have hts : ∀ w ∈ lw_all, w.before _ s = true := fun w h => hts w (List.mem_cons_of_mem _ h)
  have hown : s.vm.findClass own = some m.cls := by rw [← ho]; exact findClass_of_methodNamed B.named
  rw [lg_entry_eq]
  exact body p e s m below meth c ⟨B.exec, B.bytes, hml, hown, hts⟩ B.returns B.notSynchronized (name_of_methodNamed B.named B.method).1 hU _ (lv_entry av hn)
theorem xm_iF {l : Launch} {y : MethodName} {cc : ByteArray} {n : Nat} {rm : Room} {av : List Value} {D : va_G} {dA : Nat → ClassId} {ad : Nat → Nat} {n0 : Nat} {Hs : Heap} {σ : CS} {mc ms : Nat} {own : String} {K : Int32 → CS → Prop} (hA : cAd ad n0 Hs.size) (hy : plainFor y = true) (ho : y.cls = own) (hn : (lg_sl av).length ≤ n)
    (body : ∀ (p : Program) (e : Env) (s : State) (m : MethodId) (args : Array Value) (below : List Frame) (meth : Method) (c : Code) (Q : State → Prop), xC p m c cc n s args own D dA ad n0 Hs → meth.name = y.name → (∀ (v : Int32) (σ : CS) (H : Heap) (locs : List Loc) (ls : Array Slot) (pc cells slots : Nat), K v σ → xI D dA ad n0 Hs s.heap σ H locs → cells ≤ mc ∧ slots ≤ ms → decode cc pc = .ok (.ireturn, 1) → W p l e rm s m args below meth c H locs cells slots Q (F0 m pc ls [.int v])) → xI D dA ad n0 Hs s.heap σ s.heap [] → ∀ ls : Array Slot, lv_has ls n (lv_args 0 av) → W p l e rm s m args below meth c s.heap [] 0 0 Q (F0 m 0 ls [])) :
    Met l y (ws_ y cc n (some .int)) rm (va_Pc av (cU D dA ad n0 Hs σ)) (xQ rvI K (cU D dA ad n0 Hs) (cA ad)) mc ms (cA ad) := by
  refine rg_openF hy ho hn ?_
  intro p e s m below meth c S hr hlocks hnm hU ls hl
  exact body p e s m _ below meth c _ ⟨S, hU.2, hA⟩ hnm (fun v σ H locs ls pc cells slots hk hI hcs hdg => W.widen hcs.1 hcs.2 (W.iret S.1 S.2.1 hr (fun t ht hW => ⟨⟨v, σ, rfl, hk, by rw [ht]; exact hI.1, hU.2.warm hW⟩, hI.2.F ht⟩) hI.2.2.2 hdg hlocks)) ⟨hU.1, va_S.rf⟩ ls hl
theorem xm_lF {l : Launch} {y : MethodName} {cc : ByteArray} {n : Nat} {rm : Room} {av : List Value} {D : va_G} {dA : Nat → ClassId} {ad : Nat → Nat} {n0 : Nat} {Hs : Heap} {σ : CS} {mc ms : Nat} {own : String} {K : Int64 → CS → Prop} (hA : cAd ad n0 Hs.size) (hy : plainFor y = true) (ho : y.cls = own) (hn : (lg_sl av).length ≤ n)
    (body : ∀ (p : Program) (e : Env) (s : State) (m : MethodId) (args : Array Value) (below : List Frame) (meth : Method) (c : Code) (Q : State → Prop), xC p m c cc n s args own D dA ad n0 Hs → meth.name = y.name → (∀ (v : Int64) (σ : CS) (H : Heap) (locs : List Loc) (ls : Array Slot) (pc cells slots : Nat), K v σ → xI D dA ad n0 Hs s.heap σ H locs → cells ≤ mc ∧ slots ≤ ms → decode cc pc = .ok (.lreturn, 1) → W p l e rm s m args below meth c H locs cells slots Q (F0 m pc ls [.long v])) → xI D dA ad n0 Hs s.heap σ s.heap [] → ∀ ls : Array Slot, lv_has ls n (lv_args 0 av) → W p l e rm s m args below meth c s.heap [] 0 0 Q (F0 m 0 ls [])) :
    Met l y (ws_ y cc n (some .long)) rm (va_Pc av (cU D dA ad n0 Hs σ)) (xQ rvL K (cU D dA ad n0 Hs) (cA ad)) mc ms (cA ad) := by
  refine rg_openF hy ho hn ?_
  intro p e s m below meth c S hr hlocks hnm hU ls hl
  exact body p e s m _ below meth c _ ⟨S, hU.2, hA⟩ hnm (fun v σ H locs ls pc cells slots hk hI hcs hdg => W.widen hcs.1 hcs.2 (W.lret S.1 S.2.1 hr (fun t ht hW => ⟨⟨v, σ, rfl, hk, by rw [ht]; exact hI.1, hU.2.warm hW⟩, hI.2.F ht⟩) hI.2.2.2 hdg hlocks)) ⟨hU.1, va_S.rf⟩ ls hl
theorem vc_int (x : Int32) : (Value.int x).category = 1 := rfl
theorem vc_long (x : Int64) : (Value.long x).category = 2 := rfl
theorem vc_ref (x : Nat) : (Value.ref x).category = 1 := rfl
theorem vc_null : Value.null.category = 1 := rfl
