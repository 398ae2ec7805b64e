/-! THE ENDS: contracts of the component's methods, plain (xm_) and throwing (xt_). -/
theorem xrf_or (r : Option Nat) : va_rf r = .null ∨ ∃ a, va_rf r = .ref a := by
  cases r with
  | none => exact Or.inl rfl
  | some a => exact Or.inr ⟨a, rfl⟩
/-- what holds where the Fault (cell 10) has been thrown -/
def xX (D : va_G) (dA : Nat → ClassId) (ad : Nat → Nat) (n0 : Nat) (Hs : Heap) (E : CS → Prop) : Addr → String → State → State → Prop := fun q nm st t => q = ad 10 ∧ nm = RX3 ∧ (∃ u : CS, E u ∧ gK u 10 = some kO3 ∧ cU D dA ad n0 Hs u t) ∧ va_F (cA ad) st t
theorem xm_i {l : Launch} {y : MethodName} {cc : ByteArray} {n : Nat} {rm : Room} {av : List Value} {D : va_G} {dA : Nat → ClassId} {ad : Nat → Nat} {n0 : Nat} {Hs : Heap} {σ : CS} {mc ms : Nat} {own : String} {K : Int32 → CS → Prop} (hA : cAd ad n0 Hs.size) (hy : plainName y.cls = true) (ho : y.cls = own) (hn : (lg_sl av).length ≤ n)
    (body : ∀ (p : Program) (e : Env) (s : State) (m : MethodId) (args : Array Value) (below : List Frame) (meth : Method) (c : Code) (Q : State → Prop), xC p m c cc n s args own D dA ad n0 Hs → meth.name = y.name → (∀ (v : Int32) (σ : CS) (H : Heap) (locs : List Loc) (ls : Array Slot) (pc cells slots : Nat), K v σ → xI D dA ad n0 Hs s.heap σ H locs → cells ≤ mc ∧ slots ≤ ms → decode cc pc = .ok (.ireturn, 1) → W p l e rm s m args below meth c H locs cells slots Q (F0 m pc ls [.int v])) → xI D dA ad n0 Hs s.heap σ s.heap [] → ∀ ls : Array Slot, lv_has ls n (lv_args 0 av) → W p l e rm s m args below meth c s.heap [] 0 0 Q (F0 m 0 ls [])) :
    Met l y (ws_ y cc n (some .int)) rm (va_Pc av (cU D dA ad n0 Hs σ)) (xQ rvI K (cU D dA ad n0 Hs) (cA ad)) mc ms (cA ad) := by
  refine rg_open hy ho hn ?_
  intro p e s m below meth c S hr hlocks hnm hU ls hl
  exact body p e s m _ below meth c _ ⟨S, hU.2, hA⟩ hnm (fun v σ H locs ls pc cells slots hk hI hcs hdg => W.widen hcs.1 hcs.2 (W.iret S.1 S.2.1 hr (fun t ht hW => ⟨⟨v, σ, rfl, hk, by rw [ht]; exact hI.1, hU.2.warm hW⟩, hI.2.F ht⟩) hI.2.2.2 hdg hlocks)) ⟨hU.1, va_S.rf⟩ ls hl
theorem xt_i {l : Launch} {y : MethodName} {cc : ByteArray} {n : Nat} {rm : Room} {av : List Value} {D : va_G} {dA : Nat → ClassId} {ad : Nat → Nat} {n0 : Nat} {Hs : Heap} {σ : CS} {mc ms : Nat} {own : String} {K : Int32 → CS → Prop} {E : CS → Prop} (hA : cAd ad n0 Hs.size) (hy : plainName y.cls = true) (ho : y.cls = own) (hn : (lg_sl av).length ≤ n)
    (body : ∀ (p : Program) (e : Env) (s : State) (m : MethodId) (args : Array Value) (below : List Frame) (meth : Method) (c : Code) (Q : State → Prop), xC p m c cc n s args own D dA ad n0 Hs → meth.name = y.name → (∀ (v : Int32) (σ : CS) (H : Heap) (locs : List Loc) (ls : Array Slot) (pc cells slots : Nat), K v σ → xI D dA ad n0 Hs s.heap σ H locs → cells ≤ mc ∧ slots ≤ ms → decode cc pc = .ok (.ireturn, 1) → W p l e rm s m args below meth c H locs cells slots Q (F0 m pc ls [.int v])) → (∀ (σ : CS) (H : Heap) (locs : List Loc) (ls : Array Slot) (pc cells slots : Nat) (rest : List Value), E σ → xI D dA ad n0 Hs s.heap σ H locs → gK σ 10 = some kO3 → cells ≤ mc ∧ slots ≤ ms → vq_W p l e rm s m args below meth c H locs cells slots Q (F0 m pc ls rest) (ad 10)) → xI D dA ad n0 Hs s.heap σ s.heap [] → ∀ ls : Array Slot, lv_has ls n (lv_args 0 av) → W p l e rm s m args below meth c s.heap [] 0 0 Q (F0 m 0 ls [])) :
    vq_Met l y (ws_ y cc n (some .int)) rm (va_Pc av (cU D dA ad n0 Hs σ)) (xQ rvI K (cU D dA ad n0 Hs) (cA ad)) (xX D dA ad n0 Hs E) mc ms (cA ad) := by
  refine vq_ofW (cc := cc) (maxL := n) (ret := some .int) hy rfl ?_
  intro p e s m args below meth c s₁ B hml hnt hv
  obtain ⟨rfl, hU⟩ := hv
  have hts := atoms_spec (ws := ws_ y cc n (some .int)) B.pre
  have hts : ∀ w ∈ lw_all, w.before _ s = true := fun w h => hts w (List.mem_cons_of_mem _ h)
  have hown : s.vm.findClass own = some m.cls := by rw [← ho]; exact findClass_of_methodNamed B.named
  have hr := B.returns
  have hlocks := B.notSynchronized
  have S : CallFix p m c cc n s av.toArray lw_all own := ⟨B.exec, B.bytes, hml, hown, hts⟩
  rw [lg_entry_eq]
  refine body p e s m _ below meth c _ ⟨S, hU.2, hA⟩ (name_of_methodNamed B.named B.method).1 (fun v σ H locs ls pc cells slots hk hI hcs hdg => W.widen hcs.1 hcs.2 (vq_ret (W.iret S.1 S.2.1 hr (fun t ht hW => ⟨⟨v, σ, rfl, hk, by rw [ht]; exact hI.1, hU.2.warm hW⟩, hI.2.F ht⟩) hI.2.2.2 hdg hlocks))) ?_ ⟨hU.1, va_S.rf⟩ _ (lv_entry av hn)
  intro σ H locs ls pc cells slots rest hE hI hL hcs T hT X
  obtain ⟨cell, g1, g2, g3, -⟩ := (hI.1.1 10 _ hL).1 (by decide)
  have hcl : s.vm.findClass RX3 = some cell.cls := by rw [g2]; exact (hU.2.1.1 3 _ rfl).2.1
  obtain ⟨st1, hrun, hend, hW, hsm⟩ := X.leaveThrown (ad 10) (g := F0 m pc ls rest) rfl rfl rfl (fun x hx => (hnt x hx).elim) hlocks
  have hcell9 : (T.setFrames (.throwing (ad 10) :: below)).heap[ad 10]? = some cell := by
    show T.heap[ad 10]? = some cell
    rw [hT]; exact g1
  refine ⟨_, st1, .threw (ad 10), hrun, hend, Or.inr ⟨ad 10, rfl, RX3, cell, locs, ⟨rfl, rfl, ⟨σ, hE, hL, ?_, hU.2.warm hW⟩, hI.2.F hT⟩, hcell9, g3, hcl, hW, hsm.mono hcs.1 hcs.2, hI.2.2.2⟩⟩
  show cV D dA ad n0 Hs σ T.heap
  rw [hT]; exact hI.1
theorem xm_z {l : Launch} {y : MethodName} {cc : ByteArray} {n : Nat} {rm : Room} {av : List Value} {D : va_G} {dA : Nat → ClassId} {ad : Nat → Nat} {n0 : Nat} {Hs : Heap} {σ : CS} {mc ms : Nat} {own : String} {K : Int32 → CS → Prop} (hA : cAd ad n0 Hs.size) (hy : plainName y.cls = true) (ho : y.cls = own) (hn : (lg_sl av).length ≤ n)
    (body : ∀ (p : Program) (e : Env) (s : State) (m : MethodId) (args : Array Value) (below : List Frame) (meth : Method) (c : Code) (Q : State → Prop), xC p m c cc n s args own D dA ad n0 Hs → meth.name = y.name → (∀ (v : Int32) (σ : CS) (H : Heap) (locs : List Loc) (ls : Array Slot) (pc cells slots : Nat), narrow .boolean (.int v) = .int v → K v σ → xI D dA ad n0 Hs s.heap σ H locs → cells ≤ mc ∧ slots ≤ ms → decode cc pc = .ok (.ireturn, 1) → W p l e rm s m args below meth c H locs cells slots Q (F0 m pc ls [.int v])) → xI D dA ad n0 Hs s.heap σ s.heap [] → ∀ ls : Array Slot, lv_has ls n (lv_args 0 av) → W p l e rm s m args below meth c s.heap [] 0 0 Q (F0 m 0 ls [])) :
    Met l y (ws_ y cc n (some .boolean)) rm (va_Pc av (cU D dA ad n0 Hs σ)) (xQ rvI K (cU D dA ad n0 Hs) (cA ad)) mc ms (cA ad) := by
  refine rg_open hy ho hn ?_
  intro p e s m below meth c S hr hlocks hnm hU ls hl
  exact body p e s m _ below meth c _ ⟨S, hU.2, hA⟩ hnm (fun v σ H locs ls pc cells slots hz hk hI hcs hdg => W.widen hcs.1 hcs.2 (W.zret S.1 S.2.1 hr hz (fun t ht hW => ⟨⟨v, σ, rfl, hk, by rw [ht]; exact hI.1, hU.2.warm hW⟩, hI.2.F ht⟩) hI.2.2.2 hdg hlocks)) ⟨hU.1, va_S.rf⟩ ls hl
theorem xt_z {l : Launch} {y : MethodName} {cc : ByteArray} {n : Nat} {rm : Room} {av : List Value} {D : va_G} {dA : Nat → ClassId} {ad : Nat → Nat} {n0 : Nat} {Hs : Heap} {σ : CS} {mc ms : Nat} {own : String} {K : Int32 → CS → Prop} {E : CS → Prop} (hA : cAd ad n0 Hs.size) (hy : plainName y.cls = true) (ho : y.cls = own) (hn : (lg_sl av).length ≤ n)
    (body : ∀ (p : Program) (e : Env) (s : State) (m : MethodId) (args : Array Value) (below : List Frame) (meth : Method) (c : Code) (Q : State → Prop), xC p m c cc n s args own D dA ad n0 Hs → meth.name = y.name → (∀ (v : Int32) (σ : CS) (H : Heap) (locs : List Loc) (ls : Array Slot) (pc cells slots : Nat), narrow .boolean (.int v) = .int v → K v σ → xI D dA ad n0 Hs s.heap σ H locs → cells ≤ mc ∧ slots ≤ ms → decode cc pc = .ok (.ireturn, 1) → W p l e rm s m args below meth c H locs cells slots Q (F0 m pc ls [.int v])) → (∀ (σ : CS) (H : Heap) (locs : List Loc) (ls : Array Slot) (pc cells slots : Nat) (rest : List Value), E σ → xI D dA ad n0 Hs s.heap σ H locs → gK σ 10 = some kO3 → cells ≤ mc ∧ slots ≤ ms → vq_W p l e rm s m args below meth c H locs cells slots Q (F0 m pc ls rest) (ad 10)) → xI D dA ad n0 Hs s.heap σ s.heap [] → ∀ ls : Array Slot, lv_has ls n (lv_args 0 av) → W p l e rm s m args below meth c s.heap [] 0 0 Q (F0 m 0 ls [])) :
    vq_Met l y (ws_ y cc n (some .boolean)) rm (va_Pc av (cU D dA ad n0 Hs σ)) (xQ rvI K (cU D dA ad n0 Hs) (cA ad)) (xX D dA ad n0 Hs E) mc ms (cA ad) := by
  refine vq_ofW (cc := cc) (maxL := n) (ret := some .boolean) hy rfl ?_
  intro p e s m args below meth c s₁ B hml hnt hv
  obtain ⟨rfl, hU⟩ := hv
  have hts := atoms_spec (ws := ws_ y cc n (some .boolean)) B.pre
  have hts : ∀ w ∈ lw_all, w.before _ s = true := fun w h => hts w (List.mem_cons_of_mem _ h)
  have hown : s.vm.findClass own = some m.cls := by rw [← ho]; exact findClass_of_methodNamed B.named
  have hr := B.returns
  have hlocks := B.notSynchronized
  have S : CallFix p m c cc n s av.toArray lw_all own := ⟨B.exec, B.bytes, hml, hown, hts⟩
  rw [lg_entry_eq]
  refine body p e s m _ below meth c _ ⟨S, hU.2, hA⟩ (name_of_methodNamed B.named B.method).1 (fun v σ H locs ls pc cells slots hz hk hI hcs hdg => W.widen hcs.1 hcs.2 (vq_ret (W.zret S.1 S.2.1 hr hz (fun t ht hW => ⟨⟨v, σ, rfl, hk, by rw [ht]; exact hI.1, hU.2.warm hW⟩, hI.2.F ht⟩) hI.2.2.2 hdg hlocks))) ?_ ⟨hU.1, va_S.rf⟩ _ (lv_entry av hn)
  intro σ H locs ls pc cells slots rest hE hI hL hcs T hT X
  obtain ⟨cell, g1, g2, g3, -⟩ := (hI.1.1 10 _ hL).1 (by decide)
  have hcl : s.vm.findClass RX3 = some cell.cls := by rw [g2]; exact (hU.2.1.1 3 _ rfl).2.1
  obtain ⟨st1, hrun, hend, hW, hsm⟩ := X.leaveThrown (ad 10) (g := F0 m pc ls rest) rfl rfl rfl (fun x hx => (hnt x hx).elim) hlocks
  have hcell9 : (T.setFrames (.throwing (ad 10) :: below)).heap[ad 10]? = some cell := by
    show T.heap[ad 10]? = some cell
    rw [hT]; exact g1
  refine ⟨_, st1, .threw (ad 10), hrun, hend, Or.inr ⟨ad 10, rfl, RX3, cell, locs, ⟨rfl, rfl, ⟨σ, hE, hL, ?_, hU.2.warm hW⟩, hI.2.F hT⟩, hcell9, g3, hcl, hW, hsm.mono hcs.1 hcs.2, hI.2.2.2⟩⟩
  show cV D dA ad n0 Hs σ T.heap
  rw [hT]; exact hI.1
theorem xm_c {l : Launch} {y : MethodName} {cc : ByteArray} {n : Nat} {rm : Room} {av : List Value} {D : va_G} {dA : Nat → ClassId} {ad : Nat → Nat} {n0 : Nat} {Hs : Heap} {σ : CS} {mc ms : Nat} {own : String} {K : Int32 → CS → Prop} (hA : cAd ad n0 Hs.size) (hy : plainName y.cls = true) (ho : y.cls = own) (hn : (lg_sl av).length ≤ n)
    (body : ∀ (p : Program) (e : Env) (s : State) (m : MethodId) (args : Array Value) (below : List Frame) (meth : Method) (c : Code) (Q : State → Prop), xC p m c cc n s args own D dA ad n0 Hs → meth.name = y.name → (∀ (v : Int32) (σ : CS) (H : Heap) (locs : List Loc) (ls : Array Slot) (pc cells slots : Nat), narrow .char (.int v) = .int v → K v σ → xI D dA ad n0 Hs s.heap σ H locs → cells ≤ mc ∧ slots ≤ ms → decode cc pc = .ok (.ireturn, 1) → W p l e rm s m args below meth c H locs cells slots Q (F0 m pc ls [.int v])) → xI D dA ad n0 Hs s.heap σ s.heap [] → ∀ ls : Array Slot, lv_has ls n (lv_args 0 av) → W p l e rm s m args below meth c s.heap [] 0 0 Q (F0 m 0 ls [])) :
    Met l y (ws_ y cc n (some .char)) rm (va_Pc av (cU D dA ad n0 Hs σ)) (xQ rvI K (cU D dA ad n0 Hs) (cA ad)) mc ms (cA ad) := by
  refine rg_open hy ho hn ?_
  intro p e s m below meth c S hr hlocks hnm hU ls hl
  exact body p e s m _ below meth c _ ⟨S, hU.2, hA⟩ hnm (fun v σ H locs ls pc cells slots hz hk hI hcs hdg => W.widen hcs.1 hcs.2 (W.zret S.1 S.2.1 hr hz (fun t ht hW => ⟨⟨v, σ, rfl, hk, by rw [ht]; exact hI.1, hU.2.warm hW⟩, hI.2.F ht⟩) hI.2.2.2 hdg hlocks)) ⟨hU.1, va_S.rf⟩ ls hl
theorem xt_c {l : Launch} {y : MethodName} {cc : ByteArray} {n : Nat} {rm : Room} {av : List Value} {D : va_G} {dA : Nat → ClassId} {ad : Nat → Nat} {n0 : Nat} {Hs : Heap} {σ : CS} {mc ms : Nat} {own : String} {K : Int32 → CS → Prop} {E : CS → Prop} (hA : cAd ad n0 Hs.size) (hy : plainName y.cls = true) (ho : y.cls = own) (hn : (lg_sl av).length ≤ n)
    (body : ∀ (p : Program) (e : Env) (s : State) (m : MethodId) (args : Array Value) (below : List Frame) (meth : Method) (c : Code) (Q : State → Prop), xC p m c cc n s args own D dA ad n0 Hs → meth.name = y.name → (∀ (v : Int32) (σ : CS) (H : Heap) (locs : List Loc) (ls : Array Slot) (pc cells slots : Nat), narrow .char (.int v) = .int v → K v σ → xI D dA ad n0 Hs s.heap σ H locs → cells ≤ mc ∧ slots ≤ ms → decode cc pc = .ok (.ireturn, 1) → W p l e rm s m args below meth c H locs cells slots Q (F0 m pc ls [.int v])) → (∀ (σ : CS) (H : Heap) (locs : List Loc) (ls : Array Slot) (pc cells slots : Nat) (rest : List Value), E σ → xI D dA ad n0 Hs s.heap σ H locs → gK σ 10 = some kO3 → cells ≤ mc ∧ slots ≤ ms → vq_W p l e rm s m args below meth c H locs cells slots Q (F0 m pc ls rest) (ad 10)) → xI D dA ad n0 Hs s.heap σ s.heap [] → ∀ ls : Array Slot, lv_has ls n (lv_args 0 av) → W p l e rm s m args below meth c s.heap [] 0 0 Q (F0 m 0 ls [])) :
    vq_Met l y (ws_ y cc n (some .char)) rm (va_Pc av (cU D dA ad n0 Hs σ)) (xQ rvI K (cU D dA ad n0 Hs) (cA ad)) (xX D dA ad n0 Hs E) mc ms (cA ad) := by
  refine vq_ofW (cc := cc) (maxL := n) (ret := some .char) hy rfl ?_
  intro p e s m args below meth c s₁ B hml hnt hv
  obtain ⟨rfl, hU⟩ := hv
  have hts := atoms_spec (ws := ws_ y cc n (some .char)) B.pre
  have hts : ∀ w ∈ lw_all, w.before _ s = true := fun w h => hts w (List.mem_cons_of_mem _ h)
  have hown : s.vm.findClass own = some m.cls := by rw [← ho]; exact findClass_of_methodNamed B.named
  have hr := B.returns
  have hlocks := B.notSynchronized
  have S : CallFix p m c cc n s av.toArray lw_all own := ⟨B.exec, B.bytes, hml, hown, hts⟩
  rw [lg_entry_eq]
  refine body p e s m _ below meth c _ ⟨S, hU.2, hA⟩ (name_of_methodNamed B.named B.method).1 (fun v σ H locs ls pc cells slots hz hk hI hcs hdg => W.widen hcs.1 hcs.2 (vq_ret (W.zret S.1 S.2.1 hr hz (fun t ht hW => ⟨⟨v, σ, rfl, hk, by rw [ht]; exact hI.1, hU.2.warm hW⟩, hI.2.F ht⟩) hI.2.2.2 hdg hlocks))) ?_ ⟨hU.1, va_S.rf⟩ _ (lv_entry av hn)
  intro σ H locs ls pc cells slots rest hE hI hL hcs T hT X
  obtain ⟨cell, g1, g2, g3, -⟩ := (hI.1.1 10 _ hL).1 (by decide)
  have hcl : s.vm.findClass RX3 = some cell.cls := by rw [g2]; exact (hU.2.1.1 3 _ rfl).2.1
  obtain ⟨st1, hrun, hend, hW, hsm⟩ := X.leaveThrown (ad 10) (g := F0 m pc ls rest) rfl rfl rfl (fun x hx => (hnt x hx).elim) hlocks
  have hcell9 : (T.setFrames (.throwing (ad 10) :: below)).heap[ad 10]? = some cell := by
    show T.heap[ad 10]? = some cell
    rw [hT]; exact g1
  refine ⟨_, st1, .threw (ad 10), hrun, hend, Or.inr ⟨ad 10, rfl, RX3, cell, locs, ⟨rfl, rfl, ⟨σ, hE, hL, ?_, hU.2.warm hW⟩, hI.2.F hT⟩, hcell9, g3, hcl, hW, hsm.mono hcs.1 hcs.2, hI.2.2.2⟩⟩
  show cV D dA ad n0 Hs σ T.heap
  rw [hT]; exact hI.1
theorem xm_b {l : Launch} {y : MethodName} {cc : ByteArray} {n : Nat} {rm : Room} {av : List Value} {D : va_G} {dA : Nat → ClassId} {ad : Nat → Nat} {n0 : Nat} {Hs : Heap} {σ : CS} {mc ms : Nat} {own : String} {K : Int32 → CS → Prop} (hA : cAd ad n0 Hs.size) (hy : plainName y.cls = true) (ho : y.cls = own) (hn : (lg_sl av).length ≤ n)
    (body : ∀ (p : Program) (e : Env) (s : State) (m : MethodId) (args : Array Value) (below : List Frame) (meth : Method) (c : Code) (Q : State → Prop), xC p m c cc n s args own D dA ad n0 Hs → meth.name = y.name → (∀ (v : Int32) (σ : CS) (H : Heap) (locs : List Loc) (ls : Array Slot) (pc cells slots : Nat), narrow .byte (.int v) = .int v → K v σ → xI D dA ad n0 Hs s.heap σ H locs → cells ≤ mc ∧ slots ≤ ms → decode cc pc = .ok (.ireturn, 1) → W p l e rm s m args below meth c H locs cells slots Q (F0 m pc ls [.int v])) → xI D dA ad n0 Hs s.heap σ s.heap [] → ∀ ls : Array Slot, lv_has ls n (lv_args 0 av) → W p l e rm s m args below meth c s.heap [] 0 0 Q (F0 m 0 ls [])) :
    Met l y (ws_ y cc n (some .byte)) rm (va_Pc av (cU D dA ad n0 Hs σ)) (xQ rvI K (cU D dA ad n0 Hs) (cA ad)) mc ms (cA ad) := by
  refine rg_open hy ho hn ?_
  intro p e s m below meth c S hr hlocks hnm hU ls hl
  exact body p e s m _ below meth c _ ⟨S, hU.2, hA⟩ hnm (fun v σ H locs ls pc cells slots hz hk hI hcs hdg => W.widen hcs.1 hcs.2 (W.zret S.1 S.2.1 hr hz (fun t ht hW => ⟨⟨v, σ, rfl, hk, by rw [ht]; exact hI.1, hU.2.warm hW⟩, hI.2.F ht⟩) hI.2.2.2 hdg hlocks)) ⟨hU.1, va_S.rf⟩ ls hl
theorem xt_b {l : Launch} {y : MethodName} {cc : ByteArray} {n : Nat} {rm : Room} {av : List Value} {D : va_G} {dA : Nat → ClassId} {ad : Nat → Nat} {n0 : Nat} {Hs : Heap} {σ : CS} {mc ms : Nat} {own : String} {K : Int32 → CS → Prop} {E : CS → Prop} (hA : cAd ad n0 Hs.size) (hy : plainName y.cls = true) (ho : y.cls = own) (hn : (lg_sl av).length ≤ n)
    (body : ∀ (p : Program) (e : Env) (s : State) (m : MethodId) (args : Array Value) (below : List Frame) (meth : Method) (c : Code) (Q : State → Prop), xC p m c cc n s args own D dA ad n0 Hs → meth.name = y.name → (∀ (v : Int32) (σ : CS) (H : Heap) (locs : List Loc) (ls : Array Slot) (pc cells slots : Nat), narrow .byte (.int v) = .int v → K v σ → xI D dA ad n0 Hs s.heap σ H locs → cells ≤ mc ∧ slots ≤ ms → decode cc pc = .ok (.ireturn, 1) → W p l e rm s m args below meth c H locs cells slots Q (F0 m pc ls [.int v])) → (∀ (σ : CS) (H : Heap) (locs : List Loc) (ls : Array Slot) (pc cells slots : Nat) (rest : List Value), E σ → xI D dA ad n0 Hs s.heap σ H locs → gK σ 10 = some kO3 → cells ≤ mc ∧ slots ≤ ms → vq_W p l e rm s m args below meth c H locs cells slots Q (F0 m pc ls rest) (ad 10)) → xI D dA ad n0 Hs s.heap σ s.heap [] → ∀ ls : Array Slot, lv_has ls n (lv_args 0 av) → W p l e rm s m args below meth c s.heap [] 0 0 Q (F0 m 0 ls [])) :
    vq_Met l y (ws_ y cc n (some .byte)) rm (va_Pc av (cU D dA ad n0 Hs σ)) (xQ rvI K (cU D dA ad n0 Hs) (cA ad)) (xX D dA ad n0 Hs E) mc ms (cA ad) := by
  refine vq_ofW (cc := cc) (maxL := n) (ret := some .byte) hy rfl ?_
  intro p e s m args below meth c s₁ B hml hnt hv
  obtain ⟨rfl, hU⟩ := hv
  have hts := atoms_spec (ws := ws_ y cc n (some .byte)) B.pre
  have hts : ∀ w ∈ lw_all, w.before _ s = true := fun w h => hts w (List.mem_cons_of_mem _ h)
  have hown : s.vm.findClass own = some m.cls := by rw [← ho]; exact findClass_of_methodNamed B.named
  have hr := B.returns
  have hlocks := B.notSynchronized
  have S : CallFix p m c cc n s av.toArray lw_all own := ⟨B.exec, B.bytes, hml, hown, hts⟩
  rw [lg_entry_eq]
  refine body p e s m _ below meth c _ ⟨S, hU.2, hA⟩ (name_of_methodNamed B.named B.method).1 (fun v σ H locs ls pc cells slots hz hk hI hcs hdg => W.widen hcs.1 hcs.2 (vq_ret (W.zret S.1 S.2.1 hr hz (fun t ht hW => ⟨⟨v, σ, rfl, hk, by rw [ht]; exact hI.1, hU.2.warm hW⟩, hI.2.F ht⟩) hI.2.2.2 hdg hlocks))) ?_ ⟨hU.1, va_S.rf⟩ _ (lv_entry av hn)
  intro σ H locs ls pc cells slots rest hE hI hL hcs T hT X
  obtain ⟨cell, g1, g2, g3, -⟩ := (hI.1.1 10 _ hL).1 (by decide)
  have hcl : s.vm.findClass RX3 = some cell.cls := by rw [g2]; exact (hU.2.1.1 3 _ rfl).2.1
  obtain ⟨st1, hrun, hend, hW, hsm⟩ := X.leaveThrown (ad 10) (g := F0 m pc ls rest) rfl rfl rfl (fun x hx => (hnt x hx).elim) hlocks
  have hcell9 : (T.setFrames (.throwing (ad 10) :: below)).heap[ad 10]? = some cell := by
    show T.heap[ad 10]? = some cell
    rw [hT]; exact g1
  refine ⟨_, st1, .threw (ad 10), hrun, hend, Or.inr ⟨ad 10, rfl, RX3, cell, locs, ⟨rfl, rfl, ⟨σ, hE, hL, ?_, hU.2.warm hW⟩, hI.2.F hT⟩, hcell9, g3, hcl, hW, hsm.mono hcs.1 hcs.2, hI.2.2.2⟩⟩
  show cV D dA ad n0 Hs σ T.heap
  rw [hT]; exact hI.1
theorem xm_l {l : Launch} {y : MethodName} {cc : ByteArray} {n : Nat} {rm : Room} {av : List Value} {D : va_G} {dA : Nat → ClassId} {ad : Nat → Nat} {n0 : Nat} {Hs : Heap} {σ : CS} {mc ms : Nat} {own : String} {K : Int64 → CS → Prop} (hA : cAd ad n0 Hs.size) (hy : plainName y.cls = true) (ho : y.cls = own) (hn : (lg_sl av).length ≤ n)
    (body : ∀ (p : Program) (e : Env) (s : State) (m : MethodId) (args : Array Value) (below : List Frame) (meth : Method) (c : Code) (Q : State → Prop), xC p m c cc n s args own D dA ad n0 Hs → meth.name = y.name → (∀ (v : Int64) (σ : CS) (H : Heap) (locs : List Loc) (ls : Array Slot) (pc cells slots : Nat), K v σ → xI D dA ad n0 Hs s.heap σ H locs → cells ≤ mc ∧ slots ≤ ms → decode cc pc = .ok (.lreturn, 1) → W p l e rm s m args below meth c H locs cells slots Q (F0 m pc ls [.long v])) → xI D dA ad n0 Hs s.heap σ s.heap [] → ∀ ls : Array Slot, lv_has ls n (lv_args 0 av) → W p l e rm s m args below meth c s.heap [] 0 0 Q (F0 m 0 ls [])) :
    Met l y (ws_ y cc n (some .long)) rm (va_Pc av (cU D dA ad n0 Hs σ)) (xQ rvL K (cU D dA ad n0 Hs) (cA ad)) mc ms (cA ad) := by
  refine rg_open hy ho hn ?_
  intro p e s m below meth c S hr hlocks hnm hU ls hl
  exact body p e s m _ below meth c _ ⟨S, hU.2, hA⟩ hnm (fun v σ H locs ls pc cells slots hk hI hcs hdg => W.widen hcs.1 hcs.2 (W.lret S.1 S.2.1 hr (fun t ht hW => ⟨⟨v, σ, rfl, hk, by rw [ht]; exact hI.1, hU.2.warm hW⟩, hI.2.F ht⟩) hI.2.2.2 hdg hlocks)) ⟨hU.1, va_S.rf⟩ ls hl
theorem xt_l {l : Launch} {y : MethodName} {cc : ByteArray} {n : Nat} {rm : Room} {av : List Value} {D : va_G} {dA : Nat → ClassId} {ad : Nat → Nat} {n0 : Nat} {Hs : Heap} {σ : CS} {mc ms : Nat} {own : String} {K : Int64 → CS → Prop} {E : CS → Prop} (hA : cAd ad n0 Hs.size) (hy : plainName y.cls = true) (ho : y.cls = own) (hn : (lg_sl av).length ≤ n)
    (body : ∀ (p : Program) (e : Env) (s : State) (m : MethodId) (args : Array Value) (below : List Frame) (meth : Method) (c : Code) (Q : State → Prop), xC p m c cc n s args own D dA ad n0 Hs → meth.name = y.name → (∀ (v : Int64) (σ : CS) (H : Heap) (locs : List Loc) (ls : Array Slot) (pc cells slots : Nat), K v σ → xI D dA ad n0 Hs s.heap σ H locs → cells ≤ mc ∧ slots ≤ ms → decode cc pc = .ok (.lreturn, 1) → W p l e rm s m args below meth c H locs cells slots Q (F0 m pc ls [.long v])) → (∀ (σ : CS) (H : Heap) (locs : List Loc) (ls : Array Slot) (pc cells slots : Nat) (rest : List Value), E σ → xI D dA ad n0 Hs s.heap σ H locs → gK σ 10 = some kO3 → cells ≤ mc ∧ slots ≤ ms → vq_W p l e rm s m args below meth c H locs cells slots Q (F0 m pc ls rest) (ad 10)) → xI D dA ad n0 Hs s.heap σ s.heap [] → ∀ ls : Array Slot, lv_has ls n (lv_args 0 av) → W p l e rm s m args below meth c s.heap [] 0 0 Q (F0 m 0 ls [])) :
    vq_Met l y (ws_ y cc n (some .long)) rm (va_Pc av (cU D dA ad n0 Hs σ)) (xQ rvL K (cU D dA ad n0 Hs) (cA ad)) (xX D dA ad n0 Hs E) mc ms (cA ad) := by
  refine vq_ofW (cc := cc) (maxL := n) (ret := some .long) hy rfl ?_
  intro p e s m args below meth c s₁ B hml hnt hv
  obtain ⟨rfl, hU⟩ := hv
  have hts := atoms_spec (ws := ws_ y cc n (some .long)) B.pre
  have hts : ∀ w ∈ lw_all, w.before _ s = true := fun w h => hts w (List.mem_cons_of_mem _ h)
  have hown : s.vm.findClass own = some m.cls := by rw [← ho]; exact findClass_of_methodNamed B.named
  have hr := B.returns
  have hlocks := B.notSynchronized
  have S : CallFix p m c cc n s av.toArray lw_all own := ⟨B.exec, B.bytes, hml, hown, hts⟩
  rw [lg_entry_eq]
  refine body p e s m _ below meth c _ ⟨S, hU.2, hA⟩ (name_of_methodNamed B.named B.method).1 (fun v σ H locs ls pc cells slots hk hI hcs hdg => W.widen hcs.1 hcs.2 (vq_ret (W.lret S.1 S.2.1 hr (fun t ht hW => ⟨⟨v, σ, rfl, hk, by rw [ht]; exact hI.1, hU.2.warm hW⟩, hI.2.F ht⟩) hI.2.2.2 hdg hlocks))) ?_ ⟨hU.1, va_S.rf⟩ _ (lv_entry av hn)
  intro σ H locs ls pc cells slots rest hE hI hL hcs T hT X
  obtain ⟨cell, g1, g2, g3, -⟩ := (hI.1.1 10 _ hL).1 (by decide)
  have hcl : s.vm.findClass RX3 = some cell.cls := by rw [g2]; exact (hU.2.1.1 3 _ rfl).2.1
  obtain ⟨st1, hrun, hend, hW, hsm⟩ := X.leaveThrown (ad 10) (g := F0 m pc ls rest) rfl rfl rfl (fun x hx => (hnt x hx).elim) hlocks
  have hcell9 : (T.setFrames (.throwing (ad 10) :: below)).heap[ad 10]? = some cell := by
    show T.heap[ad 10]? = some cell
    rw [hT]; exact g1
  refine ⟨_, st1, .threw (ad 10), hrun, hend, Or.inr ⟨ad 10, rfl, RX3, cell, locs, ⟨rfl, rfl, ⟨σ, hE, hL, ?_, hU.2.warm hW⟩, hI.2.F hT⟩, hcell9, g3, hcl, hW, hsm.mono hcs.1 hcs.2, hI.2.2.2⟩⟩
  show cV D dA ad n0 Hs σ T.heap
  rw [hT]; exact hI.1
theorem xm_v {l : Launch} {y : MethodName} {cc : ByteArray} {n : Nat} {rm : Room} {av : List Value} {D : va_G} {dA : Nat → ClassId} {ad : Nat → Nat} {n0 : Nat} {Hs : Heap} {σ : CS} {mc ms : Nat} {own : String} {K : Unit → CS → Prop} (hA : cAd ad n0 Hs.size) (hy : plainName y.cls = true) (ho : y.cls = own) (hn : (lg_sl av).length ≤ n)
    (body : ∀ (p : Program) (e : Env) (s : State) (m : MethodId) (args : Array Value) (below : List Frame) (meth : Method) (c : Code) (Q : State → Prop), xC p m c cc n s args own D dA ad n0 Hs → meth.name = y.name → (∀ (v : Unit) (σ : CS) (H : Heap) (locs : List Loc) (ls : Array Slot) (pc cells slots : Nat), K v σ → xI D dA ad n0 Hs s.heap σ H locs → cells ≤ mc ∧ slots ≤ ms → decode cc pc = .ok (.return_, 1) → W p l e rm s m args below meth c H locs cells slots Q (F0 m pc ls [])) → xI D dA ad n0 Hs s.heap σ s.heap [] → ∀ ls : Array Slot, lv_has ls n (lv_args 0 av) → W p l e rm s m args below meth c s.heap [] 0 0 Q (F0 m 0 ls [])) :
    Met l y (ws_ y cc n (none)) rm (va_Pc av (cU D dA ad n0 Hs σ)) (xQ rvU K (cU D dA ad n0 Hs) (cA ad)) mc ms (cA ad) := by
  refine rg_open hy ho hn ?_
  intro p e s m below meth c S hr hlocks hnm hU ls hl
  exact body p e s m _ below meth c _ ⟨S, hU.2, hA⟩ hnm (fun v σ H locs ls pc cells slots hk hI hcs hdg => W.widen hcs.1 hcs.2 (W.vret S.1 S.2.1 hr (fun t ht hW => ⟨⟨v, σ, rfl, hk, by rw [ht]; exact hI.1, hU.2.warm hW⟩, hI.2.F ht⟩) hI.2.2.2 hdg hlocks)) ⟨hU.1, va_S.rf⟩ ls hl
theorem xt_v {l : Launch} {y : MethodName} {cc : ByteArray} {n : Nat} {rm : Room} {av : List Value} {D : va_G} {dA : Nat → ClassId} {ad : Nat → Nat} {n0 : Nat} {Hs : Heap} {σ : CS} {mc ms : Nat} {own : String} {K : Unit → CS → Prop} {E : CS → Prop} (hA : cAd ad n0 Hs.size) (hy : plainName y.cls = true) (ho : y.cls = own) (hn : (lg_sl av).length ≤ n)
    (body : ∀ (p : Program) (e : Env) (s : State) (m : MethodId) (args : Array Value) (below : List Frame) (meth : Method) (c : Code) (Q : State → Prop), xC p m c cc n s args own D dA ad n0 Hs → meth.name = y.name → (∀ (v : Unit) (σ : CS) (H : Heap) (locs : List Loc) (ls : Array Slot) (pc cells slots : Nat), K v σ → xI D dA ad n0 Hs s.heap σ H locs → cells ≤ mc ∧ slots ≤ ms → decode cc pc = .ok (.return_, 1) → W p l e rm s m args below meth c H locs cells slots Q (F0 m pc ls [])) → (∀ (σ : CS) (H : Heap) (locs : List Loc) (ls : Array Slot) (pc cells slots : Nat) (rest : List Value), E σ → xI D dA ad n0 Hs s.heap σ H locs → gK σ 10 = some kO3 → cells ≤ mc ∧ slots ≤ ms → vq_W p l e rm s m args below meth c H locs cells slots Q (F0 m pc ls rest) (ad 10)) → xI D dA ad n0 Hs s.heap σ s.heap [] → ∀ ls : Array Slot, lv_has ls n (lv_args 0 av) → W p l e rm s m args below meth c s.heap [] 0 0 Q (F0 m 0 ls [])) :
    vq_Met l y (ws_ y cc n (none)) rm (va_Pc av (cU D dA ad n0 Hs σ)) (xQ rvU K (cU D dA ad n0 Hs) (cA ad)) (xX D dA ad n0 Hs E) mc ms (cA ad) := by
  refine vq_ofW (cc := cc) (maxL := n) (ret := none) hy rfl ?_
  intro p e s m args below meth c s₁ B hml hnt hv
  obtain ⟨rfl, hU⟩ := hv
  have hts := atoms_spec (ws := ws_ y cc n (none)) B.pre
  have hts : ∀ w ∈ lw_all, w.before _ s = true := fun w h => hts w (List.mem_cons_of_mem _ h)
  have hown : s.vm.findClass own = some m.cls := by rw [← ho]; exact findClass_of_methodNamed B.named
  have hr := B.returns
  have hlocks := B.notSynchronized
  have S : CallFix p m c cc n s av.toArray lw_all own := ⟨B.exec, B.bytes, hml, hown, hts⟩
  rw [lg_entry_eq]
  refine body p e s m _ below meth c _ ⟨S, hU.2, hA⟩ (name_of_methodNamed B.named B.method).1 (fun v σ H locs ls pc cells slots hk hI hcs hdg => W.widen hcs.1 hcs.2 (vq_ret (W.vret S.1 S.2.1 hr (fun t ht hW => ⟨⟨v, σ, rfl, hk, by rw [ht]; exact hI.1, hU.2.warm hW⟩, hI.2.F ht⟩) hI.2.2.2 hdg hlocks))) ?_ ⟨hU.1, va_S.rf⟩ _ (lv_entry av hn)
  intro σ H locs ls pc cells slots rest hE hI hL hcs T hT X
  obtain ⟨cell, g1, g2, g3, -⟩ := (hI.1.1 10 _ hL).1 (by decide)
  have hcl : s.vm.findClass RX3 = some cell.cls := by rw [g2]; exact (hU.2.1.1 3 _ rfl).2.1
  obtain ⟨st1, hrun, hend, hW, hsm⟩ := X.leaveThrown (ad 10) (g := F0 m pc ls rest) rfl rfl rfl (fun x hx => (hnt x hx).elim) hlocks
  have hcell9 : (T.setFrames (.throwing (ad 10) :: below)).heap[ad 10]? = some cell := by
    show T.heap[ad 10]? = some cell
    rw [hT]; exact g1
  refine ⟨_, st1, .threw (ad 10), hrun, hend, Or.inr ⟨ad 10, rfl, RX3, cell, locs, ⟨rfl, rfl, ⟨σ, hE, hL, ?_, hU.2.warm hW⟩, hI.2.F hT⟩, hcell9, g3, hcl, hW, hsm.mono hcs.1 hcs.2, hI.2.2.2⟩⟩
  show cV D dA ad n0 Hs σ T.heap
  rw [hT]; exact hI.1
theorem xm_r {l : Launch} {y : MethodName} {cc : ByteArray} {n : Nat} {rm : Room} {av : List Value} {D : va_G} {dA : Nat → ClassId} {ad : Nat → Nat} {n0 : Nat} {Hs : Heap} {σ : CS} {mc ms : Nat} {own : String} {rt : FieldType} (hrt : (∃ n, rt = .object n) ∨ ∃ t, rt = .array t) {K : Nat → CS → Prop} (hA : cAd ad n0 Hs.size) (hy : plainName y.cls = true) (ho : y.cls = own) (hn : (lg_sl av).length ≤ n)
    (body : ∀ (p : Program) (e : Env) (s : State) (m : MethodId) (args : Array Value) (below : List Frame) (meth : Method) (c : Code) (Q : State → Prop), xC p m c cc n s args own D dA ad n0 Hs → meth.name = y.name → (∀ (v : Nat) (σ : CS) (H : Heap) (locs : List Loc) (ls : Array Slot) (pc cells slots : Nat), K v σ → xI D dA ad n0 Hs s.heap σ H locs → cells ≤ mc ∧ slots ≤ ms → decode cc pc = .ok (.areturn, 1) → W p l e rm s m args below meth c H locs cells slots Q (F0 m pc ls [va_rf (rgR ad v)])) → xI D dA ad n0 Hs s.heap σ s.heap [] → ∀ ls : Array Slot, lv_has ls n (lv_args 0 av) → W p l e rm s m args below meth c s.heap [] 0 0 Q (F0 m 0 ls [])) :
    Met l y (ws_ y cc n (some rt)) rm (va_Pc av (cU D dA ad n0 Hs σ)) (xQ (rvR ad) K (cU D dA ad n0 Hs) (cA ad)) mc ms (cA ad) := by
  refine rg_open hy ho hn ?_
  intro p e s m below meth c S hr hlocks hnm hU ls hl
  exact body p e s m _ below meth c _ ⟨S, hU.2, hA⟩ hnm (fun v σ H locs ls pc cells slots hk hI hcs hdg => W.widen hcs.1 hcs.2 (W.aret S.1 S.2.1 hr hrt (xrf_or _) (fun t ht hW => ⟨⟨v, σ, rfl, hk, by rw [ht]; exact hI.1, hU.2.warm hW⟩, hI.2.F ht⟩) hI.2.2.2 hdg hlocks)) ⟨hU.1, va_S.rf⟩ ls hl
theorem xt_r {l : Launch} {y : MethodName} {cc : ByteArray} {n : Nat} {rm : Room} {av : List Value} {D : va_G} {dA : Nat → ClassId} {ad : Nat → Nat} {n0 : Nat} {Hs : Heap} {σ : CS} {mc ms : Nat} {own : String} {rt : FieldType} (hrt : (∃ n, rt = .object n) ∨ ∃ t, rt = .array t) {K : Nat → CS → Prop} {E : CS → Prop} (hA : cAd ad n0 Hs.size) (hy : plainName y.cls = true) (ho : y.cls = own) (hn : (lg_sl av).length ≤ n)
    (body : ∀ (p : Program) (e : Env) (s : State) (m : MethodId) (args : Array Value) (below : List Frame) (meth : Method) (c : Code) (Q : State → Prop), xC p m c cc n s args own D dA ad n0 Hs → meth.name = y.name → (∀ (v : Nat) (σ : CS) (H : Heap) (locs : List Loc) (ls : Array Slot) (pc cells slots : Nat), K v σ → xI D dA ad n0 Hs s.heap σ H locs → cells ≤ mc ∧ slots ≤ ms → decode cc pc = .ok (.areturn, 1) → W p l e rm s m args below meth c H locs cells slots Q (F0 m pc ls [va_rf (rgR ad v)])) → (∀ (σ : CS) (H : Heap) (locs : List Loc) (ls : Array Slot) (pc cells slots : Nat) (rest : List Value), E σ → xI D dA ad n0 Hs s.heap σ H locs → gK σ 10 = some kO3 → cells ≤ mc ∧ slots ≤ ms → vq_W p l e rm s m args below meth c H locs cells slots Q (F0 m pc ls rest) (ad 10)) → xI D dA ad n0 Hs s.heap σ s.heap [] → ∀ ls : Array Slot, lv_has ls n (lv_args 0 av) → W p l e rm s m args below meth c s.heap [] 0 0 Q (F0 m 0 ls [])) :
    vq_Met l y (ws_ y cc n (some rt)) rm (va_Pc av (cU D dA ad n0 Hs σ)) (xQ (rvR ad) K (cU D dA ad n0 Hs) (cA ad)) (xX D dA ad n0 Hs E) mc ms (cA ad) := by
  refine vq_ofW (cc := cc) (maxL := n) (ret := some rt) hy rfl ?_
  intro p e s m args below meth c s₁ B hml hnt hv
  obtain ⟨rfl, hU⟩ := hv
  have hts := atoms_spec (ws := ws_ y cc n (some rt)) B.pre
  have hts : ∀ w ∈ lw_all, w.before _ s = true := fun w h => hts w (List.mem_cons_of_mem _ h)
  have hown : s.vm.findClass own = some m.cls := by rw [← ho]; exact findClass_of_methodNamed B.named
  have hr := B.returns
  have hlocks := B.notSynchronized
  have S : CallFix p m c cc n s av.toArray lw_all own := ⟨B.exec, B.bytes, hml, hown, hts⟩
  rw [lg_entry_eq]
  refine body p e s m _ below meth c _ ⟨S, hU.2, hA⟩ (name_of_methodNamed B.named B.method).1 (fun v σ H locs ls pc cells slots hk hI hcs hdg => W.widen hcs.1 hcs.2 (vq_ret (W.aret S.1 S.2.1 hr hrt (xrf_or _) (fun t ht hW => ⟨⟨v, σ, rfl, hk, by rw [ht]; exact hI.1, hU.2.warm hW⟩, hI.2.F ht⟩) hI.2.2.2 hdg hlocks))) ?_ ⟨hU.1, va_S.rf⟩ _ (lv_entry av hn)
  intro σ H locs ls pc cells slots rest hE hI hL hcs T hT X
  obtain ⟨cell, g1, g2, g3, -⟩ := (hI.1.1 10 _ hL).1 (by decide)
  have hcl : s.vm.findClass RX3 = some cell.cls := by rw [g2]; exact (hU.2.1.1 3 _ rfl).2.1
  obtain ⟨st1, hrun, hend, hW, hsm⟩ := X.leaveThrown (ad 10) (g := F0 m pc ls rest) rfl rfl rfl (fun x hx => (hnt x hx).elim) hlocks
  have hcell9 : (T.setFrames (.throwing (ad 10) :: below)).heap[ad 10]? = some cell := by
    show T.heap[ad 10]? = some cell
    rw [hT]; exact g1
  refine ⟨_, st1, .threw (ad 10), hrun, hend, Or.inr ⟨ad 10, rfl, RX3, cell, locs, ⟨rfl, rfl, ⟨σ, hE, hL, ?_, hU.2.warm hW⟩, hI.2.F hT⟩, hcell9, g3, hcl, hW, hsm.mono hcs.1 hcs.2, hI.2.2.2⟩⟩
  show cV D dA ad n0 Hs σ T.heap
  rw [hT]; exact hI.1
section CY
variable {p : Program} {l : Launch} {e : Env} {R : Room} {s : State} {m : MethodId} {args : Array Value} {below : List Frame} {meth : Method} {c : Code} {H : Heap} {locs : List Loc} {cells slots : Nat} {Q : State → Prop}
variable {cc : ByteArray} {nL : Nat} {own : String} {D : va_G} {dA : Nat → ClassId} {ad : Nat → Nat} {n0 : Nat} {Hs H0 : Heap} {σ : CS} {pc : Nat} {ls : Array Slot} {rest : List Value}
variable {y : MethodName} {bytes : ByteArray} {maxL mc ms index : Nat} {ret : Option FieldType} {rm : Room} {Qc : Array Value → State → Outcome → State → Prop} {XC : Addr → String → State → State → Prop} {As st : List Value}
theorem t_runV (hC : xC p m c cc nL s args own D dA ad n0 Hs) (hI : xI D dA ad n0 Hs H0 σ H locs) {C : String} {T : u_T} {N ci i : Nat} {ks : Nat → Nat × Nat} (hL : gK σ i = some (.inl (ci, N, ks))) (hc : vwCl[ci]? = some (C, T, N)) (hM : vq_Met l y (ws_ y bytes maxL ret) rm (va_Pc (.ref (ad i) :: As) (cU D dA ad n0 Hs σ)) Qc XC mc ms (cA ad)) (hw : GoodIn lw_all (wsV own index C y (ws_ y bytes maxL ret))) (n : Nat) (hd : y.cls = C ∧ y.cls ≠ "java/lang/invoke/MethodHandle" ∧ y.cls ≠ "java/lang/invoke/VarHandle" ∧ (parseMethodDescriptor y.desc).map (fun d => d.parameters.length) = some n) (hr0 : rm.cells = mc ∧ rm.slots = ms) (hR : rm.frames + 1 ≤ R.frames ∧ 8 + (maxL + 11) + rm.locals ≤ R.locals) (hn : As.length = n) (hsz : ls.size = nL) (hst : st = As.reverse ++ .ref (ad i) :: rest) (hroom : (rest.map fun v => v.category).sum ≤ 8) (hf : cells + mc ≤ R.cells ∧ slots + ms ≤ R.slots) (hdg : decode cc pc = .ok (.invokevirtual index, 3)) :
    vq_Run p l e R s m args below meth c H locs cells slots mc ms (F0 m pc ls st) rest (Qc (Value.ref (ad i) :: As).toArray) XC (cA ad) := by
  subst hst
  exact vq_runV hC.1 hM (cwV n hC.1.2.2.2.2 hw rfl hr0.1 hr0.2 hd hR) ⟨cU.blind, x_recv hC hI hL hc, x_pre hC hI _⟩ rfl hn hsz rfl (lv_room hroom) hdg hf
theorem t_call {ρ : Type} {rv : ρ → Option Value} {K : ρ → CS → Prop} {E : CS → Prop} {a : Array Value} (hr : vq_Run p l e R s m args below meth c H locs cells slots mc ms (F0 m pc ls st) rest (xQ rv K (cU D dA ad n0 Hs) (cA ad) a) (xX D dA ad n0 Hs E) (cA ad)) (hI : xI D dA ad n0 Hs H0 σ H locs)
    (kx : ∀ (σ1 : CS) (H1 : Heap) (locs1 : List Loc), E σ1 → gK σ1 10 = some kO3 → xI D dA ad n0 Hs H0 σ1 H1 locs1 → vq_W p l e R s m args below meth c H1 locs1 (cells + mc) (slots + ms) Q (F0 m pc ls rest) (ad 10))
    (kk : ∀ (r : ρ) (σ1 : CS) (H1 : Heap) (locs1 : List Loc), K r σ1 → xI D dA ad n0 Hs H0 σ1 H1 locs1 → W p l e R s m args below meth c H1 locs1 (cells + mc) (slots + ms) Q (F0 m (pc + 3) ls ((rv r).toList ++ rest))) : W p l e R s m args below meth c H locs cells slots Q (F0 m pc ls st) := by
  intro T hT X
  have hS := hI.2
  have key : ∀ (st₀ t T' : State) (L : List Loc), st₀.heap = H → T'.heap = t.heap → (∀ z ∈ L, cA ad z.base) → va_F (cA ad) st₀ t → va_S (cA ad) H0 T'.heap (locs ++ L) := by
    intro st₀ t T' L h0 e1 hL hF
    obtain ⟨hz, hk⟩ := hF
    rw [h0] at hz hk
    exact ⟨Nat.le_trans hS.1 (by rw [e1]; exact hz), fun q h1 h2 => by rw [e1, hk q (Nat.lt_of_lt_of_le h1 hS.1) h2]; exact hS.2.1 q h1 h2, fun q hq => by
      rcases List.mem_append.mp hq with h | h
      · exact hS.2.2 q h
      · exact hL q h⟩
  rcases hr T hT X with ⟨v, st₀, t, T', L, h0, X', hL, e1, e2, ⟨⟨r, u, hv, hp, hb⟩, hF⟩, stp⟩ | ⟨q, st₀, t, T', L, E', ce, h0, X', hL, e1, e2, ⟨hq, hE', ⟨u, hp, h10, hb⟩, hF⟩, hce, hcv, hcl, stp⟩
  · cases hv
    obtain ⟨t2, a1, b1⟩ := kk r u T'.heap (locs ++ L) hp ⟨by rw [e1]; exact hb.1, key st₀ t T' L h0 e1 hL hF⟩ T' rfl X'
    exact ⟨t2, stp t2 a1, b1⟩
  · subst hq
    obtain ⟨t2, a1, b1⟩ := kx u T'.heap (locs ++ L) hp h10 ⟨by rw [e1]; exact hb.1, key st₀ t T' L h0 e1 hL hF⟩ T' rfl X'
    exact ⟨t2, stp.trans a1, b1⟩
end CY
