abbrev PTV := CS → Nat → Nat → (Int64 → CS → Prop) → Prop
abbrev PTT := CS → Nat → Nat → (Int32 → CS → Prop) → Prop
/-- what a call of an abstract method needs of the receiver's own method -/
def MetA {ρ : Type} (l : Launch) (D : va_G) (dA : Nat → ClassId) (ad : Nat → Nat) (Hs : Heap) (x : MethodName) (ret : Option FieldType) (rv : ρ → Option Value) (fr lo : Nat) (P : CS → Nat → Nat → (ρ → CS → Prop) → Prop) : Prop :=
  ∀ (σ : CS) (ob mo : Nat) (K : ρ → CS → Prop), moOK mo → P σ ob mo K → ∃ (y : MethodName) (bytes : ByteArray) (maxL ci : Nat) (C : String) (T : u_T) (N : Nat) (ks : Nat → Nat × Nat) (rm : Room), gK σ ob = some (.inl (ci, N, ks)) ∧ vwCl[ci]? = some (C, T, N) ∧ Met l y (ws_ y bytes maxL ret) rm (va_Pc [.ref (ad ob), .ref (ad mo)] (cU D dA ad 1296 Hs σ)) (xQ rv K (cU D dA ad 1296 Hs) (cA ad)) 0 0 (cA ad) ∧ maxL ≤ 8 ∧ Cond.selects C x y ∈ lw_all ∧ Cond.instanceMethod y ∈ lw_all ∧ Cond.initialized y.cls ∈ lw_all ∧ Cond.code y bytes maxL ret ∈ lw_all ∧ rm.cells = 0 ∧ rm.slots = 0 ∧ rm.frames ≤ fr ∧ rm.locals ≤ lo
abbrev nAt : MethodName := ⟨"MendedThings$Value", "at", "(LMendedThings$Moment;)J"⟩
abbrev nHolds : MethodName := ⟨"MendedThings$Test", "holds", "(LMendedThings$Moment;)Z"⟩
abbrev MetV (l : Launch) (D : va_G) (dA : Nat → ClassId) (ad : Nat → Nat) (Hs : Heap) (fr lo : Nat) (P : PTV) : Prop := MetA l D dA ad Hs nAt (some .long) rvL fr lo P
abbrev MetT (l : Launch) (D : va_G) (dA : Nat → ClassId) (ad : Nat → Nat) (Hs : Heap) (fr lo : Nat) (P : PTT) : Prop := MetA l D dA ad Hs nHolds (some .boolean) rvI fr lo P
section CE
variable {p : Program} {l : Launch} {e : Env} {R : Room} {s : State} {m : MethodId} {args : Array Value} {below : List Frame} {meth : Method} {c : Code} {H : Heap} {locs : List Loc} {cells slots : Nat} {Q : State → Prop}
variable {cc : ByteArray} {nL : Nat} {own : String} {D : va_G} {dA : Nat → ClassId} {ad : Nat → Nat} {n0 : Nat} {Hs H0 : Heap} {σ : CS} {pc : Nat} {ls : Array Slot} {rest : List Value}
variable {y : MethodName} {bytes : ByteArray} {maxL mc ms index : Nat} {ret : Option FieldType} {rm : Room} {Qc : Array Value → State → Outcome → State → Prop} {As st : List Value}
theorem x_runNm (hC : xC p m c cc nL s args own D dA ad n0 Hs) (hI : xI D dA ad n0 Hs H0 σ H locs) {i : Nat} (hL : isNm σ i) (hM : Met l yX7_letter (ws_ yX7_letter bytes maxL ret) rm (va_Pc (.ref (ad i) :: As) (cU D dA ad n0 Hs σ)) Qc mc ms (cA ad)) (hq : Cond.methodLink own index yX7_letter ∈ lw_all) (hini : Cond.initialized yX7_letter.cls ∈ lw_all) (hcode : Cond.code yX7_letter bytes maxL ret ∈ lw_all) (hr0 : rm.cells = mc ∧ rm.slots = ms) (hR : rm.frames + 1 ≤ R.frames ∧ 8 + (maxL + 11) + rm.locals ≤ R.locals) (hn : As.length = 1) (hsz : ls.size = nL) (hst : st = As.reverse ++ .ref (ad i) :: rest) (hroom : (rest.map fun v => v.category).sum ≤ 8) (hf : cells + mc ≤ R.cells ∧ slots + ms ≤ R.slots) (hdg : decode cc pc = .ok (.invokevirtual index, 3)) :
    va_Run p l e R s m args below meth c H locs cells slots mc ms (F0 m pc ls st) rest (Qc (Value.ref (ad i) :: As).toArray) (cA ad) := by
  rcases hL with hL | hL | hL
  · exact x_runU hC hI hL rfl hM (lw_app (a := [.methodLink _ _ _, .sameMethod _ _ _ _, .selects _ _ _, .instanceMethod _, .initialized _]) (lw5 hq q1402 q1404 q1401 hini) (lw_meth hcode)) rfl 1 (by decide +kernel) hr0 hR hn hsz hst hroom hf hdg
  · exact x_runU hC hI hL rfl hM (lw_app (a := [.methodLink _ _ _, .sameMethod _ _ _ _, .selects _ _ _, .instanceMethod _, .initialized _]) (lw5 hq q1402 q1403 q1401 hini) (lw_meth hcode)) rfl 1 (by decide +kernel) hr0 hR hn hsz hst hroom hf hdg
  · exact x_runU hC hI hL rfl hM (lw_app (a := [.methodLink _ _ _, .sameMethod _ _ _ _, .selects _ _ _, .instanceMethod _, .initialized _]) (lw5 hq q1402 q1405 q1401 hini) (lw_meth hcode)) rfl 1 (by decide +kernel) hr0 hR hn hsz hst hroom hf hdg
theorem xc_A {ρ : Type} {rv : ρ → Option Value} {x : MethodName} {fr lo : Nat} {P : CS → Nat → Nat → (ρ → CS → Prop) → Prop} {ob mo : Nat} {K : ρ → CS → Prop} (hC : xC p m c cc nL s args own D dA ad 1296 Hs) (hI : xI D dA ad 1296 Hs H0 σ H locs) (hP : MetA l D dA ad Hs x ret rv fr lo P) (hm : moOK mo) (hT : P σ ob mo K) (hq : Cond.methodLink own index x ∈ lw_all) (hs : Cond.sameMethod x.cls x.cls x.name x.desc ∈ lw_all) (hz : Cond.declares x ∈ lw_tbl) (hd : x.cls ≠ "java/lang/invoke/MethodHandle" ∧ x.cls ≠ "java/lang/invoke/VarHandle" ∧ (parseMethodDescriptor x.desc).map (fun d => d.parameters.length) = some 1) (hR : fr + 1 ≤ R.frames ∧ 27 + lo ≤ R.locals) (hsz : ls.size = nL) (hroom : (rest.map fun v => v.category).sum ≤ 8) (hf : cells ≤ R.cells ∧ slots ≤ R.slots) (hdg : decode cc pc = .ok (.invokevirtual index, 3))
    (kk : ∀ (r : ρ) (σ1 : CS) (H1 : Heap) (locs1 : List Loc), K r σ1 → xI D dA ad 1296 Hs H0 σ1 H1 locs1 → W p l e R s m args below meth c H1 locs1 cells slots Q (F0 m (pc + 3) ls ((rv r).toList ++ rest))) : W p l e R s m args below meth c H locs cells slots Q (F0 m pc ls (.ref (ad mo) :: .ref (ad ob) :: rest)) := by
  obtain ⟨y, bytes, maxL, ci, C, T, N, ks, rm, h1, h2, h3, h4, h5, h6, h7, h8, h9, h10, h11, h12⟩ := hP σ ob mo K hm hT
  exact x_call (x_runA hC hI h1 h2 h3 (lw_app (a := [.methodLink _ _ _, .sameMethod _ _ _ _, .selects _ _ _, .instanceMethod _, .initialized _]) (lw5 hq hs h5 h6 h7) (lw_meth h8)) hz 1 hd ⟨h9, h10⟩ ⟨by omega, by omega⟩ rfl hsz rfl hroom hf hdg) hI kk
theorem xc_at {fr lo : Nat} {P : PTV} {ob mo : Nat} {K : Int64 → CS → Prop} (hC : xC p m c cc nL s args own D dA ad 1296 Hs) (hI : xI D dA ad 1296 Hs H0 σ H locs) (hP : MetV l D dA ad Hs fr lo P) (hm : moOK mo) (hT : P σ ob mo K) (hq : Cond.methodLink own index nAt ∈ lw_all) (hs : Cond.sameMethod nAt.cls nAt.cls nAt.name nAt.desc ∈ lw_all) (hR : fr + 1 ≤ R.frames ∧ 27 + lo ≤ R.locals) (hsz : ls.size = nL) (hroom : (rest.map fun v => v.category).sum ≤ 8) (hf : cells ≤ R.cells ∧ slots ≤ R.slots) (hdg : decode cc pc = .ok (.invokevirtual index, 3))
    (kk : ∀ (r : Int64) (σ1 : CS) (H1 : Heap) (locs1 : List Loc), K r σ1 → xI D dA ad 1296 Hs H0 σ1 H1 locs1 → W p l e R s m args below meth c H1 locs1 cells slots Q (F0 m (pc + 3) ls (.long r :: rest))) : W p l e R s m args below meth c H locs cells slots Q (F0 m pc ls (.ref (ad mo) :: .ref (ad ob) :: rest)) :=
  xc_A hC hI hP hm hT hq hs q1318 (by decide +kernel) hR hsz hroom hf hdg kk
theorem xc_holds {fr lo : Nat} {P : PTT} {ob mo : Nat} {K : Int32 → CS → Prop} (hC : xC p m c cc nL s args own D dA ad 1296 Hs) (hI : xI D dA ad 1296 Hs H0 σ H locs) (hP : MetT l D dA ad Hs fr lo P) (hm : moOK mo) (hT : P σ ob mo K) (hq : Cond.methodLink own index nHolds ∈ lw_all) (hs : Cond.sameMethod nHolds.cls nHolds.cls nHolds.name nHolds.desc ∈ lw_all) (hR : fr + 1 ≤ R.frames ∧ 27 + lo ≤ R.locals) (hsz : ls.size = nL) (hroom : (rest.map fun v => v.category).sum ≤ 8) (hf : cells ≤ R.cells ∧ slots ≤ R.slots) (hdg : decode cc pc = .ok (.invokevirtual index, 3))
    (kk : ∀ (r : Int32) (σ1 : CS) (H1 : Heap) (locs1 : List Loc), K r σ1 → xI D dA ad 1296 Hs H0 σ1 H1 locs1 → W p l e R s m args below meth c H1 locs1 cells slots Q (F0 m (pc + 3) ls (.int r :: rest))) : W p l e R s m args below meth c H locs cells slots Q (F0 m pc ls (.ref (ad mo) :: .ref (ad ob) :: rest)) :=
  xc_A hC hI hP hm hT hq hs q1298 (by decide +kernel) hR hsz hroom hf hdg kk
end CE
def U_X0_things (σ : CS) (K : Int32 → CS → Prop) : Prop := ∃ q1, (gR σ 0 0) = q1 + 1 ∧ (gK σ q1 = some kO1 ∧ (∃ q3, (gR σ q1 2) = q3 + 1 ∧ (gK σ q3 = some kO20 ∧ (U_J2_size σ q3 (fun r6 σ5 => (K r6 σ5))))))
def U_X0_trials (σ : CS) (K : Int32 → CS → Prop) : Prop := ∃ q1, (gR σ 0 0) = q1 + 1 ∧ (gK σ q1 = some kO1 ∧ (∃ q3, (gR σ q1 4) = q3 + 1 ∧ (gK σ q3 = some kO20 ∧ (U_J2_size σ q3 (fun r6 σ5 => (K r6 σ5))))))
def U_X0_thingOf (σ : CS) (x1 : Int32) (K : Nat → CS → Prop) : Prop := ∃ q1, (gR σ 0 0) = q1 + 1 ∧ (gK σ q1 = some kO1 ∧ (∃ q3, (gR σ q1 2) = q3 + 1 ∧ (gK σ q3 = some kO20 ∧ (U_J2_get σ q3 x1 (fun r6 σ5 => (∃ q7, r6 = q7 + 1 ∧ (isC "MendedThings$Thing" σ5 q7 ∧ (K (q7 + 1) σ5))))))))
def U_X0_menders (σ : CS) (K : Int32 → CS → Prop) : Prop := ∃ q1, (gR σ 0 0) = q1 + 1 ∧ (gK σ q1 = some kO1 ∧ (∃ q3, (gR σ q1 3) = q3 + 1 ∧ (gK σ q3 = some kO20 ∧ (U_J2_size σ q3 (fun r6 σ5 => (K r6 σ5))))))
def U_X0_menderOf (σ : CS) (x1 : Int32) (K : Nat → CS → Prop) : Prop := ∃ q1, (gR σ 0 0) = q1 + 1 ∧ (gK σ q1 = some kO1 ∧ (∃ q3, (gR σ q1 3) = q3 + 1 ∧ (gK σ q3 = some kO20 ∧ (U_J2_get σ q3 x1 (fun r6 σ5 => (∃ q7, r6 = q7 + 1 ∧ (isC "MendedThings$Mender" σ5 q7 ∧ (K (q7 + 1) σ5))))))))
def U_X5_asks_87 (K : Unit → CS → Prop) (ob : Nat) (x1 : Int32) (s0 : Int64) (s1 : Int32) (σ : CS) : Prop := vp_in s1 10 ∧ (∀ σ1 : CS, σ1 = wL σ 12 (Int32.toNatClampNeg s1) s0 → (vp_in x1 8 ∧ (vp_in 3 10 ∧ (∀ σ2 : CS, σ2 = wL σ1 12 (Int32.toNatClampNeg 3) (Int32.toInt64 (gI σ1 (ob + 2) (Int32.toNatClampNeg x1))) → (vp_in x1 8 ∧ (vp_in 4 10 ∧ (∀ σ3 : CS, σ3 = wL σ2 12 (Int32.toNatClampNeg 4) (Int32.toInt64 (gI σ2 (ob + 3) (Int32.toNatClampNeg x1))) → (vp_in 5 10 ∧ (∀ σ4 : CS, σ4 = wL σ3 12 (Int32.toNatClampNeg 5) (Int32.toInt64 (gI σ3 ob 0)) → (vp_in x1 8 ∧ (vp_in 6 10 ∧ (∀ σ5 : CS, σ5 = wL σ4 12 (Int32.toNatClampNeg 6) (Int32.toInt64 (gI σ4 (ob + 4) (Int32.toNatClampNeg x1))) → (K () σ5)))))))))))))
def U_X5_asks (σ : CS) (ob : Nat) (x1 : Int32) (K : Unit → CS → Prop) : Prop := U_X0_thingOf σ x1 (fun r7 σ6 => (∃ q8, r7 = q8 + 1 ∧ (gK σ6 q8 = some kO7 ∧ (vp_in 0 10 ∧ (∀ σ9 : CS, σ9 = wL σ6 12 (Int32.toNatClampNeg 0) (Int32.toInt64 (gI σ6 q8 1)) → (U_X0_thingOf σ9 x1 (fun r11 σ10 => (∃ q12, r11 = q12 + 1 ∧ (gK σ10 q12 = some kO7 ∧ (vp_in 1 10 ∧ (∀ σ13 : CS, σ13 = wL σ10 12 (Int32.toNatClampNeg 1) (Int32.toInt64 (gI σ10 q12 2)) → (((¬ x1 = (gI σ13 ob 9) → (U_X0_thingOf σ13 x1 (fun r15 σ14 => (∃ q16, r15 = q16 + 1 ∧ (gK σ14 q16 = some kO7 ∧ (U_X5_asks_87 K ob x1 (Int32.toInt64 (gI σ14 q16 3)) 2 σ14)))))) ∧ (x1 = (gI σ13 ob 9) → (U_X5_asks_87 K ob x1 (Int32.toInt64 (gI σ13 ob 10)) 2 σ13)))))))))))))))
def U_X5_holds (PV : PTV) (PT : PTT) (σ : CS) (ob : Nat) (x1 : Nat) (x2 : Int32) (K : Int32 → CS → Prop) : Prop := U_X5_asks σ ob x2 (fun _ σ1 => (PT σ1 x1 11 (fun r4 σ3 => (narrow .boolean (.int r4) = .int r4 ∧ K r4 σ3))))
def U_X0_holdsFor (PV : PTV) (PT : PTT) (σ : CS) (x1 : Int32) (x2 : Int32) (K : Int32 → CS → Prop) : Prop := ∃ q1, (gR σ 0 0) = q1 + 1 ∧ (gK σ q1 = some kO1 ∧ (∃ q3, (gR σ q1 4) = q3 + 1 ∧ (gK σ q3 = some kO20 ∧ (U_J2_get σ q3 x1 (fun r6 σ5 => (∃ q7, r6 = q7 + 1 ∧ (isC "MendedThings$Trial" σ5 q7 ∧ (gK σ5 q7 = some kO9 ∧ (∃ q8, (gR σ5 q7 1) = q8 + 1 ∧ (U_X5_holds PV PT σ5 16 q8 x2 (fun r11 σ10 => (narrow .boolean (.int r11) = .int r11 ∧ K r11 σ10))))))))))))
def U_X0_looked (PV : PTV) (PT : PTT) (σ : CS) (x1 : Int32) (x2 : Int64) (K : Int64 → CS → Prop) : Prop := ((¬ x1 = 0 → (K 0 σ)) ∧ (x1 = 0 → (((x2 < 0 → (K 0 σ)) ∧ (¬ x2 < 0 → (U_X0_trials σ (fun r2 σ1 => ((((Int32.toInt64 r2) ≤ x2 → (K 0 σ1)) ∧ (¬ (Int32.toInt64 r2) ≤ x2 → (U_X0_holdsFor PV PT σ1 (Int64.toInt32 x2) (gI σ1 0 17) (fun r4 σ3 => (((r4 = 0 → (K 0 σ3)) ∧ (¬ r4 = 0 → (K 1 σ3))))))))))))))))
def U_X16_at_21 (PV : PTV) (PT : PTT) (K : Int64 → CS → Prop) (ob : Nat) (x1 : Nat) : Nat → Int64 → Int32 → CS → Prop
  | 0 => fun _ _ _ => False
  | n + 1 => fun x2 x4 σ => gK σ ob = some kO13 ∧ (∃ q1, (gR σ ob 0) = q1 + 1 ∧ (gK σ q1 = some kO20 ∧ (U_J2_size σ q1 (fun r4 σ3 => (((r4 ≤ x4 → (K x2 σ3)) ∧ (¬ r4 ≤ x4 → (gK σ3 ob = some kO13 ∧ (∃ q5, (gR σ3 ob 1) = q5 + 1 ∧ (gK σ3 q5 = some kO22 ∧ (U_J15_charAt σ3 q5 x4 (fun r8 σ7 => (gK σ7 ob = some kO13 ∧ (∃ q9, (gR σ7 ob 0) = q9 + 1 ∧ (gK σ7 q9 = some kO20 ∧ (U_J2_get σ7 q9 x4 (fun r12 σ11 => (∃ q13, r12 = q13 + 1 ∧ (isC "MendedThings$Value" σ11 q13 ∧ (PV σ11 q13 x1 (fun r15 σ14 => (U_X16_two σ14 r8 x2 r15 (fun r17 σ16 => (U_X0_held σ16 r17 (fun r19 σ18 => (U_X16_at_21 PV PT K ob x1 n r19 (x4 + 1) σ18))))))))))))))))))))))))))
def U_X16_at (PV : PTV) (PT : PTT) (σ : CS) (ob : Nat) (x1 : Nat) (K : Int64 → CS → Prop) : Prop := gK σ ob = some kO13 ∧ (∃ q20, (gR σ ob 0) = q20 + 1 ∧ (gK σ q20 = some kO20 ∧ (U_J2_get σ q20 0 (fun r23 σ22 => (∃ q24, r23 = q24 + 1 ∧ (isC "MendedThings$Value" σ22 q24 ∧ (PV σ22 q24 x1 (fun r26 σ25 => (∃ n21, U_X16_at_21 PV PT K ob x1 n21 r26 1 σ25)))))))))
def U_X17_at (PV : PTV) (PT : PTT) (σ : CS) (ob : Nat) (x1 : Nat) (K : Int64 → CS → Prop) : Prop := gK σ ob = some kO14 ∧ (∃ q1, (gR σ ob 1) = q1 + 1 ∧ (PV σ q1 x1 (fun r4 σ3 => (gK σ3 ob = some kO14 ∧ (∃ q5, (gR σ3 ob 2) = q5 + 1 ∧ (PV σ3 q5 x1 (fun r8 σ7 => (gK σ7 ob = some kO14 ∧ (((r4 ≤ r8 → (((¬ (gI σ7 ob 0) = (0 : Int32) → (K r8 σ7)) ∧ ((gI σ7 ob 0) = (0 : Int32) → (K r4 σ7))))) ∧ (¬ r4 ≤ r8 → (((¬ (gI σ7 ob 0) = (1 : Int32) → (K r8 σ7)) ∧ ((gI σ7 ob 0) = (1 : Int32) → (K r4 σ7)))))))))))))))
def U_X18_at (σ : CS) (ob : Nat) (x1 : Nat) (K : Int64 → CS → Prop) : Prop := gK σ ob = some kO15 ∧ (K (gL σ ob 0) σ)
def U_X19_at (σ : CS) (ob : Nat) (x1 : Nat) (K : Int64 → CS → Prop) : Prop := gK σ ob = some kO16 ∧ (vp_in (gI σ ob 0) 10 ∧ (U_X0_held σ (gL σ (x1 + 1) (Int32.toNatClampNeg (gI σ ob 0))) (fun r2 σ1 => (K r2 σ1))))
def U_X20_at (PV : PTV) (PT : PTT) (σ : CS) (ob : Nat) (x1 : Nat) (K : Int64 → CS → Prop) : Prop := gK σ ob = some kO17 ∧ (gR σ ob 2 = 0 + 1 ∧ (gK σ ob = some kO17 ∧ (gK σ ob = some kO17 ∧ (∃ q1, (gR σ ob 1) = q1 + 1 ∧ (PV σ q1 x1 (fun r4 σ3 => (U_X0_looked PV PT σ3 (gI σ ob 0) r4 (fun r6 σ5 => (U_X0_held σ5 r6 (fun r8 σ7 => (K r8 σ7)))))))))))
def U_X12_holds_2 (PV : PTV) (PT : PTT) (K : Int32 → CS → Prop) (ob : Nat) (x1 : Nat) : Nat → Int32 → CS → Prop
  | 0 => fun _ _ => False
  | n + 1 => fun x2 σ => gK σ ob = some kO10 ∧ (∃ q1, (gR σ ob 0) = q1 + 1 ∧ (gK σ q1 = some kO20 ∧ (U_J2_size σ q1 (fun r4 σ3 => (((r4 ≤ x2 → (gK σ3 ob = some kO10 ∧ (narrow .boolean (.int (gI σ3 ob 1)) = .int (gI σ3 ob 1) ∧ K (gI σ3 ob 1) σ3))) ∧ (¬ r4 ≤ x2 → (gK σ3 ob = some kO10 ∧ (∃ q5, (gR σ3 ob 0) = q5 + 1 ∧ (gK σ3 q5 = some kO20 ∧ (U_J2_get σ3 q5 x2 (fun r8 σ7 => (∃ q9, r8 = q9 + 1 ∧ (isC "MendedThings$Test" σ7 q9 ∧ (PT σ7 q9 x1 (fun r11 σ10 => (gK σ10 ob = some kO10 ∧ (((r11 = (gI σ10 ob 1) → (U_X12_holds_2 PV PT K ob x1 n (x2 + 1) σ10)) ∧ (¬ r11 = (gI σ10 ob 1) → (gK σ10 ob = some kO10 ∧ (((¬ (gI σ10 ob 1) = (0 : Int32) → (K 0 σ10)) ∧ ((gI σ10 ob 1) = (0 : Int32) → (K 1 σ10)))))))))))))))))))))))))
def U_X12_holds (PV : PTV) (PT : PTT) (σ : CS) (ob : Nat) (x1 : Nat) (K : Int32 → CS → Prop) : Prop := ∃ n2, U_X12_holds_2 PV PT K ob x1 n2 0 σ
def U_X13_holds (PV : PTV) (PT : PTT) (σ : CS) (ob : Nat) (x1 : Nat) (K : Int32 → CS → Prop) : Prop := gK σ ob = some kO11 ∧ (∃ q1, (gR σ ob 0) = q1 + 1 ∧ (PT σ q1 x1 (fun r4 σ3 => (((¬ r4 = 0 → (K 0 σ3)) ∧ (r4 = 0 → (K 1 σ3)))))))
def U_X14_holds (σ : CS) (ob : Nat) (x1 : Nat) (K : Int32 → CS → Prop) : Prop := K 1 σ
def U_X21_holds (PV : PTV) (PT : PTT) (σ : CS) (ob : Nat) (x1 : Nat) (K : Int32 → CS → Prop) : Prop := gK σ ob = some kO18 ∧ (∃ q1, (gR σ ob 0) = q1 + 1 ∧ (PV σ q1 x1 (fun r4 σ3 => (gK σ3 ob = some kO18 ∧ (∃ q5, (gR σ3 ob 1) = q5 + 1 ∧ (PV σ3 q5 x1 (fun r8 σ7 => (gK σ7 ob = some kO18 ∧ (((¬ (gI σ7 ob 2) = (60 : Int32) → (gK σ7 ob = some kO18 ∧ (((¬ (gI σ7 ob 2) = (62 : Int32) → (((¬ r4 = r8 → (K 0 σ7)) ∧ (r4 = r8 → (K 1 σ7))))) ∧ ((gI σ7 ob 2) = (62 : Int32) → (((r4 ≤ r8 → (K 0 σ7)) ∧ (¬ r4 ≤ r8 → (K 1 σ7))))))))) ∧ ((gI σ7 ob 2) = (60 : Int32) → (((r8 ≤ r4 → (K 0 σ7)) ∧ (¬ r8 ≤ r4 → (K 1 σ7)))))))))))))))
theorem hdS_X0_held : yX0_held.cls ≠ "java/lang/invoke/MethodHandle" ∧ yX0_held.cls ≠ "java/lang/invoke/VarHandle" ∧ (parseMethodDescriptor yX0_held.desc).map (fun d => d.parameters.length) = some 1 := by decide +kernel
theorem hdS_X0_looked : yX0_looked.cls ≠ "java/lang/invoke/MethodHandle" ∧ yX0_looked.cls ≠ "java/lang/invoke/VarHandle" ∧ (parseMethodDescriptor yX0_looked.desc).map (fun d => d.parameters.length) = some 2 := by decide +kernel
theorem hdS_X0_thingOf : yX0_thingOf.cls ≠ "java/lang/invoke/MethodHandle" ∧ yX0_thingOf.cls ≠ "java/lang/invoke/VarHandle" ∧ (parseMethodDescriptor yX0_thingOf.desc).map (fun d => d.parameters.length) = some 1 := by decide +kernel
theorem hdS_X16_two : yX16_two.cls ≠ "java/lang/invoke/MethodHandle" ∧ yX16_two.cls ≠ "java/lang/invoke/VarHandle" ∧ (parseMethodDescriptor yX16_two.desc).map (fun d => d.parameters.length) = some 3 := by decide +kernel
theorem hdS_X5_holds : yX5_holds.cls ≠ "java/lang/invoke/MethodHandle" ∧ yX5_holds.cls ≠ "java/lang/invoke/VarHandle" ∧ (parseMethodDescriptor yX5_holds.desc).map (fun d => d.parameters.length) = some 2 := by decide +kernel
theorem hdV_J15_charAt : yJ15_charAt.cls = RJ15 ∧ yJ15_charAt.cls ≠ "java/lang/invoke/MethodHandle" ∧ yJ15_charAt.cls ≠ "java/lang/invoke/VarHandle" ∧ (parseMethodDescriptor yJ15_charAt.desc).map (fun d => d.parameters.length) = some 1 := by decide +kernel
theorem hdV_X0_holdsFor : yX0_holdsFor.cls = RX0 ∧ yX0_holdsFor.cls ≠ "java/lang/invoke/MethodHandle" ∧ yX0_holdsFor.cls ≠ "java/lang/invoke/VarHandle" ∧ (parseMethodDescriptor yX0_holdsFor.desc).map (fun d => d.parameters.length) = some 2 := by decide +kernel
theorem hdV_X0_trials : yX0_trials.cls = RX0 ∧ yX0_trials.cls ≠ "java/lang/invoke/MethodHandle" ∧ yX0_trials.cls ≠ "java/lang/invoke/VarHandle" ∧ (parseMethodDescriptor yX0_trials.desc).map (fun d => d.parameters.length) = some 0 := by decide +kernel
theorem hdV_X5_asks : yX5_asks.cls = RX5 ∧ yX5_asks.cls ≠ "java/lang/invoke/MethodHandle" ∧ yX5_asks.cls ≠ "java/lang/invoke/VarHandle" ∧ (parseMethodDescriptor yX5_asks.desc).map (fun d => d.parameters.length) = some 1 := by decide +kernel
set_option maxHeartbeats 4000000 in
set_option maxRecDepth 100000 in
theorem um_X0_things (l : Launch) (D : va_G) (dA : Nat → ClassId) (ad : Nat → Nat) (Hs : Heap) (hA : cAd ad 1296 Hs.size) (σ : CS) (K : Int32 → CS → Prop) (hT : U_X0_things σ K) : Met l yX0_things (ws_ yX0_things cX0_things 1 (some .int)) ({ frames := 2, cells := 0, slots := 0, locals := 32 }) (va_Pc [.ref (ad 0)] (cU D dA ad 1296 Hs σ)) (xQ rvI K (cU D dA ad 1296 Hs) (cA ad)) 0 0 (cA ad) := by
  refine xm_i hA (by decide) rfl (Nat.le_of_ble_eq_true rfl) ?_
  intro p e s m args below meth c Q hC hN hret hI ls hl
  have hx := hC.1.1
  have hb := hC.1.2.1
  have hB : 0 ≤ 0 ∧ 0 ≤ 0 := ⟨Nat.zero_le _, Nat.zero_le _⟩
  have hl : lv_has ls 1 [(0, .ref (ad 0))] := hl
  unfold U_X0_things at hT
  refine lv_aload_n hx hb dX0_things_0 rfl (lv_at hl 0 rfl) ?_
  refine xg0_0 (i := 0) hC hI (xst hI (Nat.le_of_ble_eq_true rfl) sl_0) q469 (fun _ h => h) dX0_things_1 ?_
  obtain ⟨q1, hq2, hT⟩ := hT
  refine W.eq (congrArg (fun z => F0 m 4 ls [z]) (xrq hq2)) ?_
  obtain ⟨hL, hT⟩ := hT
  refine xgN1_2 (i := q1) hC hI hL q246 (fun _ h => h) dX0_things_4 ?_
  obtain ⟨q3, hq4, hT⟩ := hT
  refine W.eq (congrArg (fun z => F0 m 7 ls [z]) (xrq hq4)) ?_
  obtain ⟨hL, hT⟩ := hT
  refine x_call5 (x_runF (i := q3) hC hI hL rfl (um_J2_size l D dA ad 1296 Hs hC.2.2 σ q3 _ hT) (lw_app (a := [.methodLink _ _ _, .selects _ _ _, .instanceMethod _, .initialized _]) (lw4 q1254 q744 q746 q162) (lw_meth q748)) hC.2.1.2.2.2.1.1 0 hdF_J2_size ⟨rfl, rfl⟩ ⟨Nat.le_of_ble_eq_true rfl, Nat.le_of_ble_eq_true rfl⟩ rfl hl.1 rfl (Nat.le_of_ble_eq_true rfl) hB dX0_things_7) hI (fun r6 σ5 H locs hT hI => ?_)
  refine W.eq (g2 := F0 m 12 ls [.int r6]) rfl ?_
  exact hret _ _ _ _ _ _ _ _ hT hI hB dX0_things_12
set_option maxHeartbeats 4000000 in
set_option maxRecDepth 100000 in
theorem um_X0_trials (l : Launch) (D : va_G) (dA : Nat → ClassId) (ad : Nat → Nat) (Hs : Heap) (hA : cAd ad 1296 Hs.size) (σ : CS) (K : Int32 → CS → Prop) (hT : U_X0_trials σ K) : Met l yX0_trials (ws_ yX0_trials cX0_trials 1 (some .int)) ({ frames := 2, cells := 0, slots := 0, locals := 32 }) (va_Pc [.ref (ad 0)] (cU D dA ad 1296 Hs σ)) (xQ rvI K (cU D dA ad 1296 Hs) (cA ad)) 0 0 (cA ad) := by
  refine xm_i hA (by decide) rfl (Nat.le_of_ble_eq_true rfl) ?_
  intro p e s m args below meth c Q hC hN hret hI ls hl
  have hx := hC.1.1
  have hb := hC.1.2.1
  have hB : 0 ≤ 0 ∧ 0 ≤ 0 := ⟨Nat.zero_le _, Nat.zero_le _⟩
  have hl : lv_has ls 1 [(0, .ref (ad 0))] := hl
  unfold U_X0_trials at hT
  refine lv_aload_n hx hb dX0_trials_0 rfl (lv_at hl 0 rfl) ?_
  refine xg0_0 (i := 0) hC hI (xst hI (Nat.le_of_ble_eq_true rfl) sl_0) q469 (fun _ h => h) dX0_trials_1 ?_
  obtain ⟨q1, hq2, hT⟩ := hT
  refine W.eq (congrArg (fun z => F0 m 4 ls [z]) (xrq hq2)) ?_
  obtain ⟨hL, hT⟩ := hT
  refine xgN1_4 (i := q1) hC hI hL q253 (fun _ h => h) dX0_trials_4 ?_
  obtain ⟨q3, hq4, hT⟩ := hT
  refine W.eq (congrArg (fun z => F0 m 7 ls [z]) (xrq hq4)) ?_
  obtain ⟨hL, hT⟩ := hT
  refine x_call5 (x_runF (i := q3) hC hI hL rfl (um_J2_size l D dA ad 1296 Hs hC.2.2 σ q3 _ hT) (lw_app (a := [.methodLink _ _ _, .selects _ _ _, .instanceMethod _, .initialized _]) (lw4 q1254 q744 q746 q162) (lw_meth q748)) hC.2.1.2.2.2.1.1 0 hdF_J2_size ⟨rfl, rfl⟩ ⟨Nat.le_of_ble_eq_true rfl, Nat.le_of_ble_eq_true rfl⟩ rfl hl.1 rfl (Nat.le_of_ble_eq_true rfl) hB dX0_trials_7) hI (fun r6 σ5 H locs hT hI => ?_)
  refine W.eq (g2 := F0 m 12 ls [.int r6]) rfl ?_
  exact hret _ _ _ _ _ _ _ _ hT hI hB dX0_trials_12
set_option maxHeartbeats 4000000 in
set_option maxRecDepth 100000 in
theorem um_X0_thingOf (l : Launch) (D : va_G) (dA : Nat → ClassId) (ad : Nat → Nat) (Hs : Heap) (hA : cAd ad 1296 Hs.size) (σ : CS) (x1 : Int32) (K : Nat → CS → Prop) (hT : U_X0_thingOf σ x1 K) : Met l yX0_thingOf (ws_ yX0_thingOf cX0_thingOf 2 (some (.object "MendedThings$Thing"))) ({ frames := 4, cells := 0, slots := 0, locals := 76 }) (va_Pc [.ref (ad 0), .int x1] (cU D dA ad 1296 Hs σ)) (xQ (rvR ad) K (cU D dA ad 1296 Hs) (cA ad)) 0 0 (cA ad) := by
  refine xm_r (Or.inl ⟨_, rfl⟩) hA (by decide) rfl (Nat.le_of_ble_eq_true rfl) ?_
  intro p e s m args below meth c Q hC hN hret hI ls hl
  have hx := hC.1.1
  have hb := hC.1.2.1
  have hB : 0 ≤ 0 ∧ 0 ≤ 0 := ⟨Nat.zero_le _, Nat.zero_le _⟩
  have hl : lv_has ls 2 [(0, .ref (ad 0)), (1, .int x1)] := hl
  unfold U_X0_thingOf at hT
  refine lv_aload_n hx hb dX0_thingOf_0 rfl (lv_at hl 0 rfl) ?_
  refine xg0_0 (i := 0) hC hI (xst hI (Nat.le_of_ble_eq_true rfl) sl_0) q469 (fun _ h => h) dX0_thingOf_1 ?_
  obtain ⟨q1, hq2, hT⟩ := hT
  refine W.eq (congrArg (fun z => F0 m 4 ls [z]) (xrq hq2)) ?_
  obtain ⟨hL, hT⟩ := hT
  refine xgN1_2 (i := q1) hC hI hL q246 (fun _ h => h) dX0_thingOf_4 ?_
  refine lv_iload_n hx hb dX0_thingOf_7 rfl (lv_at hl 1 rfl) ?_
  obtain ⟨q3, hq4, hT⟩ := hT
  refine W.eq (congrArg (fun z => F0 m 8 ls [.int x1, z]) (xrq hq4)) ?_
  obtain ⟨hL, hT⟩ := hT
  refine x_call5 (x_runF (i := q3) hC hI hL rfl (um_J2_get l D dA ad 1296 Hs hC.2.2 σ q3 x1 _ hT) (lw_app (a := [.methodLink _ _ _, .selects _ _ _, .instanceMethod _, .initialized _]) (lw4 q1295 q784 q786 q162) (lw_meth q788)) hC.2.1.2.2.2.1.2.1 1 hdF_J2_get ⟨rfl, rfl⟩ ⟨Nat.le_of_ble_eq_true rfl, Nat.le_of_ble_eq_true rfl⟩ rfl hl.1 rfl (Nat.le_of_ble_eq_true rfl) hB dX0_thingOf_8) hI (fun r6 σ5 H locs hT hI => ?_)
  refine W.eq (g2 := F0 m 13 ls [va_rf (rgR ad r6)]) rfl ?_
  obtain ⟨q7, hqe_q7, hT_q7⟩ := hT
  have hl_q7 := hl
  subst hqe_q7
  replace hT := hT_q7
  refine W.eq (g2 := F0 m 13 ls [.ref (ad q7)]) rfl ?_
  have hl : lv_has ls 2 [(0, .ref (ad 0)), (1, .int x1)] := hl_q7
  obtain ⟨hL, hT⟩ := hT
  refine x_cast0 (q := q7) hC hI hL q1296 dX0_thingOf_13 ?_
  exact hret (q7 + 1) _ _ _ _ _ _ _ hT hI hB dX0_thingOf_16
set_option maxHeartbeats 4000000 in
set_option maxRecDepth 100000 in
theorem um_X0_menders (l : Launch) (D : va_G) (dA : Nat → ClassId) (ad : Nat → Nat) (Hs : Heap) (hA : cAd ad 1296 Hs.size) (σ : CS) (K : Int32 → CS → Prop) (hT : U_X0_menders σ K) : Met l yX0_menders (ws_ yX0_menders cX0_menders 1 (some .int)) ({ frames := 2, cells := 0, slots := 0, locals := 32 }) (va_Pc [.ref (ad 0)] (cU D dA ad 1296 Hs σ)) (xQ rvI K (cU D dA ad 1296 Hs) (cA ad)) 0 0 (cA ad) := by
  refine xm_i hA (by decide) rfl (Nat.le_of_ble_eq_true rfl) ?_
  intro p e s m args below meth c Q hC hN hret hI ls hl
  have hx := hC.1.1
  have hb := hC.1.2.1
  have hB : 0 ≤ 0 ∧ 0 ≤ 0 := ⟨Nat.zero_le _, Nat.zero_le _⟩
  have hl : lv_has ls 1 [(0, .ref (ad 0))] := hl
  unfold U_X0_menders at hT
  refine lv_aload_n hx hb dX0_menders_0 rfl (lv_at hl 0 rfl) ?_
  refine xg0_0 (i := 0) hC hI (xst hI (Nat.le_of_ble_eq_true rfl) sl_0) q469 (fun _ h => h) dX0_menders_1 ?_
  obtain ⟨q1, hq2, hT⟩ := hT
  refine W.eq (congrArg (fun z => F0 m 4 ls [z]) (xrq hq2)) ?_
  obtain ⟨hL, hT⟩ := hT
  refine xgN1_3 (i := q1) hC hI hL q249 (fun _ h => h) dX0_menders_4 ?_
  obtain ⟨q3, hq4, hT⟩ := hT
  refine W.eq (congrArg (fun z => F0 m 7 ls [z]) (xrq hq4)) ?_
  obtain ⟨hL, hT⟩ := hT
  refine x_call5 (x_runF (i := q3) hC hI hL rfl (um_J2_size l D dA ad 1296 Hs hC.2.2 σ q3 _ hT) (lw_app (a := [.methodLink _ _ _, .selects _ _ _, .instanceMethod _, .initialized _]) (lw4 q1254 q744 q746 q162) (lw_meth q748)) hC.2.1.2.2.2.1.1 0 hdF_J2_size ⟨rfl, rfl⟩ ⟨Nat.le_of_ble_eq_true rfl, Nat.le_of_ble_eq_true rfl⟩ rfl hl.1 rfl (Nat.le_of_ble_eq_true rfl) hB dX0_menders_7) hI (fun r6 σ5 H locs hT hI => ?_)
  refine W.eq (g2 := F0 m 12 ls [.int r6]) rfl ?_
  exact hret _ _ _ _ _ _ _ _ hT hI hB dX0_menders_12
set_option maxHeartbeats 4000000 in
set_option maxRecDepth 100000 in
theorem um_X0_menderOf (l : Launch) (D : va_G) (dA : Nat → ClassId) (ad : Nat → Nat) (Hs : Heap) (hA : cAd ad 1296 Hs.size) (σ : CS) (x1 : Int32) (K : Nat → CS → Prop) (hT : U_X0_menderOf σ x1 K) : Met l yX0_menderOf (ws_ yX0_menderOf cX0_menderOf 2 (some (.object "MendedThings$Mender"))) ({ frames := 4, cells := 0, slots := 0, locals := 76 }) (va_Pc [.ref (ad 0), .int x1] (cU D dA ad 1296 Hs σ)) (xQ (rvR ad) K (cU D dA ad 1296 Hs) (cA ad)) 0 0 (cA ad) := by
  refine xm_r (Or.inl ⟨_, rfl⟩) hA (by decide) rfl (Nat.le_of_ble_eq_true rfl) ?_
  intro p e s m args below meth c Q hC hN hret hI ls hl
  have hx := hC.1.1
  have hb := hC.1.2.1
  have hB : 0 ≤ 0 ∧ 0 ≤ 0 := ⟨Nat.zero_le _, Nat.zero_le _⟩
  have hl : lv_has ls 2 [(0, .ref (ad 0)), (1, .int x1)] := hl
  unfold U_X0_menderOf at hT
  refine lv_aload_n hx hb dX0_menderOf_0 rfl (lv_at hl 0 rfl) ?_
  refine xg0_0 (i := 0) hC hI (xst hI (Nat.le_of_ble_eq_true rfl) sl_0) q469 (fun _ h => h) dX0_menderOf_1 ?_
  obtain ⟨q1, hq2, hT⟩ := hT
  refine W.eq (congrArg (fun z => F0 m 4 ls [z]) (xrq hq2)) ?_
  obtain ⟨hL, hT⟩ := hT
  refine xgN1_3 (i := q1) hC hI hL q249 (fun _ h => h) dX0_menderOf_4 ?_
  refine lv_iload_n hx hb dX0_menderOf_7 rfl (lv_at hl 1 rfl) ?_
  obtain ⟨q3, hq4, hT⟩ := hT
  refine W.eq (congrArg (fun z => F0 m 8 ls [.int x1, z]) (xrq hq4)) ?_
  obtain ⟨hL, hT⟩ := hT
  refine x_call5 (x_runF (i := q3) hC hI hL rfl (um_J2_get l D dA ad 1296 Hs hC.2.2 σ q3 x1 _ hT) (lw_app (a := [.methodLink _ _ _, .selects _ _ _, .instanceMethod _, .initialized _]) (lw4 q1295 q784 q786 q162) (lw_meth q788)) hC.2.1.2.2.2.1.2.1 1 hdF_J2_get ⟨rfl, rfl⟩ ⟨Nat.le_of_ble_eq_true rfl, Nat.le_of_ble_eq_true rfl⟩ rfl hl.1 rfl (Nat.le_of_ble_eq_true rfl) hB dX0_menderOf_8) hI (fun r6 σ5 H locs hT hI => ?_)
  refine W.eq (g2 := F0 m 13 ls [va_rf (rgR ad r6)]) rfl ?_
  obtain ⟨q7, hqe_q7, hT_q7⟩ := hT
  have hl_q7 := hl
  subst hqe_q7
  replace hT := hT_q7
  refine W.eq (g2 := F0 m 13 ls [.ref (ad q7)]) rfl ?_
  have hl : lv_has ls 2 [(0, .ref (ad 0)), (1, .int x1)] := hl_q7
  obtain ⟨hL, hT⟩ := hT
  refine x_cast0 (q := q7) hC hI hL q1440 dX0_menderOf_13 ?_
  exact hret (q7 + 1) _ _ _ _ _ _ _ hT hI hB dX0_menderOf_16
set_option maxHeartbeats 4000000 in
set_option maxRecDepth 100000 in
theorem um_X5_asks (l : Launch) (D : va_G) (dA : Nat → ClassId) (ad : Nat → Nat) (Hs : Heap) (hA : cAd ad 1296 Hs.size) (σ : CS) (ob : Nat) (x1 : Int32) (hp : stOK ob) (K : Unit → CS → Prop) (hT : U_X5_asks σ ob x1 K) : Met l yX5_asks (ws_ yX5_asks cX5_asks 2 (none)) ({ frames := 5, cells := 0, slots := 0, locals := 97 }) (va_Pc [.ref (ad ob), .int x1] (cU D dA ad 1296 Hs σ)) (xQ rvU K (cU D dA ad 1296 Hs) (cA ad)) 0 0 (cA ad) := by
  refine xm_v hA (by decide) rfl (Nat.le_of_ble_eq_true rfl) ?_
  intro p e s m args below meth c Q hC hN hret hI ls hl
  have hx := hC.1.1
  have hb := hC.1.2.1
  have hB : 0 ≤ 0 ∧ 0 ≤ 0 := ⟨Nat.zero_le _, Nat.zero_le _⟩
  have hl : lv_has ls 2 [(0, .ref (ad ob)), (1, .int x1)] := hl
  have w_87 : ∀ (x1 : Int32) (s0 : Int64) (s1 : Int32) (σ : CS) (H : Heap) (locs : List Loc) (ls : Array Slot), U_X5_asks_87 K ob x1 s0 s1 σ → xI D dA ad 1296 Hs s.heap σ H locs → lv_has ls 2 [(0, .ref (ad ob)), (1, .int x1)] → W p l e ({ frames := 5, cells := 0, slots := 0, locals := 97 }) s m args below meth c H locs 0 0 Q (F0 m 87 ls [.long s0, .int s1, .ref (ad 12)]) := by
    intro x1 s0 s1 σ H locs ls hT hI hl
    unfold U_X5_asks_87 at hT
    refine x_last (i := 12) hC hI (Nat.lt_of_lt_of_le (show _ < 1296 from (Nat.le_of_ble_eq_true rfl)) (by decide)) (xst hI (Nat.le_of_ble_eq_true rfl) sl_12) hT dX5_asks_87 (fun σ1 H locs hT hI => ?_)
    refine lv_aload_n hx hb dX5_asks_88 rfl (lv_at hl 0 rfl) ?_
    refine xg5_12 (i := ob) hC hI (xst hI (st_lt hp (d := 0) (by decide)) (sls_0 hp)) q434 (fun _ h => h) dX5_asks_89 ?_
    refine xgN0_6 (i := 0) hC hI (xst hI (Nat.le_of_ble_eq_true rfl) sl_0) q477 (fun _ h => h) dX5_asks_92 ?_
    refine xgN4_0 (i := 11) hC hI (xst hI (Nat.le_of_ble_eq_true rfl) sl_11) q397 (fun _ h => h) dX5_asks_95 ?_
    refine lv_iconst (v := 3) hx hb dX5_asks_98 (by decide) ?_
    refine lv_aload_n hx hb dX5_asks_99 rfl (lv_at hl 0 rfl) ?_
    refine xg5_3 (i := ob) hC hI (xst hI (st_lt hp (d := 0) (by decide)) (sls_0 hp)) q417 (fun _ h => h) dX5_asks_100 ?_
    refine lv_iload_n hx hb dX5_asks_103 rfl (lv_at hl 1 rfl) ?_
    refine x_iald (i := ob + 2) hC hI (xst hI (st_lt hp (d := 2) (by decide)) (sls_2 hp)) hT dX5_asks_104 (fun hT => ?_)
    refine lv_i2l hx hb dX5_asks_105 rfl ?_
    refine x_last (i := 12) hC hI (Nat.lt_of_lt_of_le (show _ < 1296 from (Nat.le_of_ble_eq_true rfl)) (by decide)) (xst hI (Nat.le_of_ble_eq_true rfl) sl_12) hT dX5_asks_106 (fun σ2 H locs hT hI => ?_)
    refine lv_aload_n hx hb dX5_asks_107 rfl (lv_at hl 0 rfl) ?_
    refine xg5_12 (i := ob) hC hI (xst hI (st_lt hp (d := 0) (by decide)) (sls_0 hp)) q434 (fun _ h => h) dX5_asks_108 ?_
    refine xgN0_6 (i := 0) hC hI (xst hI (Nat.le_of_ble_eq_true rfl) sl_0) q477 (fun _ h => h) dX5_asks_111 ?_
    refine xgN4_0 (i := 11) hC hI (xst hI (Nat.le_of_ble_eq_true rfl) sl_11) q397 (fun _ h => h) dX5_asks_114 ?_
    refine lv_iconst (v := 4) hx hb dX5_asks_117 (by decide) ?_
    refine lv_aload_n hx hb dX5_asks_118 rfl (lv_at hl 0 rfl) ?_
    refine xg5_4 (i := ob) hC hI (xst hI (st_lt hp (d := 0) (by decide)) (sls_0 hp)) q419 (fun _ h => h) dX5_asks_119 ?_
    refine lv_iload_n hx hb dX5_asks_122 rfl (lv_at hl 1 rfl) ?_
    refine x_iald (i := ob + 3) hC hI (xst hI (st_lt hp (d := 3) (by decide)) (sls_3 hp)) hT dX5_asks_123 (fun hT => ?_)
    refine lv_i2l hx hb dX5_asks_124 rfl ?_
    refine x_last (i := 12) hC hI (Nat.lt_of_lt_of_le (show _ < 1296 from (Nat.le_of_ble_eq_true rfl)) (by decide)) (xst hI (Nat.le_of_ble_eq_true rfl) sl_12) hT dX5_asks_125 (fun σ3 H locs hT hI => ?_)
    refine lv_aload_n hx hb dX5_asks_126 rfl (lv_at hl 0 rfl) ?_
    refine xg5_12 (i := ob) hC hI (xst hI (st_lt hp (d := 0) (by decide)) (sls_0 hp)) q434 (fun _ h => h) dX5_asks_127 ?_
    refine xgN0_6 (i := 0) hC hI (xst hI (Nat.le_of_ble_eq_true rfl) sl_0) q477 (fun _ h => h) dX5_asks_130 ?_
    refine xgN4_0 (i := 11) hC hI (xst hI (Nat.le_of_ble_eq_true rfl) sl_11) q397 (fun _ h => h) dX5_asks_133 ?_
    refine lv_iconst (v := 5) hx hb dX5_asks_136 (by decide) ?_
    refine lv_aload_n hx hb dX5_asks_137 rfl (lv_at hl 0 rfl) ?_
    refine xg5_0 (i := ob) hC hI (xst hI (st_lt hp (d := 0) (by decide)) (sls_0 hp)) q411 (fun _ h => h) dX5_asks_138 ?_
    refine lv_i2l hx hb dX5_asks_141 rfl ?_
    refine x_last (i := 12) hC hI (Nat.lt_of_lt_of_le (show _ < 1296 from (Nat.le_of_ble_eq_true rfl)) (by decide)) (xst hI (Nat.le_of_ble_eq_true rfl) sl_12) hT dX5_asks_142 (fun σ4 H locs hT hI => ?_)
    refine lv_aload_n hx hb dX5_asks_143 rfl (lv_at hl 0 rfl) ?_
    refine xg5_12 (i := ob) hC hI (xst hI (st_lt hp (d := 0) (by decide)) (sls_0 hp)) q434 (fun _ h => h) dX5_asks_144 ?_
    refine xgN0_6 (i := 0) hC hI (xst hI (Nat.le_of_ble_eq_true rfl) sl_0) q477 (fun _ h => h) dX5_asks_147 ?_
    refine xgN4_0 (i := 11) hC hI (xst hI (Nat.le_of_ble_eq_true rfl) sl_11) q397 (fun _ h => h) dX5_asks_150 ?_
    refine lv_bipush (v := 6) hx hb dX5_asks_153 (by decide) ?_
    refine lv_aload_n hx hb dX5_asks_155 rfl (lv_at hl 0 rfl) ?_
    refine xg5_5 (i := ob) hC hI (xst hI (st_lt hp (d := 0) (by decide)) (sls_0 hp)) q421 (fun _ h => h) dX5_asks_156 ?_
    refine lv_iload_n hx hb dX5_asks_159 rfl (lv_at hl 1 rfl) ?_
    refine x_iald (i := ob + 4) hC hI (xst hI (st_lt hp (d := 4) (by decide)) (sls_4 hp)) hT dX5_asks_160 (fun hT => ?_)
    refine lv_i2l hx hb dX5_asks_161 rfl ?_
    refine x_last (i := 12) hC hI (Nat.lt_of_lt_of_le (show _ < 1296 from (Nat.le_of_ble_eq_true rfl)) (by decide)) (xst hI (Nat.le_of_ble_eq_true rfl) sl_12) hT dX5_asks_162 (fun σ5 H locs hT hI => ?_)
    exact hret _ _ _ _ _ _ _ _ hT hI hB dX5_asks_163
  unfold U_X5_asks at hT
  refine lv_aload_n hx hb dX5_asks_0 rfl (lv_at hl 0 rfl) ?_
  refine xg5_12 (i := ob) hC hI (xst hI (st_lt hp (d := 0) (by decide)) (sls_0 hp)) q434 (fun _ h => h) dX5_asks_1 ?_
  refine xgN0_6 (i := 0) hC hI (xst hI (Nat.le_of_ble_eq_true rfl) sl_0) q477 (fun _ h => h) dX5_asks_4 ?_
  refine xgN4_0 (i := 11) hC hI (xst hI (Nat.le_of_ble_eq_true rfl) sl_11) q397 (fun _ h => h) dX5_asks_7 ?_
  refine lv_iconst (v := 0) hx hb dX5_asks_10 (by decide) ?_
  refine lv_aload_n hx hb dX5_asks_11 rfl (lv_at hl 0 rfl) ?_
  refine xg5_12 (i := ob) hC hI (xst hI (st_lt hp (d := 0) (by decide)) (sls_0 hp)) q434 (fun _ h => h) dX5_asks_12 ?_
  refine lv_iload_n hx hb dX5_asks_15 rfl (lv_at hl 1 rfl) ?_
  refine x_call (x_runVN (i := 0) hC hI (xst hI (Nat.le_of_ble_eq_true rfl) sl_0) rfl (um_X0_thingOf l D dA ad Hs hC.2.2 σ x1 _ hT) q1290 q1292 qs39 q158 q1293 1 hdS_X0_thingOf ⟨rfl, rfl⟩ ⟨Nat.le_of_ble_eq_true rfl, Nat.le_of_ble_eq_true rfl⟩ rfl hl.1 rfl (Nat.le_of_ble_eq_true rfl) hB dX5_asks_16) hI (fun r7 σ6 H locs hT hI => ?_)
  refine W.eq (g2 := F0 m 19 ls [va_rf (rgR ad r7), .int 0, .ref (ad 12)]) rfl ?_
  obtain ⟨q8, hqe_q8, hT_q8⟩ := hT
  have hl_q8 := hl
  subst hqe_q8
  replace hT := hT_q8
  refine W.eq (g2 := F0 m 19 ls [.ref (ad q8), .int 0, .ref (ad 12)]) rfl ?_
  have hl : lv_has ls 2 [(0, .ref (ad ob)), (1, .int x1)] := hl_q8
  obtain ⟨hL, hT⟩ := hT
  refine xgN7_1 (i := q8) hC hI hL q829 (fun _ h => h) dX5_asks_19 ?_
  refine lv_i2l hx hb dX5_asks_22 rfl ?_
  refine x_last (i := 12) hC hI (Nat.lt_of_lt_of_le (show _ < 1296 from (Nat.le_of_ble_eq_true rfl)) (by decide)) (xst hI (Nat.le_of_ble_eq_true rfl) sl_12) hT dX5_asks_23 (fun σ9 H locs hT hI => ?_)
  refine lv_aload_n hx hb dX5_asks_24 rfl (lv_at hl 0 rfl) ?_
  refine xg5_12 (i := ob) hC hI (xst hI (st_lt hp (d := 0) (by decide)) (sls_0 hp)) q434 (fun _ h => h) dX5_asks_25 ?_
  refine xgN0_6 (i := 0) hC hI (xst hI (Nat.le_of_ble_eq_true rfl) sl_0) q477 (fun _ h => h) dX5_asks_28 ?_
  refine xgN4_0 (i := 11) hC hI (xst hI (Nat.le_of_ble_eq_true rfl) sl_11) q397 (fun _ h => h) dX5_asks_31 ?_
  refine lv_iconst (v := 1) hx hb dX5_asks_34 (by decide) ?_
  refine lv_aload_n hx hb dX5_asks_35 rfl (lv_at hl 0 rfl) ?_
  refine xg5_12 (i := ob) hC hI (xst hI (st_lt hp (d := 0) (by decide)) (sls_0 hp)) q434 (fun _ h => h) dX5_asks_36 ?_
  refine lv_iload_n hx hb dX5_asks_39 rfl (lv_at hl 1 rfl) ?_
  refine x_call (x_runVN (i := 0) hC hI (xst hI (Nat.le_of_ble_eq_true rfl) sl_0) rfl (um_X0_thingOf l D dA ad Hs hC.2.2 σ9 x1 _ hT) q1290 q1292 qs39 q158 q1293 1 hdS_X0_thingOf ⟨rfl, rfl⟩ ⟨Nat.le_of_ble_eq_true rfl, Nat.le_of_ble_eq_true rfl⟩ rfl hl.1 rfl (Nat.le_of_ble_eq_true rfl) hB dX5_asks_40) hI (fun r11 σ10 H locs hT hI => ?_)
  refine W.eq (g2 := F0 m 43 ls [va_rf (rgR ad r11), .int 1, .ref (ad 12)]) rfl ?_
  obtain ⟨q12, hqe_q12, hT_q12⟩ := hT
  have hl_q12 := hl
  subst hqe_q12
  replace hT := hT_q12
  refine W.eq (g2 := F0 m 43 ls [.ref (ad q12), .int 1, .ref (ad 12)]) rfl ?_
  have hl : lv_has ls 2 [(0, .ref (ad ob)), (1, .int x1)] := hl_q12
  obtain ⟨hL, hT⟩ := hT
  refine xgN7_2 (i := q12) hC hI hL q832 (fun _ h => h) dX5_asks_43 ?_
  refine lv_i2l hx hb dX5_asks_46 rfl ?_
  refine x_last (i := 12) hC hI (Nat.lt_of_lt_of_le (show _ < 1296 from (Nat.le_of_ble_eq_true rfl)) (by decide)) (xst hI (Nat.le_of_ble_eq_true rfl) sl_12) hT dX5_asks_47 (fun σ13 H locs hT hI => ?_)
  refine lv_aload_n hx hb dX5_asks_48 rfl (lv_at hl 0 rfl) ?_
  refine xg5_12 (i := ob) hC hI (xst hI (st_lt hp (d := 0) (by decide)) (sls_0 hp)) q434 (fun _ h => h) dX5_asks_49 ?_
  refine xgN0_6 (i := 0) hC hI (xst hI (Nat.le_of_ble_eq_true rfl) sl_0) q477 (fun _ h => h) dX5_asks_52 ?_
  refine xgN4_0 (i := 11) hC hI (xst hI (Nat.le_of_ble_eq_true rfl) sl_11) q397 (fun _ h => h) dX5_asks_55 ?_
  refine lv_iconst (v := 2) hx hb dX5_asks_58 (by decide) ?_
  refine lv_iload_n hx hb dX5_asks_59 rfl (lv_at hl 1 rfl) ?_
  refine lv_aload_n hx hb dX5_asks_60 rfl (lv_at hl 0 rfl) ?_
  refine xg5_9 (i := ob) hC hI (xst hI (st_lt hp (d := 0) (by decide)) (sls_0 hp)) q429 (fun _ h => h) dX5_asks_61 ?_
  refine lv_icmp_ne (tgt := 75) hx hb dX5_asks_64 (by decide) (fun hc => ?_) (fun hc => ?_)
  · replace hT := hT.1 hc
    refine lv_aload_n hx hb dX5_asks_75 rfl (lv_at hl 0 rfl) ?_
    refine xg5_12 (i := ob) hC hI (xst hI (st_lt hp (d := 0) (by decide)) (sls_0 hp)) q434 (fun _ h => h) dX5_asks_76 ?_
    refine lv_iload_n hx hb dX5_asks_79 rfl (lv_at hl 1 rfl) ?_
    refine x_call (x_runVN (i := 0) hC hI (xst hI (Nat.le_of_ble_eq_true rfl) sl_0) rfl (um_X0_thingOf l D dA ad Hs hC.2.2 σ13 x1 _ hT) q1290 q1292 qs39 q158 q1293 1 hdS_X0_thingOf ⟨rfl, rfl⟩ ⟨Nat.le_of_ble_eq_true rfl, Nat.le_of_ble_eq_true rfl⟩ rfl hl.1 rfl (Nat.le_of_ble_eq_true rfl) hB dX5_asks_80) hI (fun r15 σ14 H locs hT hI => ?_)
    refine W.eq (g2 := F0 m 83 ls [va_rf (rgR ad r15), .int 2, .ref (ad 12)]) rfl ?_
    obtain ⟨q16, hqe_q16, hT_q16⟩ := hT
    have hl_q16 := hl
    subst hqe_q16
    replace hT := hT_q16
    refine W.eq (g2 := F0 m 83 ls [.ref (ad q16), .int 2, .ref (ad 12)]) rfl ?_
    have hl : lv_has ls 2 [(0, .ref (ad ob)), (1, .int x1)] := hl_q16
    obtain ⟨hL, hT⟩ := hT
    refine xgN7_3 (i := q16) hC hI hL q835 (fun _ h => h) dX5_asks_83 ?_
    refine lv_i2l hx hb dX5_asks_86 rfl ?_
    exact w_87 x1 (Int32.toInt64 (gI σ14 q16 3)) 2 σ14 _ _ _ hT hI (lv_sub hl [0, 1] rfl)
  · replace hT := hT.2 hc
    refine lv_aload_n hx hb dX5_asks_67 rfl (lv_at hl 0 rfl) ?_
    refine xg5_10 (i := ob) hC hI (xst hI (st_lt hp (d := 0) (by decide)) (sls_0 hp)) q431 (fun _ h => h) dX5_asks_68 ?_
    refine lv_i2l hx hb dX5_asks_71 rfl ?_
    refine lv_goto (tgt := 87) hx hb dX5_asks_72 (by decide) ?_
    exact w_87 x1 (Int32.toInt64 (gI σ13 ob 10)) 2 σ13 _ _ _ hT hI (lv_sub hl [0, 1] rfl)
set_option maxHeartbeats 4000000 in
set_option maxRecDepth 100000 in
theorem um_X5_holds (l : Launch) (D : va_G) (dA : Nat → ClassId) (ad : Nat → Nat) (Hs : Heap) (hA : cAd ad 1296 Hs.size) (fr lo : Nat) (PV : PTV) (PT : PTT) (hPV : MetV l D dA ad Hs fr lo PV) (hPT : MetT l D dA ad Hs fr lo PT) (σ : CS) (ob : Nat) (x1 : Nat) (x2 : Int32) (hp : stOK ob) (K : Int32 → CS → Prop) (hT : U_X5_holds PV PT σ ob x1 x2 K) : Met l yX5_holds (ws_ yX5_holds cX5_holds 3 (some .boolean)) ({ frames := 6 + fr, cells := 0, slots := 0, locals := 118 + lo }) (va_Pc [.ref (ad ob), .ref (ad x1), .int x2] (cU D dA ad 1296 Hs σ)) (xQ rvI K (cU D dA ad 1296 Hs) (cA ad)) 0 0 (cA ad) := by
  refine xm_z hA (by decide) rfl (Nat.le_of_ble_eq_true rfl) ?_
  intro p e s m args below meth c Q hC hN hret hI ls hl
  have hx := hC.1.1
  have hb := hC.1.2.1
  have hB : 0 ≤ 0 ∧ 0 ≤ 0 := ⟨Nat.zero_le _, Nat.zero_le _⟩
  have hl : lv_has ls 3 [(0, .ref (ad ob)), (1, .ref (ad x1)), (2, .int x2)] := hl
  unfold U_X5_holds at hT
  refine lv_aload_n hx hb dX5_holds_0 rfl (lv_at hl 0 rfl) ?_
  refine lv_iload_n hx hb dX5_holds_1 rfl (lv_at hl 2 rfl) ?_
  refine x_call (x_runV (i := ob) hC hI (xst hI (st_lt hp (d := 0) (by decide)) (sls_0 hp)) rfl (um_X5_asks l D dA ad Hs hC.2.2 σ ob x2 hp _ hT) (lw_V q1286 q1288 qs38 q169 q1289) 1 hdV_X5_asks ⟨rfl, rfl⟩ (by constructor <;> (dsimp only; omega)) rfl hl.1 rfl (Nat.le_of_ble_eq_true rfl) hB dX5_holds_2) hI (fun _ σ1 H locs hT hI => ?_)
  refine W.eq (g2 := F0 m 5 ls []) rfl ?_
  refine lv_aload_n hx hb dX5_holds_5 rfl (lv_at hl 1 rfl) ?_
  refine lv_aload_n hx hb dX5_holds_6 rfl (lv_at hl 0 rfl) ?_
  refine xg5_12 (i := ob) hC hI (xst hI (st_lt hp (d := 0) (by decide)) (sls_0 hp)) q434 (fun _ h => h) dX5_holds_7 ?_
  refine xgN0_6 (i := 0) hC hI (xst hI (Nat.le_of_ble_eq_true rfl) sl_0) q477 (fun _ h => h) dX5_holds_10 ?_
  refine xc_holds hC hI hPT (Or.inl rfl) hT q1297 q1299 (by constructor <;> (dsimp only; omega)) hl.1 (Nat.le_of_ble_eq_true rfl) hB dX5_holds_13 (fun r4 σ3 H locs hT hI => ?_)
  exact hret _ _ _ _ _ _ _ _ hT.1 hT.2 hI hB dX5_holds_16
set_option maxHeartbeats 4000000 in
set_option maxRecDepth 100000 in
theorem um_X0_holdsFor (l : Launch) (D : va_G) (dA : Nat → ClassId) (ad : Nat → Nat) (Hs : Heap) (hA : cAd ad 1296 Hs.size) (fr lo : Nat) (PV : PTV) (PT : PTT) (hPV : MetV l D dA ad Hs fr lo PV) (hPT : MetT l D dA ad Hs fr lo PT) (σ : CS) (x1 : Int32) (x2 : Int32) (K : Int32 → CS → Prop) (hT : U_X0_holdsFor PV PT σ x1 x2 K) : Met l yX0_holdsFor (ws_ yX0_holdsFor cX0_holdsFor 3 (some .boolean)) ({ frames := 7 + fr, cells := 0, slots := 0, locals := 140 + lo }) (va_Pc [.ref (ad 0), .int x1, .int x2] (cU D dA ad 1296 Hs σ)) (xQ rvI K (cU D dA ad 1296 Hs) (cA ad)) 0 0 (cA ad) := by
  refine xm_z hA (by decide) rfl (Nat.le_of_ble_eq_true rfl) ?_
  intro p e s m args below meth c Q hC hN hret hI ls hl
  have hx := hC.1.1
  have hb := hC.1.2.1
  have hB : 0 ≤ 0 ∧ 0 ≤ 0 := ⟨Nat.zero_le _, Nat.zero_le _⟩
  have hl : lv_has ls 3 [(0, .ref (ad 0)), (1, .int x1), (2, .int x2)] := hl
  unfold U_X0_holdsFor at hT
  refine lv_aload_n hx hb dX0_holdsFor_0 rfl (lv_at hl 0 rfl) ?_
  refine xg0_9 (i := 0) hC hI (xst hI (Nat.le_of_ble_eq_true rfl) sl_0) q481 (fun _ h => h) dX0_holdsFor_1 ?_
  refine lv_aload_n hx hb dX0_holdsFor_4 rfl (lv_at hl 0 rfl) ?_
  refine xg0_0 (i := 0) hC hI (xst hI (Nat.le_of_ble_eq_true rfl) sl_0) q469 (fun _ h => h) dX0_holdsFor_5 ?_
  obtain ⟨q1, hq2, hT⟩ := hT
  refine W.eq (congrArg (fun z => F0 m 8 ls [z, .ref (ad 16)]) (xrq hq2)) ?_
  obtain ⟨hL, hT⟩ := hT
  refine xgN1_4 (i := q1) hC hI hL q253 (fun _ h => h) dX0_holdsFor_8 ?_
  refine lv_iload_n hx hb dX0_holdsFor_11 rfl (lv_at hl 1 rfl) ?_
  obtain ⟨q3, hq4, hT⟩ := hT
  refine W.eq (congrArg (fun z => F0 m 12 ls [.int x1, z, .ref (ad 16)]) (xrq hq4)) ?_
  obtain ⟨hL, hT⟩ := hT
  refine x_call5 (x_runF (i := q3) hC hI hL rfl (um_J2_get l D dA ad 1296 Hs hC.2.2 σ q3 x1 _ hT) (lw_app (a := [.methodLink _ _ _, .selects _ _ _, .instanceMethod _, .initialized _]) (lw4 q1295 q784 q786 q162) (lw_meth q788)) hC.2.1.2.2.2.1.2.1 1 hdF_J2_get ⟨rfl, rfl⟩ (by constructor <;> (dsimp only; omega)) rfl hl.1 rfl (Nat.le_of_ble_eq_true rfl) hB dX0_holdsFor_12) hI (fun r6 σ5 H locs hT hI => ?_)
  refine W.eq (g2 := F0 m 17 ls [va_rf (rgR ad r6), .ref (ad 16)]) rfl ?_
  obtain ⟨q7, hqe_q7, hT_q7⟩ := hT
  have hl_q7 := hl
  subst hqe_q7
  replace hT := hT_q7
  refine W.eq (g2 := F0 m 17 ls [.ref (ad q7), .ref (ad 16)]) rfl ?_
  have hl : lv_has ls 3 [(0, .ref (ad 0)), (1, .int x1), (2, .int x2)] := hl_q7
  obtain ⟨hL, hT⟩ := hT
  refine x_cast0 (q := q7) hC hI hL q1357 dX0_holdsFor_17 ?_
  obtain ⟨hL, hT⟩ := hT
  refine xgN9_1 (i := q7) hC hI hL q1218 (fun _ h => h) dX0_holdsFor_20 ?_
  refine lv_iload_n hx hb dX0_holdsFor_23 rfl (lv_at hl 2 rfl) ?_
  obtain ⟨q8, hq9, hT⟩ := hT
  refine W.eq (congrArg (fun z => F0 m 24 ls [.int x2, z, .ref (ad 16)]) (xrq hq9)) ?_
  refine x_call (x_runVN (i := 16) hC hI (xst hI (st_lt (Or.inl rfl : stOK 16) (d := 0) (by decide)) (sls_0 (Or.inl rfl : stOK 16))) rfl (um_X5_holds l D dA ad Hs hC.2.2 fr lo PV PT hPV hPT σ5 16 q8 x2 (Or.inl rfl : stOK 16) _ hT) q1358 q1284 qs37 q169 q1285 2 hdS_X5_holds ⟨rfl, rfl⟩ (by constructor <;> (dsimp only; omega)) rfl hl.1 rfl (Nat.le_of_ble_eq_true rfl) hB dX0_holdsFor_24) hI (fun r11 σ10 H locs hT hI => ?_)
  refine W.eq (g2 := F0 m 27 ls [.int r11]) rfl ?_
  exact hret _ _ _ _ _ _ _ _ hT.1 hT.2 hI hB dX0_holdsFor_27
set_option maxHeartbeats 4000000 in
set_option maxRecDepth 100000 in
theorem um_X0_looked (l : Launch) (D : va_G) (dA : Nat → ClassId) (ad : Nat → Nat) (Hs : Heap) (hA : cAd ad 1296 Hs.size) (fr lo : Nat) (PV : PTV) (PT : PTT) (hPV : MetV l D dA ad Hs fr lo PV) (hPT : MetT l D dA ad Hs fr lo PT) (σ : CS) (x1 : Int32) (x2 : Int64) (K : Int64 → CS → Prop) (hT : U_X0_looked PV PT σ x1 x2 K) : Met l yX0_looked (ws_ yX0_looked cX0_looked 4 (some .long)) ({ frames := 8 + fr, cells := 0, slots := 0, locals := 162 + lo }) (va_Pc [.ref (ad 0), .int x1, .long x2] (cU D dA ad 1296 Hs σ)) (xQ rvL K (cU D dA ad 1296 Hs) (cA ad)) 0 0 (cA ad) := by
  refine xm_l hA (by decide) rfl (Nat.le_of_ble_eq_true rfl) ?_
  intro p e s m args below meth c Q hC hN hret hI ls hl
  have hx := hC.1.1
  have hb := hC.1.2.1
  have hB : 0 ≤ 0 ∧ 0 ≤ 0 := ⟨Nat.zero_le _, Nat.zero_le _⟩
  have hl : lv_has ls 4 [(0, .ref (ad 0)), (1, .int x1), (2, .long x2)] := hl
  unfold U_X0_looked at hT
  refine lv_iload_n hx hb dX0_looked_0 rfl (lv_at hl 1 rfl) ?_
  refine lv_if_ne (tgt := 37) hx hb dX0_looked_1 (by decide) (fun hc => ?_) (fun hc => ?_)
  · replace hT := hT.1 hc
    refine lv_lconst (v := 0) hx hb dX0_looked_37 (by decide) ?_
    exact hret _ _ _ _ _ _ _ _ hT hI hB dX0_looked_38
  · replace hT := hT.2 hc
    refine lv_lload_n hx hb dX0_looked_4 rfl (lv_at hl 2 rfl) ?_
    refine lv_lconst (v := 0) hx hb dX0_looked_5 (by decide) ?_
    refine rl_lt (tgt := 37) hx hb dX0_looked_6 dX0_looked_7 (by decide) (fun hc => ?_) (fun hc => ?_)
    · replace hT := hT.1 hc
      refine lv_lconst (v := 0) hx hb dX0_looked_37 (by decide) ?_
      exact hret _ _ _ _ _ _ _ _ hT hI hB dX0_looked_38
    · replace hT := hT.2 hc
      refine lv_lload_n hx hb dX0_looked_10 rfl (lv_at hl 2 rfl) ?_
      refine lv_aload_n hx hb dX0_looked_11 rfl (lv_at hl 0 rfl) ?_
      refine x_call (x_runV (i := 0) hC hI (xst hI (Nat.le_of_ble_eq_true rfl) sl_0) rfl (um_X0_trials l D dA ad Hs hC.2.2 σ _ hT) (lw_V q1259 q1261 qs36 q158 q1262) 0 hdV_X0_trials ⟨rfl, rfl⟩ (by constructor <;> (dsimp only; omega)) rfl hl.1 rfl (Nat.le_of_ble_eq_true rfl) hB dX0_looked_12) hI (fun r2 σ1 H locs hT hI => ?_)
      refine W.eq (g2 := F0 m 15 ls [.int r2, .long x2]) rfl ?_
      refine lv_i2l hx hb dX0_looked_15 rfl ?_
      refine rl_ge (tgt := 37) hx hb dX0_looked_16 dX0_looked_17 (by decide) (fun hc => ?_) (fun hc => ?_)
      · replace hT := hT.1 hc
        refine lv_lconst (v := 0) hx hb dX0_looked_37 (by decide) ?_
        exact hret _ _ _ _ _ _ _ _ hT hI hB dX0_looked_38
      · replace hT := hT.2 hc
        refine lv_aload_n hx hb dX0_looked_20 rfl (lv_at hl 0 rfl) ?_
        refine lv_lload_n hx hb dX0_looked_21 rfl (lv_at hl 2 rfl) ?_
        refine lv_l2i hx hb dX0_looked_22 rfl ?_
        refine lv_aload_n hx hb dX0_looked_23 rfl (lv_at hl 0 rfl) ?_
        refine xg0_17 (i := 0) hC hI (xst hI (Nat.le_of_ble_eq_true rfl) sl_0) q489 (fun _ h => h) dX0_looked_24 ?_
        refine x_call (x_runV (i := 0) hC hI (xst hI (Nat.le_of_ble_eq_true rfl) sl_0) rfl (um_X0_holdsFor l D dA ad Hs hC.2.2 fr lo PV PT hPV hPT σ1 (Int64.toInt32 x2) (gI σ1 0 17) _ hT) (lw_V q1353 q1355 qs41 q158 q1356) 2 hdV_X0_holdsFor ⟨rfl, rfl⟩ (by constructor <;> (dsimp only; omega)) rfl hl.1 rfl (Nat.le_of_ble_eq_true rfl) hB dX0_looked_27) hI (fun r4 σ3 H locs hT hI => ?_)
        refine W.eq (g2 := F0 m 30 ls [.int r4]) rfl ?_
        refine lv_if_eq (tgt := 37) hx hb dX0_looked_30 (by decide) (fun hc => ?_) (fun hc => ?_)
        · replace hT := hT.1 hc
          refine lv_lconst (v := 0) hx hb dX0_looked_37 (by decide) ?_
          exact hret _ _ _ _ _ _ _ _ hT hI hB dX0_looked_38
        · replace hT := hT.2 hc
          refine lv_lconst (v := 1) hx hb dX0_looked_33 (by decide) ?_
          refine lv_goto (tgt := 38) hx hb dX0_looked_34 (by decide) ?_
          exact hret _ _ _ _ _ _ _ _ hT hI hB dX0_looked_38
set_option maxHeartbeats 4000000 in
set_option maxRecDepth 100000 in
theorem um_X16_at (l : Launch) (D : va_G) (dA : Nat → ClassId) (ad : Nat → Nat) (Hs : Heap) (hA : cAd ad 1296 Hs.size) (fr lo : Nat) (PV : PTV) (PT : PTT) (hPV : MetV l D dA ad Hs fr lo PV) (hPT : MetT l D dA ad Hs fr lo PT) (σ : CS) (ob : Nat) (x1 : Nat) (hx1 : moOK x1) (K : Int64 → CS → Prop) (hT : U_X16_at PV PT σ ob x1 K) : Met l yX16_at (ws_ yX16_at cX16_at 5 (some .long)) ({ frames := 5 + fr, cells := 0, slots := 0, locals := 100 + lo }) (va_Pc [.ref (ad ob), .ref (ad x1)] (cU D dA ad 1296 Hs σ)) (xQ rvL K (cU D dA ad 1296 Hs) (cA ad)) 0 0 (cA ad) := by
  refine xm_l hA (by decide) rfl (Nat.le_of_ble_eq_true rfl) ?_
  intro p e s m args below meth c Q hC hN hret hI ls hl
  have hx := hC.1.1
  have hb := hC.1.2.1
  have hB : 0 ≤ 0 ∧ 0 ≤ 0 := ⟨Nat.zero_le _, Nat.zero_le _⟩
  have hl : lv_has ls 5 [(0, .ref (ad ob)), (1, .ref (ad x1))] := hl
  have w_21 : ∀ (n : Nat) (x2 : Int64) (x4 : Int32) (σ : CS) (H : Heap) (locs : List Loc) (ls : Array Slot), U_X16_at_21 PV PT K ob x1 n x2 x4 σ → xI D dA ad 1296 Hs s.heap σ H locs → lv_has ls 5 [(0, .ref (ad ob)), (1, .ref (ad x1)), (2, .long x2), (4, .int x4)] → W p l e ({ frames := 5 + fr, cells := 0, slots := 0, locals := 100 + lo }) s m args below meth c H locs 0 0 Q (F0 m 21 ls []) := by
    intro n
    induction n with
    | zero => intro x2 x4 σ H locs ls hT; exact hT.elim
    | succ n ih =>
      intro x2 x4 σ H locs ls hT hI hl
      unfold U_X16_at_21 at hT
      refine lv_iload hx hb dX16_at_21 (lv_at hl 3 rfl) ?_
      refine lv_aload_n hx hb dX16_at_23 rfl (lv_at hl 0 rfl) ?_
      obtain ⟨hL, hT⟩ := hT
      refine xg13_0 (i := ob) hC hI hL q1046 (fun _ h => h) dX16_at_24 ?_
      obtain ⟨q1, hq2, hT⟩ := hT
      refine W.eq (congrArg (fun z => F0 m 27 ls [z, .int x4]) (xrq hq2)) ?_
      obtain ⟨hL, hT⟩ := hT
      refine x_call5 (x_runF (i := q1) hC hI hL rfl (um_J2_size l D dA ad 1296 Hs hC.2.2 σ q1 _ hT) (lw_app (a := [.methodLink _ _ _, .selects _ _ _, .instanceMethod _, .initialized _]) (lw4 q1361 q744 q746 q162) (lw_meth q748)) hC.2.1.2.2.2.1.1 0 hdF_J2_size ⟨rfl, rfl⟩ (by constructor <;> (dsimp only; omega)) rfl hl.1 rfl (Nat.le_of_ble_eq_true rfl) hB dX16_at_27) hI (fun r4 σ3 H locs hT hI => ?_)
      refine W.eq (g2 := F0 m 32 ls [.int r4, .int x4]) rfl ?_
      refine lv_icmp_ge (tgt := 76) hx hb dX16_at_32 (by decide) (fun hc => ?_) (fun hc => ?_)
      · replace hT := hT.1 hc
        refine lv_lload_n hx hb dX16_at_76 rfl (lv_at hl 2 rfl) ?_
        exact hret _ _ _ _ _ _ _ _ hT hI hB dX16_at_77
      · replace hT := hT.2 hc
        refine lv_aload_n hx hb dX16_at_35 rfl (lv_at hl 0 rfl) ?_
        obtain ⟨hL, hT⟩ := hT
        refine xg13_1 (i := ob) hC hI hL q1047 (fun _ h => h) dX16_at_36 ?_
        refine lv_iload hx hb dX16_at_39 (lv_at hl 3 rfl) ?_
        obtain ⟨q5, hq6, hT⟩ := hT
        refine W.eq (congrArg (fun z => F0 m 41 ls [.int x4, z]) (xrq hq6)) ?_
        obtain ⟨hL, hT⟩ := hT
        refine x_call (x_runV (i := q5) hC hI hL rfl (um_J15_charAt l D dA ad 1296 Hs hC.2.2 σ3 q5 x4 _ hT) (lw_V q1362 q1363 q1364 q191 q1365) 1 hdV_J15_charAt ⟨rfl, rfl⟩ (by constructor <;> (dsimp only; omega)) rfl hl.1 rfl (Nat.le_of_ble_eq_true rfl) hB dX16_at_41) hI (fun r8 σ7 H locs hT hI => ?_)
        refine W.eq (g2 := F0 m 44 ls [.int r8]) rfl ?_
        refine lv_lload_n hx hb dX16_at_44 rfl (lv_at hl 2 rfl) ?_
        refine lv_aload_n hx hb dX16_at_45 rfl (lv_at hl 0 rfl) ?_
        obtain ⟨hL, hT⟩ := hT
        refine xg13_0 (i := ob) hC hI hL q1046 (fun _ h => h) dX16_at_46 ?_
        refine lv_iload hx hb dX16_at_49 (lv_at hl 3 rfl) ?_
        obtain ⟨q9, hq10, hT⟩ := hT
        refine W.eq (congrArg (fun z => F0 m 51 ls [.int x4, z, .long x2, .int r8]) (xrq hq10)) ?_
        obtain ⟨hL, hT⟩ := hT
        refine x_call5 (x_runF (i := q9) hC hI hL rfl (um_J2_get l D dA ad 1296 Hs hC.2.2 σ7 q9 x4 _ hT) (lw_app (a := [.methodLink _ _ _, .selects _ _ _, .instanceMethod _, .initialized _]) (lw4 q1338 q784 q786 q162) (lw_meth q788)) hC.2.1.2.2.2.1.2.1 1 hdF_J2_get ⟨rfl, rfl⟩ (by constructor <;> (dsimp only; omega)) rfl hl.1 rfl (Nat.le_of_ble_eq_true rfl) hB dX16_at_51) hI (fun r12 σ11 H locs hT hI => ?_)
        refine W.eq (g2 := F0 m 56 ls [va_rf (rgR ad r12), .long x2, .int r8]) rfl ?_
        obtain ⟨q13, hqe_q13, hT_q13⟩ := hT
        have hl_q13 := hl
        subst hqe_q13
        replace hT := hT_q13
        refine W.eq (g2 := F0 m 56 ls [.ref (ad q13), .long x2, .int r8]) rfl ?_
        have hl : lv_has ls 5 [(0, .ref (ad ob)), (1, .ref (ad x1)), (2, .long x2), (4, .int x4)] := hl_q13
        obtain ⟨hL, hT⟩ := hT
        refine x_cast0 (q := q13) hC hI hL q1339 dX16_at_56 ?_
        refine lv_aload_n hx hb dX16_at_59 rfl (lv_at hl 1 rfl) ?_
        refine xc_at hC hI hPV hx1 hT q1340 q1319 (by constructor <;> (dsimp only; omega)) hl.1 (Nat.le_of_ble_eq_true rfl) hB dX16_at_60 (fun r15 σ14 H locs hT hI => ?_)
        refine x_call (x_runS hC hI (um_X16_two l D dA ad 1296 Hs hC.2.2 σ14 r8 x2 r15 _ hT) (lw_S q1372 q1373 q189 q1374) 3 hdS_X16_two ⟨rfl, rfl⟩ (by constructor <;> (dsimp only; omega)) rfl hl.1 rfl (Nat.le_of_ble_eq_true rfl) hB dX16_at_63) hI (fun r17 σ16 H locs hT hI => ?_)
        refine W.eq (g2 := F0 m 66 ls [.long r17]) rfl ?_
        refine x_call (x_runSN hC hI (um_X0_held l D dA ad 1296 Hs hC.2.2 σ16 r17 _ hT) q1378 q1324 q158 q1325 1 hdS_X0_held ⟨rfl, rfl⟩ (by constructor <;> (dsimp only; omega)) rfl hl.1 rfl (Nat.le_of_ble_eq_true rfl) hB dX16_at_66) hI (fun r19 σ18 H locs hT hI => ?_)
        refine W.eq (g2 := F0 m 69 ls [.long r19]) rfl ?_
        refine lv_lstore_n (lv' := [(2, .long r19), (0, .ref (ad ob)), (1, .ref (ad x1)), (4, .int x4)]) hx hb dX16_at_69 rfl hl (Nat.le_of_ble_eq_true rfl) rfl (fun ls hl => ?_)
        refine lv_iinc (v := x4 + 1) (lv' := [(4, .int (x4 + 1)), (2, .long r19), (0, .ref (ad ob)), (1, .ref (ad x1))]) hx hb dX16_at_70 hl (k := 3) rfl rfl (Nat.le_of_ble_eq_true rfl) rfl (fun ls hl => ?_)
        refine lv_goto (tgt := 21) hx hb dX16_at_73 (by decide) ?_
        exact ih r19 (x4 + 1) σ18 _ _ _ hT hI (lv_sub hl [2, 3, 1, 0] rfl)
  unfold U_X16_at at hT
  refine lv_aload_n hx hb dX16_at_0 rfl (lv_at hl 0 rfl) ?_
  obtain ⟨hL, hT⟩ := hT
  refine xg13_0 (i := ob) hC hI hL q1046 (fun _ h => h) dX16_at_1 ?_
  refine lv_iconst (v := 0) hx hb dX16_at_4 (by decide) ?_
  obtain ⟨q20, hq21, hT⟩ := hT
  refine W.eq (congrArg (fun z => F0 m 5 ls [.int 0, z]) (xrq hq21)) ?_
  obtain ⟨hL, hT⟩ := hT
  refine x_call5 (x_runF (i := q20) hC hI hL rfl (um_J2_get l D dA ad 1296 Hs hC.2.2 σ q20 0 _ hT) (lw_app (a := [.methodLink _ _ _, .selects _ _ _, .instanceMethod _, .initialized _]) (lw4 q1338 q784 q786 q162) (lw_meth q788)) hC.2.1.2.2.2.1.2.1 1 hdF_J2_get ⟨rfl, rfl⟩ (by constructor <;> (dsimp only; omega)) rfl hl.1 rfl (Nat.le_of_ble_eq_true rfl) hB dX16_at_5) hI (fun r23 σ22 H locs hT hI => ?_)
  refine W.eq (g2 := F0 m 10 ls [va_rf (rgR ad r23)]) rfl ?_
  obtain ⟨q24, hqe_q24, hT_q24⟩ := hT
  have hl_q24 := hl
  subst hqe_q24
  replace hT := hT_q24
  refine W.eq (g2 := F0 m 10 ls [.ref (ad q24)]) rfl ?_
  have hl : lv_has ls 5 [(0, .ref (ad ob)), (1, .ref (ad x1))] := hl_q24
  obtain ⟨hL, hT⟩ := hT
  refine x_cast0 (q := q24) hC hI hL q1339 dX16_at_10 ?_
  refine lv_aload_n hx hb dX16_at_13 rfl (lv_at hl 1 rfl) ?_
  refine xc_at hC hI hPV hx1 hT q1340 q1319 (by constructor <;> (dsimp only; omega)) hl.1 (Nat.le_of_ble_eq_true rfl) hB dX16_at_14 (fun r26 σ25 H locs hT hI => ?_)
  refine lv_lstore_n (lv' := [(2, .long r26), (0, .ref (ad ob)), (1, .ref (ad x1))]) hx hb dX16_at_17 rfl hl (Nat.le_of_ble_eq_true rfl) rfl (fun ls hl => ?_)
  refine lv_iconst (v := 1) hx hb dX16_at_18 (by decide) ?_
  refine lv_istore (lv' := [(4, .int 1), (2, .long r26), (0, .ref (ad ob)), (1, .ref (ad x1))]) hx hb dX16_at_19 hl (Nat.le_of_ble_eq_true rfl) rfl (fun ls hl => ?_)
  obtain ⟨n21, hT⟩ := hT
  exact w_21 n21 r26 1 σ25 _ _ _ hT hI (lv_sub hl [2, 3, 1, 0] rfl)
set_option maxHeartbeats 4000000 in
set_option maxRecDepth 100000 in
theorem um_X17_at (l : Launch) (D : va_G) (dA : Nat → ClassId) (ad : Nat → Nat) (Hs : Heap) (hA : cAd ad 1296 Hs.size) (fr lo : Nat) (PV : PTV) (PT : PTT) (hPV : MetV l D dA ad Hs fr lo PV) (hPT : MetT l D dA ad Hs fr lo PT) (σ : CS) (ob : Nat) (x1 : Nat) (hx1 : moOK x1) (K : Int64 → CS → Prop) (hT : U_X17_at PV PT σ ob x1 K) : Met l yX17_at (ws_ yX17_at cX17_at 6 (some .long)) ({ frames := 1 + fr, cells := 0, slots := 0, locals := 27 + lo }) (va_Pc [.ref (ad ob), .ref (ad x1)] (cU D dA ad 1296 Hs σ)) (xQ rvL K (cU D dA ad 1296 Hs) (cA ad)) 0 0 (cA ad) := by
  refine xm_l hA (by decide) rfl (Nat.le_of_ble_eq_true rfl) ?_
  intro p e s m args below meth c Q hC hN hret hI ls hl
  have hx := hC.1.1
  have hb := hC.1.2.1
  have hB : 0 ≤ 0 ∧ 0 ≤ 0 := ⟨Nat.zero_le _, Nat.zero_le _⟩
  have hl : lv_has ls 6 [(0, .ref (ad ob)), (1, .ref (ad x1))] := hl
  unfold U_X17_at at hT
  refine lv_aload_n hx hb dX17_at_0 rfl (lv_at hl 0 rfl) ?_
  obtain ⟨hL, hT⟩ := hT
  refine xg14_1 (i := ob) hC hI hL q1072 (fun _ h => h) dX17_at_1 ?_
  refine lv_aload_n hx hb dX17_at_4 rfl (lv_at hl 1 rfl) ?_
  obtain ⟨q1, hq2, hT⟩ := hT
  refine W.eq (congrArg (fun z => F0 m 5 ls [.ref (ad x1), z]) (xrq hq2)) ?_
  refine xc_at hC hI hPV hx1 hT q1348 q1319 (by constructor <;> (dsimp only; omega)) hl.1 (Nat.le_of_ble_eq_true rfl) hB dX17_at_5 (fun r4 σ3 H locs hT hI => ?_)
  refine lv_lstore_n (lv' := [(2, .long r4), (0, .ref (ad ob)), (1, .ref (ad x1))]) hx hb dX17_at_8 rfl hl (Nat.le_of_ble_eq_true rfl) rfl (fun ls hl => ?_)
  refine lv_aload_n hx hb dX17_at_9 rfl (lv_at hl 1 rfl) ?_
  obtain ⟨hL, hT⟩ := hT
  refine xg14_2 (i := ob) hC hI hL q1073 (fun _ h => h) dX17_at_10 ?_
  refine lv_aload_n hx hb dX17_at_13 rfl (lv_at hl 2 rfl) ?_
  obtain ⟨q5, hq6, hT⟩ := hT
  refine W.eq (congrArg (fun z => F0 m 14 ls [.ref (ad x1), z]) (xrq hq6)) ?_
  refine xc_at hC hI hPV hx1 hT q1348 q1319 (by constructor <;> (dsimp only; omega)) hl.1 (Nat.le_of_ble_eq_true rfl) hB dX17_at_14 (fun r8 σ7 H locs hT hI => ?_)
  refine lv_lstore (lv' := [(4, .long r8), (2, .long r4), (0, .ref (ad ob)), (1, .ref (ad x1))]) hx hb dX17_at_17 hl (Nat.le_of_ble_eq_true rfl) rfl (fun ls hl => ?_)
  refine lv_aload_n hx hb dX17_at_19 rfl (lv_at hl 2 rfl) ?_
  obtain ⟨hL, hT⟩ := hT
  refine xg14_0 (i := ob) hC hI hL q1071 (fun _ h => h) dX17_at_20 ?_
  refine lv_lload_n hx hb dX17_at_23 rfl (lv_at hl 1 rfl) ?_
  refine lv_lload hx hb dX17_at_24 (lv_at hl 0 rfl) ?_
  refine rl_le (tgt := 34) hx hb dX17_at_26 dX17_at_27 (by decide) (fun hc => ?_) (fun hc => ?_)
  · replace hT := hT.1 hc
    refine lv_iconst (v := 0) hx hb dX17_at_34 (by decide) ?_
    refine lv_icmp_ne (tgt := 42) hx hb dX17_at_35 (by decide) (fun hc => ?_) (fun hc => ?_)
    · replace hT := hT.1 hc
      refine lv_lload hx hb dX17_at_42 (lv_at hl 0 rfl) ?_
      exact hret _ _ _ _ _ _ _ _ hT hI hB dX17_at_44
    · replace hT := hT.2 hc
      refine lv_lload_n hx hb dX17_at_38 rfl (lv_at hl 1 rfl) ?_
      refine lv_goto (tgt := 44) hx hb dX17_at_39 (by decide) ?_
      exact hret _ _ _ _ _ _ _ _ hT hI hB dX17_at_44
  · replace hT := hT.2 hc
    refine lv_iconst (v := 1) hx hb dX17_at_30 (by decide) ?_
    refine lv_goto (tgt := 35) hx hb dX17_at_31 (by decide) ?_
    refine lv_icmp_ne (tgt := 42) hx hb dX17_at_35 (by decide) (fun hc => ?_) (fun hc => ?_)
    · replace hT := hT.1 hc
      refine lv_lload hx hb dX17_at_42 (lv_at hl 0 rfl) ?_
      exact hret _ _ _ _ _ _ _ _ hT hI hB dX17_at_44
    · replace hT := hT.2 hc
      refine lv_lload_n hx hb dX17_at_38 rfl (lv_at hl 1 rfl) ?_
      refine lv_goto (tgt := 44) hx hb dX17_at_39 (by decide) ?_
      exact hret _ _ _ _ _ _ _ _ hT hI hB dX17_at_44
set_option maxHeartbeats 4000000 in
set_option maxRecDepth 100000 in
theorem um_X18_at (l : Launch) (D : va_G) (dA : Nat → ClassId) (ad : Nat → Nat) (Hs : Heap) (hA : cAd ad 1296 Hs.size) (σ : CS) (ob : Nat) (x1 : Nat) (hx1 : moOK x1) (K : Int64 → CS → Prop) (hT : U_X18_at σ ob x1 K) : Met l yX18_at (ws_ yX18_at cX18_at 2 (some .long)) ({ frames := 1, cells := 0, slots := 0, locals := 12 }) (va_Pc [.ref (ad ob), .ref (ad x1)] (cU D dA ad 1296 Hs σ)) (xQ rvL K (cU D dA ad 1296 Hs) (cA ad)) 0 0 (cA ad) := by
  refine xm_l hA (by decide) rfl (Nat.le_of_ble_eq_true rfl) ?_
  intro p e s m args below meth c Q hC hN hret hI ls hl
  have hx := hC.1.1
  have hb := hC.1.2.1
  have hB : 0 ≤ 0 ∧ 0 ≤ 0 := ⟨Nat.zero_le _, Nat.zero_le _⟩
  have hl : lv_has ls 2 [(0, .ref (ad ob)), (1, .ref (ad x1))] := hl
  unfold U_X18_at at hT
  refine lv_aload_n hx hb dX18_at_0 rfl (lv_at hl 0 rfl) ?_
  obtain ⟨hL, hT⟩ := hT
  refine xg15_0 (i := ob) hC hI hL q1087 (fun _ h => h) dX18_at_1 ?_
  exact hret _ _ _ _ _ _ _ _ hT hI hB dX18_at_4
set_option maxHeartbeats 4000000 in
set_option maxRecDepth 100000 in
theorem um_X19_at (l : Launch) (D : va_G) (dA : Nat → ClassId) (ad : Nat → Nat) (Hs : Heap) (hA : cAd ad 1296 Hs.size) (σ : CS) (ob : Nat) (x1 : Nat) (hx1 : moOK x1) (K : Int64 → CS → Prop) (hT : U_X19_at σ ob x1 K) : Met l yX19_at (ws_ yX19_at cX19_at 2 (some .long)) ({ frames := 3, cells := 0, slots := 0, locals := 56 }) (va_Pc [.ref (ad ob), .ref (ad x1)] (cU D dA ad 1296 Hs σ)) (xQ rvL K (cU D dA ad 1296 Hs) (cA ad)) 0 0 (cA ad) := by
  refine xm_l hA (by decide) rfl (Nat.le_of_ble_eq_true rfl) ?_
  intro p e s m args below meth c Q hC hN hret hI ls hl
  have hx := hC.1.1
  have hb := hC.1.2.1
  have hB : 0 ≤ 0 ∧ 0 ≤ 0 := ⟨Nat.zero_le _, Nat.zero_le _⟩
  have hl : lv_has ls 2 [(0, .ref (ad ob)), (1, .ref (ad x1))] := hl
  unfold U_X19_at at hT
  refine lv_aload_n hx hb dX19_at_0 rfl (lv_at hl 1 rfl) ?_
  refine xgN4_0 (i := x1) hC hI (xst hI (mo_lt hx1 (d := 0) (by decide)) (mo_0 hx1)) q396 (fun _ h => h) dX19_at_1 ?_
  refine lv_aload_n hx hb dX19_at_4 rfl (lv_at hl 0 rfl) ?_
  obtain ⟨hL, hT⟩ := hT
  refine xg16_0 (i := ob) hC hI hL q1102 (fun _ h => h) dX19_at_5 ?_
  refine x_lald (i := x1 + 1) hC hI (xst hI (mo_lt hx1 (d := 1) (by decide)) (mo_1 hx1)) hT dX19_at_8 (fun hT => ?_)
  refine x_call (x_runSN hC hI (um_X0_held l D dA ad 1296 Hs hC.2.2 σ (gL σ (x1 + 1) (Int32.toNatClampNeg (gI σ ob 0))) _ hT) q1323 q1324 q158 q1325 1 hdS_X0_held ⟨rfl, rfl⟩ ⟨Nat.le_of_ble_eq_true rfl, Nat.le_of_ble_eq_true rfl⟩ rfl hl.1 rfl (Nat.le_of_ble_eq_true rfl) hB dX19_at_9) hI (fun r2 σ1 H locs hT hI => ?_)
  refine W.eq (g2 := F0 m 12 ls [.long r2]) rfl ?_
  exact hret _ _ _ _ _ _ _ _ hT hI hB dX19_at_12
set_option maxHeartbeats 4000000 in
set_option maxRecDepth 100000 in
theorem um_X20_at (l : Launch) (D : va_G) (dA : Nat → ClassId) (ad : Nat → Nat) (Hs : Heap) (hA : cAd ad 1296 Hs.size) (fr lo : Nat) (PV : PTV) (PT : PTT) (hPV : MetV l D dA ad Hs fr lo PV) (hPT : MetT l D dA ad Hs fr lo PT) (σ : CS) (ob : Nat) (x1 : Nat) (hx1 : moOK x1) (K : Int64 → CS → Prop) (hT : U_X20_at PV PT σ ob x1 K) : Met l yX20_at (ws_ yX20_at cX20_at 2 (some .long)) ({ frames := 9 + fr, cells := 0, slots := 0, locals := 185 + lo }) (va_Pc [.ref (ad ob), .ref (ad x1)] (cU D dA ad 1296 Hs σ)) (xQ rvL K (cU D dA ad 1296 Hs) (cA ad)) 0 0 (cA ad) := by
  refine xm_l hA (by decide) rfl (Nat.le_of_ble_eq_true rfl) ?_
  intro p e s m args below meth c Q hC hN hret hI ls hl
  have hx := hC.1.1
  have hb := hC.1.2.1
  have hB : 0 ≤ 0 ∧ 0 ≤ 0 := ⟨Nat.zero_le _, Nat.zero_le _⟩
  have hl : lv_has ls 2 [(0, .ref (ad ob)), (1, .ref (ad x1))] := hl
  unfold U_X20_at at hT
  refine lv_aload_n hx hb dX20_at_0 rfl (lv_at hl 0 rfl) ?_
  obtain ⟨hL, hT⟩ := hT
  refine xg17_2 (i := ob) hC hI hL q1120 (fun _ h => h) dX20_at_1 ?_
  refine W.eq (congrArg (fun z => F0 m 4 ls [z]) (xrq hT.1)) ?_
  replace hT := hT.2
  refine lv_aload_n hx hb dX20_at_4 rfl (lv_at hl 0 rfl) ?_
  obtain ⟨hL, hT⟩ := hT
  refine xg17_0 (i := ob) hC hI hL q1118 (fun _ h => h) dX20_at_5 ?_
  refine lv_aload_n hx hb dX20_at_8 rfl (lv_at hl 0 rfl) ?_
  obtain ⟨hL, hT⟩ := hT
  refine xg17_1 (i := ob) hC hI hL q1119 (fun _ h => h) dX20_at_9 ?_
  refine lv_aload_n hx hb dX20_at_12 rfl (lv_at hl 1 rfl) ?_
  obtain ⟨q1, hq2, hT⟩ := hT
  refine W.eq (congrArg (fun z => F0 m 13 ls [.ref (ad x1), z, .int (gI σ ob 0), .ref (ad 0)]) (xrq hq2)) ?_
  refine xc_at hC hI hPV hx1 hT q1345 q1319 (by constructor <;> (dsimp only; omega)) hl.1 (Nat.le_of_ble_eq_true rfl) hB dX20_at_13 (fun r4 σ3 H locs hT hI => ?_)
  refine x_call (x_runVN (i := 0) hC hI (xst hI (Nat.le_of_ble_eq_true rfl) sl_0) rfl (um_X0_looked l D dA ad Hs hC.2.2 fr lo PV PT hPV hPT σ3 (gI σ ob 0) r4 _ hT) q1349 q1351 qs40 q158 q1352 2 hdS_X0_looked ⟨rfl, rfl⟩ (by constructor <;> (dsimp only; omega)) rfl hl.1 rfl (Nat.le_of_ble_eq_true rfl) hB dX20_at_16) hI (fun r6 σ5 H locs hT hI => ?_)
  refine W.eq (g2 := F0 m 19 ls [.long r6]) rfl ?_
  refine x_call (x_runSN hC hI (um_X0_held l D dA ad 1296 Hs hC.2.2 σ5 r6 _ hT) q1359 q1324 q158 q1325 1 hdS_X0_held ⟨rfl, rfl⟩ (by constructor <;> (dsimp only; omega)) rfl hl.1 rfl (Nat.le_of_ble_eq_true rfl) hB dX20_at_19) hI (fun r8 σ7 H locs hT hI => ?_)
  refine W.eq (g2 := F0 m 22 ls [.long r8]) rfl ?_
  exact hret _ _ _ _ _ _ _ _ hT hI hB dX20_at_22
set_option maxHeartbeats 4000000 in
set_option maxRecDepth 100000 in
theorem um_X12_holds (l : Launch) (D : va_G) (dA : Nat → ClassId) (ad : Nat → Nat) (Hs : Heap) (hA : cAd ad 1296 Hs.size) (fr lo : Nat) (PV : PTV) (PT : PTT) (hPV : MetV l D dA ad Hs fr lo PV) (hPT : MetT l D dA ad Hs fr lo PT) (σ : CS) (ob : Nat) (x1 : Nat) (hx1 : moOK x1) (K : Int32 → CS → Prop) (hT : U_X12_holds PV PT σ ob x1 K) : Met l yX12_holds (ws_ yX12_holds cX12_holds 3 (some .boolean)) ({ frames := 4 + fr, cells := 0, slots := 0, locals := 76 + lo }) (va_Pc [.ref (ad ob), .ref (ad x1)] (cU D dA ad 1296 Hs σ)) (xQ rvI K (cU D dA ad 1296 Hs) (cA ad)) 0 0 (cA ad) := by
  refine xm_z hA (by decide) rfl (Nat.le_of_ble_eq_true rfl) ?_
  intro p e s m args below meth c Q hC hN hret hI ls hl
  have hx := hC.1.1
  have hb := hC.1.2.1
  have hB : 0 ≤ 0 ∧ 0 ≤ 0 := ⟨Nat.zero_le _, Nat.zero_le _⟩
  have hl : lv_has ls 3 [(0, .ref (ad ob)), (1, .ref (ad x1))] := hl
  have w_2 : ∀ (n : Nat) (x2 : Int32) (σ : CS) (H : Heap) (locs : List Loc) (ls : Array Slot), U_X12_holds_2 PV PT K ob x1 n x2 σ → xI D dA ad 1296 Hs s.heap σ H locs → lv_has ls 3 [(0, .ref (ad ob)), (1, .ref (ad x1)), (2, .int x2)] → W p l e ({ frames := 4 + fr, cells := 0, slots := 0, locals := 76 + lo }) s m args below meth c H locs 0 0 Q (F0 m 2 ls []) := by
    intro n
    induction n with
    | zero => intro x2 σ H locs ls hT; exact hT.elim
    | succ n ih =>
      intro x2 σ H locs ls hT hI hl
      unfold U_X12_holds_2 at hT
      refine lv_iload_n hx hb dX12_holds_2 rfl (lv_at hl 2 rfl) ?_
      refine lv_aload_n hx hb dX12_holds_3 rfl (lv_at hl 0 rfl) ?_
      obtain ⟨hL, hT⟩ := hT
      refine xg10_0 (i := ob) hC hI hL q961 (fun _ h => h) dX12_holds_4 ?_
      obtain ⟨q1, hq2, hT⟩ := hT
      refine W.eq (congrArg (fun z => F0 m 7 ls [z, .int x2]) (xrq hq2)) ?_
      obtain ⟨hL, hT⟩ := hT
      refine x_call5 (x_runF (i := q1) hC hI hL rfl (um_J2_size l D dA ad 1296 Hs hC.2.2 σ q1 _ hT) (lw_app (a := [.methodLink _ _ _, .selects _ _ _, .instanceMethod _, .initialized _]) (lw4 q1307 q744 q746 q162) (lw_meth q748)) hC.2.1.2.2.2.1.1 0 hdF_J2_size ⟨rfl, rfl⟩ (by constructor <;> (dsimp only; omega)) rfl hl.1 rfl (Nat.le_of_ble_eq_true rfl) hB dX12_holds_7) hI (fun r4 σ3 H locs hT hI => ?_)
      refine W.eq (g2 := F0 m 12 ls [.int r4, .int x2]) rfl ?_
      refine lv_icmp_ge (tgt := 58) hx hb dX12_holds_12 (by decide) (fun hc => ?_) (fun hc => ?_)
      · replace hT := hT.1 hc
        refine lv_aload_n hx hb dX12_holds_58 rfl (lv_at hl 0 rfl) ?_
        obtain ⟨hL, hT⟩ := hT
        refine xg10_1 (i := ob) hC hI hL q963 (fun _ h => h) dX12_holds_59 ?_
        exact hret _ _ _ _ _ _ _ _ hT.1 hT.2 hI hB dX12_holds_62
      · replace hT := hT.2 hc
        refine lv_aload_n hx hb dX12_holds_15 rfl (lv_at hl 0 rfl) ?_
        obtain ⟨hL, hT⟩ := hT
        refine xg10_0 (i := ob) hC hI hL q961 (fun _ h => h) dX12_holds_16 ?_
        refine lv_iload_n hx hb dX12_holds_19 rfl (lv_at hl 2 rfl) ?_
        obtain ⟨q5, hq6, hT⟩ := hT
        refine W.eq (congrArg (fun z => F0 m 20 ls [.int x2, z]) (xrq hq6)) ?_
        obtain ⟨hL, hT⟩ := hT
        refine x_call5 (x_runF (i := q5) hC hI hL rfl (um_J2_get l D dA ad 1296 Hs hC.2.2 σ3 q5 x2 _ hT) (lw_app (a := [.methodLink _ _ _, .selects _ _ _, .instanceMethod _, .initialized _]) (lw4 q1309 q784 q786 q162) (lw_meth q788)) hC.2.1.2.2.2.1.2.1 1 hdF_J2_get ⟨rfl, rfl⟩ (by constructor <;> (dsimp only; omega)) rfl hl.1 rfl (Nat.le_of_ble_eq_true rfl) hB dX12_holds_20) hI (fun r8 σ7 H locs hT hI => ?_)
        refine W.eq (g2 := F0 m 25 ls [va_rf (rgR ad r8)]) rfl ?_
        obtain ⟨q9, hqe_q9, hT_q9⟩ := hT
        have hl_q9 := hl
        subst hqe_q9
        replace hT := hT_q9
        refine W.eq (g2 := F0 m 25 ls [.ref (ad q9)]) rfl ?_
        have hl : lv_has ls 3 [(0, .ref (ad ob)), (1, .ref (ad x1)), (2, .int x2)] := hl_q9
        obtain ⟨hL, hT⟩ := hT
        refine x_cast0 (q := q9) hC hI hL q1310 dX12_holds_25 ?_
        refine lv_aload_n hx hb dX12_holds_28 rfl (lv_at hl 1 rfl) ?_
        refine xc_holds hC hI hPT hx1 hT q1311 q1299 (by constructor <;> (dsimp only; omega)) hl.1 (Nat.le_of_ble_eq_true rfl) hB dX12_holds_29 (fun r11 σ10 H locs hT hI => ?_)
        refine lv_aload_n hx hb dX12_holds_32 rfl (lv_at hl 0 rfl) ?_
        obtain ⟨hL, hT⟩ := hT
        refine xg10_1 (i := ob) hC hI hL q963 (fun _ h => h) dX12_holds_33 ?_
        refine lv_icmp_eq (tgt := 52) hx hb dX12_holds_36 (by decide) (fun hc => ?_) (fun hc => ?_)
        · replace hT := hT.1 hc
          refine lv_iinc (v := x2 + 1) (lv' := [(2, .int (x2 + 1)), (0, .ref (ad ob)), (1, .ref (ad x1))]) hx hb dX12_holds_52 hl (k := 2) rfl rfl (Nat.le_of_ble_eq_true rfl) rfl (fun ls hl => ?_)
          refine lv_goto (tgt := 2) hx hb dX12_holds_55 (by decide) ?_
          exact ih (x2 + 1) σ10 _ _ _ hT hI (lv_sub hl [1, 2, 0] rfl)
        · replace hT := hT.2 hc
          refine lv_aload_n hx hb dX12_holds_39 rfl (lv_at hl 0 rfl) ?_
          obtain ⟨hL, hT⟩ := hT
          refine xg10_1 (i := ob) hC hI hL q963 (fun _ h => h) dX12_holds_40 ?_
          refine lv_if_ne (tgt := 50) hx hb dX12_holds_43 (by decide) (fun hc => ?_) (fun hc => ?_)
          · replace hT := hT.1 hc
            refine lv_iconst (v := 0) hx hb dX12_holds_50 (by decide) ?_
            exact hret _ _ _ _ _ _ _ _ rfl hT hI hB dX12_holds_51
          · replace hT := hT.2 hc
            refine lv_iconst (v := 1) hx hb dX12_holds_46 (by decide) ?_
            refine lv_goto (tgt := 51) hx hb dX12_holds_47 (by decide) ?_
            exact hret _ _ _ _ _ _ _ _ rfl hT hI hB dX12_holds_51
  unfold U_X12_holds at hT
  refine lv_iconst (v := 0) hx hb dX12_holds_0 (by decide) ?_
  refine lv_istore_n (lv' := [(2, .int 0), (0, .ref (ad ob)), (1, .ref (ad x1))]) hx hb dX12_holds_1 rfl hl (Nat.le_of_ble_eq_true rfl) rfl (fun ls hl => ?_)
  obtain ⟨n2, hT⟩ := hT
  exact w_2 n2 0 σ _ _ _ hT hI (lv_sub hl [1, 2, 0] rfl)
set_option maxHeartbeats 4000000 in
set_option maxRecDepth 100000 in
theorem um_X13_holds (l : Launch) (D : va_G) (dA : Nat → ClassId) (ad : Nat → Nat) (Hs : Heap) (hA : cAd ad 1296 Hs.size) (fr lo : Nat) (PV : PTV) (PT : PTT) (hPV : MetV l D dA ad Hs fr lo PV) (hPT : MetT l D dA ad Hs fr lo PT) (σ : CS) (ob : Nat) (x1 : Nat) (hx1 : moOK x1) (K : Int32 → CS → Prop) (hT : U_X13_holds PV PT σ ob x1 K) : Met l yX13_holds (ws_ yX13_holds cX13_holds 2 (some .boolean)) ({ frames := 1 + fr, cells := 0, slots := 0, locals := 27 + lo }) (va_Pc [.ref (ad ob), .ref (ad x1)] (cU D dA ad 1296 Hs σ)) (xQ rvI K (cU D dA ad 1296 Hs) (cA ad)) 0 0 (cA ad) := by
  refine xm_z hA (by decide) rfl (Nat.le_of_ble_eq_true rfl) ?_
  intro p e s m args below meth c Q hC hN hret hI ls hl
  have hx := hC.1.1
  have hb := hC.1.2.1
  have hB : 0 ≤ 0 ∧ 0 ≤ 0 := ⟨Nat.zero_le _, Nat.zero_le _⟩
  have hl : lv_has ls 2 [(0, .ref (ad ob)), (1, .ref (ad x1))] := hl
  unfold U_X13_holds at hT
  refine lv_aload_n hx hb dX13_holds_0 rfl (lv_at hl 0 rfl) ?_
  obtain ⟨hL, hT⟩ := hT
  refine xg11_0 (i := ob) hC hI hL q996 (fun _ h => h) dX13_holds_1 ?_
  refine lv_aload_n hx hb dX13_holds_4 rfl (lv_at hl 1 rfl) ?_
  obtain ⟨q1, hq2, hT⟩ := hT
  refine W.eq (congrArg (fun z => F0 m 5 ls [.ref (ad x1), z]) (xrq hq2)) ?_
  refine xc_holds hC hI hPT hx1 hT q1314 q1299 (by constructor <;> (dsimp only; omega)) hl.1 (Nat.le_of_ble_eq_true rfl) hB dX13_holds_5 (fun r4 σ3 H locs hT hI => ?_)
  refine lv_if_ne (tgt := 15) hx hb dX13_holds_8 (by decide) (fun hc => ?_) (fun hc => ?_)
  · replace hT := hT.1 hc
    refine lv_iconst (v := 0) hx hb dX13_holds_15 (by decide) ?_
    exact hret _ _ _ _ _ _ _ _ rfl hT hI hB dX13_holds_16
  · replace hT := hT.2 hc
    refine lv_iconst (v := 1) hx hb dX13_holds_11 (by decide) ?_
    refine lv_goto (tgt := 16) hx hb dX13_holds_12 (by decide) ?_
    exact hret _ _ _ _ _ _ _ _ rfl hT hI hB dX13_holds_16
set_option maxHeartbeats 4000000 in
set_option maxRecDepth 100000 in
theorem um_X14_holds (l : Launch) (D : va_G) (dA : Nat → ClassId) (ad : Nat → Nat) (Hs : Heap) (hA : cAd ad 1296 Hs.size) (σ : CS) (ob : Nat) (x1 : Nat) (hx1 : moOK x1) (K : Int32 → CS → Prop) (hT : U_X14_holds σ ob x1 K) : Met l yX14_holds (ws_ yX14_holds cX14_holds 2 (some .boolean)) ({ frames := 1, cells := 0, slots := 0, locals := 12 }) (va_Pc [.ref (ad ob), .ref (ad x1)] (cU D dA ad 1296 Hs σ)) (xQ rvI K (cU D dA ad 1296 Hs) (cA ad)) 0 0 (cA ad) := by
  refine xm_z hA (by decide) rfl (Nat.le_of_ble_eq_true rfl) ?_
  intro p e s m args below meth c Q hC hN hret hI ls hl
  have hx := hC.1.1
  have hb := hC.1.2.1
  have hB : 0 ≤ 0 ∧ 0 ≤ 0 := ⟨Nat.zero_le _, Nat.zero_le _⟩
  have hl : lv_has ls 2 [(0, .ref (ad ob)), (1, .ref (ad x1))] := hl
  unfold U_X14_holds at hT
  refine lv_iconst (v := 1) hx hb dX14_holds_0 (by decide) ?_
  exact hret _ _ _ _ _ _ _ _ rfl hT hI hB dX14_holds_1
set_option maxHeartbeats 4000000 in
set_option maxRecDepth 100000 in
theorem um_X21_holds (l : Launch) (D : va_G) (dA : Nat → ClassId) (ad : Nat → Nat) (Hs : Heap) (hA : cAd ad 1296 Hs.size) (fr lo : Nat) (PV : PTV) (PT : PTT) (hPV : MetV l D dA ad Hs fr lo PV) (hPT : MetT l D dA ad Hs fr lo PT) (σ : CS) (ob : Nat) (x1 : Nat) (hx1 : moOK x1) (K : Int32 → CS → Prop) (hT : U_X21_holds PV PT σ ob x1 K) : Met l yX21_holds (ws_ yX21_holds cX21_holds 6 (some .boolean)) ({ frames := 1 + fr, cells := 0, slots := 0, locals := 27 + lo }) (va_Pc [.ref (ad ob), .ref (ad x1)] (cU D dA ad 1296 Hs σ)) (xQ rvI K (cU D dA ad 1296 Hs) (cA ad)) 0 0 (cA ad) := by
  refine xm_z hA (by decide) rfl (Nat.le_of_ble_eq_true rfl) ?_
  intro p e s m args below meth c Q hC hN hret hI ls hl
  have hx := hC.1.1
  have hb := hC.1.2.1
  have hB : 0 ≤ 0 ∧ 0 ≤ 0 := ⟨Nat.zero_le _, Nat.zero_le _⟩
  have hl : lv_has ls 6 [(0, .ref (ad ob)), (1, .ref (ad x1))] := hl
  unfold U_X21_holds at hT
  refine lv_aload_n hx hb dX21_holds_0 rfl (lv_at hl 0 rfl) ?_
  obtain ⟨hL, hT⟩ := hT
  refine xg18_0 (i := ob) hC hI hL q1201 (fun _ h => h) dX21_holds_1 ?_
  refine lv_aload_n hx hb dX21_holds_4 rfl (lv_at hl 1 rfl) ?_
  obtain ⟨q1, hq2, hT⟩ := hT
  refine W.eq (congrArg (fun z => F0 m 5 ls [.ref (ad x1), z]) (xrq hq2)) ?_
  refine xc_at hC hI hPV hx1 hT q1317 q1319 (by constructor <;> (dsimp only; omega)) hl.1 (Nat.le_of_ble_eq_true rfl) hB dX21_holds_5 (fun r4 σ3 H locs hT hI => ?_)
  refine lv_lstore_n (lv' := [(2, .long r4), (0, .ref (ad ob)), (1, .ref (ad x1))]) hx hb dX21_holds_8 rfl hl (Nat.le_of_ble_eq_true rfl) rfl (fun ls hl => ?_)
  refine lv_aload_n hx hb dX21_holds_9 rfl (lv_at hl 1 rfl) ?_
  obtain ⟨hL, hT⟩ := hT
  refine xg18_1 (i := ob) hC hI hL q1202 (fun _ h => h) dX21_holds_10 ?_
  refine lv_aload_n hx hb dX21_holds_13 rfl (lv_at hl 2 rfl) ?_
  obtain ⟨q5, hq6, hT⟩ := hT
  refine W.eq (congrArg (fun z => F0 m 14 ls [.ref (ad x1), z]) (xrq hq6)) ?_
  refine xc_at hC hI hPV hx1 hT q1317 q1319 (by constructor <;> (dsimp only; omega)) hl.1 (Nat.le_of_ble_eq_true rfl) hB dX21_holds_14 (fun r8 σ7 H locs hT hI => ?_)
  refine lv_lstore (lv' := [(4, .long r8), (2, .long r4), (0, .ref (ad ob)), (1, .ref (ad x1))]) hx hb dX21_holds_17 hl (Nat.le_of_ble_eq_true rfl) rfl (fun ls hl => ?_)
  refine lv_aload_n hx hb dX21_holds_19 rfl (lv_at hl 2 rfl) ?_
  obtain ⟨hL, hT⟩ := hT
  refine xg18_2 (i := ob) hC hI hL q1203 (fun _ h => h) dX21_holds_20 ?_
  refine lv_bipush (v := 60) hx hb dX21_holds_23 (by decide) ?_
  refine lv_icmp_ne (tgt := 43) hx hb dX21_holds_25 (by decide) (fun hc => ?_) (fun hc => ?_)
  · replace hT := hT.1 hc
    refine lv_aload_n hx hb dX21_holds_43 rfl (lv_at hl 2 rfl) ?_
    obtain ⟨hL, hT⟩ := hT
    refine xg18_2 (i := ob) hC hI hL q1203 (fun _ h => h) dX21_holds_44 ?_
    refine lv_bipush (v := 62) hx hb dX21_holds_47 (by decide) ?_
    refine lv_icmp_ne (tgt := 67) hx hb dX21_holds_49 (by decide) (fun hc => ?_) (fun hc => ?_)
    · replace hT := hT.1 hc
      refine lv_lload_n hx hb dX21_holds_67 rfl (lv_at hl 1 rfl) ?_
      refine lv_lload hx hb dX21_holds_68 (lv_at hl 0 rfl) ?_
      refine rl_ne (tgt := 78) hx hb dX21_holds_70 dX21_holds_71 (by decide) (fun hc => ?_) (fun hc => ?_)
      · replace hT := hT.1 hc
        refine lv_iconst (v := 0) hx hb dX21_holds_78 (by decide) ?_
        exact hret _ _ _ _ _ _ _ _ rfl hT hI hB dX21_holds_79
      · replace hT := hT.2 hc
        refine lv_iconst (v := 1) hx hb dX21_holds_74 (by decide) ?_
        refine lv_goto (tgt := 79) hx hb dX21_holds_75 (by decide) ?_
        exact hret _ _ _ _ _ _ _ _ rfl hT hI hB dX21_holds_79
    · replace hT := hT.2 hc
      refine lv_lload_n hx hb dX21_holds_52 rfl (lv_at hl 1 rfl) ?_
      refine lv_lload hx hb dX21_holds_53 (lv_at hl 0 rfl) ?_
      refine rl_le (tgt := 63) hx hb dX21_holds_55 dX21_holds_56 (by decide) (fun hc => ?_) (fun hc => ?_)
      · replace hT := hT.1 hc
        refine lv_iconst (v := 0) hx hb dX21_holds_63 (by decide) ?_
        refine lv_goto (tgt := 79) hx hb dX21_holds_64 (by decide) ?_
        exact hret _ _ _ _ _ _ _ _ rfl hT hI hB dX21_holds_79
      · replace hT := hT.2 hc
        refine lv_iconst (v := 1) hx hb dX21_holds_59 (by decide) ?_
        refine lv_goto (tgt := 79) hx hb dX21_holds_60 (by decide) ?_
        exact hret _ _ _ _ _ _ _ _ rfl hT hI hB dX21_holds_79
  · replace hT := hT.2 hc
    refine lv_lload_n hx hb dX21_holds_28 rfl (lv_at hl 1 rfl) ?_
    refine lv_lload hx hb dX21_holds_29 (lv_at hl 0 rfl) ?_
    refine rl_ge (tgt := 39) hx hb dX21_holds_31 dX21_holds_32 (by decide) (fun hc => ?_) (fun hc => ?_)
    · replace hT := hT.1 hc
      refine lv_iconst (v := 0) hx hb dX21_holds_39 (by decide) ?_
      refine lv_goto (tgt := 79) hx hb dX21_holds_40 (by decide) ?_
      exact hret _ _ _ _ _ _ _ _ rfl hT hI hB dX21_holds_79
    · replace hT := hT.2 hc
      refine lv_iconst (v := 1) hx hb dX21_holds_35 (by decide) ?_
      refine lv_goto (tgt := 79) hx hb dX21_holds_36 (by decide) ?_
      exact hret _ _ _ _ _ _ _ _ rfl hT hI hB dX21_holds_79
