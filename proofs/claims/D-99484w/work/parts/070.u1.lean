theorem lw4 {a b c d : Cond} (h1 : a ∈ lw_all) (h2 : b ∈ lw_all) (h3 : c ∈ lw_all) (h4 : d ∈ lw_all) : ∀ w ∈ [a, b, c, d], w ∈ lw_all := by
  intro w hw
  simp only [List.mem_cons, List.not_mem_nil, or_false] at hw
  rcases hw with e | e | e | e <;> subst e <;> assumption
theorem lw5 {a b c d f : Cond} (h1 : a ∈ lw_all) (h2 : b ∈ lw_all) (h3 : c ∈ lw_all) (h4 : d ∈ lw_all) (h5 : f ∈ lw_all) : ∀ w ∈ [a, b, c, d, f], w ∈ lw_all := by
  intro w hw
  simp only [List.mem_cons, List.not_mem_nil, or_false] at hw
  rcases hw with e | e | e | e | e <;> subst e <;> assumption
theorem ts_outn (lo : Nat) {x : Int32} {n : Nat} (hn : n + lo < 2 ^ 31) (h : ∀ k : Nat, k < n → ¬ x = nI (k + lo)) : x.toInt < (lo : Int) ∨ (n : Int) + lo - 1 < x.toInt := by
  by_cases h0 : x < 0
  · left; rw [Int32.lt_iff_toInt_lt, Int32.toInt_zero] at h0; omega
  · obtain ⟨j, hj, rfl⟩ := nI_of h0
    rw [nI_toInt hj]
    by_cases h1 : j < lo
    · left; omega
    · by_cases hjn : j < n + lo
      · exact absurd (show nI j = nI (j - lo + lo) by rw [show j - lo + lo = j by omega]) (h (j - lo) (by omega))
      · right; omega
section XL
variable {p : Program} {l : Launch} {e : Env} {R : Room} {s : State} {m : MethodId} {args : Array Value} {below : List Frame} {meth : Method} {c : Code} {H : Heap} {locs : List Loc} {cells slots : Nat} {Q : State → Prop} {cc : ByteArray} {pc : Nat} {ls : Array Slot} {rest : List Value}
theorem x_aload_n (hx : p.tables.exec = Jvm.exec) (hb : c.code = cc) {k : Fin 4} {i : Nat} {r : Option Nat} (hdg : decode cc pc = .ok (.aload_n k, 1)) (hi : (k : Nat) = i) (hl : ls[i]? = some (.val (va_rf r))) (kk : W p l e R s m args below meth c H locs cells slots Q (F0 m (pc + 1) ls (va_rf r :: rest))) : W p l e R s m args below meth c H locs cells slots Q (F0 m pc ls rest) := by
  cases r with
  | none => exact lv_aload_nN hx hb hdg hi hl kk
  | some a => exact lv_aload_n hx hb hdg hi hl kk
theorem x_aload (hx : p.tables.exec = Jvm.exec) (hb : c.code = cc) {i : Nat} {r : Option Nat} (hdg : decode cc pc = .ok (.aload i, 2)) (hl : ls[i]? = some (.val (va_rf r))) (kk : W p l e R s m args below meth c H locs cells slots Q (F0 m (pc + 2) ls (va_rf r :: rest))) : W p l e R s m args below meth c H locs cells slots Q (F0 m pc ls rest) := by
  cases r with
  | none => exact lv_aloadN hx hb hdg hl kk
  | some a => exact lv_aload hx hb hdg hl kk
theorem x_astore_n (hx : p.tables.exec = Jvm.exec) (hb : c.code = cc) {k : Fin 4} {i nL : Nat} {r : Option Nat} {lv lv' : List (Nat × Value)} (hdg : decode cc pc = .ok (.astore_n k, 1)) (hi : (k : Nat) = i) (h : lv_has ls nL lv) (hn : i < nL) (hl : (i, va_rf r) :: lv.filter (fun q => !(q.1 == i) && !(q.1 + 1 == i && q.2.category == 2)) = lv') (kk : ∀ ls' : Array Slot, lv_has ls' nL lv' → W p l e R s m args below meth c H locs cells slots Q (F0 m (pc + 1) ls' rest)) : W p l e R s m args below meth c H locs cells slots Q (F0 m pc ls (va_rf r :: rest)) := by
  cases r with
  | none => exact lv_astore_nN hx hb hdg hi h hn hl kk
  | some a => exact lv_astore_n hx hb hdg hi h hn hl kk
theorem x_astore (hx : p.tables.exec = Jvm.exec) (hb : c.code = cc) {i nL : Nat} {r : Option Nat} {lv lv' : List (Nat × Value)} (hdg : decode cc pc = .ok (.astore i, 2)) (h : lv_has ls nL lv) (hn : i < nL) (hl : (i, va_rf r) :: lv.filter (fun q => !(q.1 == i) && !(q.1 + 1 == i && q.2.category == 2)) = lv') (kk : ∀ ls' : Array Slot, lv_has ls' nL lv' → W p l e R s m args below meth c H locs cells slots Q (F0 m (pc + 2) ls' rest)) : W p l e R s m args below meth c H locs cells slots Q (F0 m pc ls (va_rf r :: rest)) := by
  cases r with
  | none => exact lv_astoreN hx hb hdg h hn hl kk
  | some a => exact lv_astore hx hb hdg h hn hl kk
end XL
theorem lk_ne {x : Int32} {v : Int32} {k : Int} (h : ¬ x = v) (hv : v.toInt = k) : ¬ k = x.toInt := fun e => h (Int32.toInt_inj.mp (e.symm.trans hv.symm))
theorem lk_out (ps : List (Int × Int)) (df x : Int) (h : ∀ q ∈ ps, ¬ q.1 = x) : Op.lookupswitch.offset ps df x = df := by
  induction ps with
  | nil => rfl
  | cons a r ih =>
    obtain ⟨k, o⟩ := a
    rw [Op.lookupswitch.offset_cons, if_neg (h (k, o) List.mem_cons_self)]
    exact ih (fun q hq => h q (List.mem_cons_of_mem _ hq))
def U_J0_init (σ : CS) (ob : Nat) (K : Unit → CS → Prop) : Prop := K () σ
def U_J1_init (σ : CS) (ob : Nat) (K : Unit → CS → Prop) : Prop := U_J0_init σ ob (fun _ σ1 => (ob < CB ∧ (gK σ1 ob = some kO20 ∧ (∀ σ3 : CS, σ3 = wI σ1 ob 0 0 → (K () σ3)))))
def U_J2_size (σ : CS) (ob : Nat) (K : Int32 → CS → Prop) : Prop := gK σ ob = some kO20 ∧ (K (gI σ ob 2) σ)
def U_J8_checkIndex (σ : CS) (x0 : Int32) (x1 : Int32) (x2 : Option Nat) (K : Int32 → CS → Prop) : Prop := ((x0 < 0 → (False)) ∧ (¬ x0 < 0 → (((x0 < x1 → (K x0 σ)) ∧ (¬ x0 < x1 → (False))))))
def U_J11_checkIndex (σ : CS) (x0 : Int32) (x1 : Int32) (K : Int32 → CS → Prop) : Prop := U_J8_checkIndex σ x0 x1 none (fun r2 σ1 => (K r2 σ1))
def U_J2_elementData (σ : CS) (ob : Nat) (x1 : Int32) (K : Nat → CS → Prop) : Prop := gK σ ob = some kO20 ∧ (∃ q1, (gR σ ob 1) = q1 + 1 ∧ (gK σ q1 = some (.inr (5, gN σ q1)) ∧ (vp_in x1 (gN σ q1) ∧ (K (gR σ q1 (Int32.toNatClampNeg x1)) σ))))
def U_J2_get (σ : CS) (ob : Nat) (x1 : Int32) (K : Nat → CS → Prop) : Prop := gK σ ob = some kO20 ∧ (U_J11_checkIndex σ x1 (gI σ ob 2) (fun r2 σ1 => (gK σ1 ob = some kO20 ∧ (U_J2_elementData σ1 ob x1 (fun r4 σ3 => (K r4 σ3))))))
def U_J12_max (σ : CS) (x0 : Int32) (x1 : Int32) (K : Int32 → CS → Prop) : Prop := ((x0 < x1 → (K x1 σ)) ∧ (¬ x0 < x1 → (K x0 σ)))
def U_J12_min (σ : CS) (x0 : Int32) (x1 : Int32) (K : Int32 → CS → Prop) : Prop := ((x1 < x0 → (K x1 σ)) ∧ (¬ x1 < x0 → (K x0 σ)))
def U_J12_max_2 (σ : CS) (x0 : Int64) (x2 : Int64) (K : Int64 → CS → Prop) : Prop := ((x0 < x2 → (K x2 σ)) ∧ (¬ x0 < x2 → (K x0 σ)))
def U_J12_min_2 (σ : CS) (x0 : Int64) (x2 : Int64) (K : Int64 → CS → Prop) : Prop := ((x2 < x0 → (K x2 σ)) ∧ (¬ x2 < x0 → (K x0 σ)))
def U_J12_floorDiv (σ : CS) (x0 : Int64) (x2 : Int64) (K : Int64 → CS → Prop) : Prop := ¬ x2 = 0 ∧ (((0 ≤ (x0 ^^^ x2) → (K (x0 / x2) σ)) ∧ (¬ 0 ≤ (x0 ^^^ x2) → (((((x0 / x2) * x2) = x0 → (K (x0 / x2) σ)) ∧ (¬ ((x0 / x2) * x2) = x0 → (K ((x0 / x2) - 1) σ)))))))
def U_J16_bitCount (σ : CS) (x0 : Int32) (K : Int32 → CS → Prop) : Prop := ∀ y1 : Int32, y1 = x0 - (((x0.toUInt32 >>> (Int32.toUInt32 1 &&& Int32.toUInt32 31)).toInt32) &&& 1431655765) → (∀ y3 : Int32, y3 = (y1 &&& 858993459) + (((y1.toUInt32 >>> (Int32.toUInt32 2 &&& Int32.toUInt32 31)).toInt32) &&& 858993459) → (∀ y5 : Int32, y5 = (y3 + ((y3.toUInt32 >>> (Int32.toUInt32 4 &&& Int32.toUInt32 31)).toInt32)) &&& 252645135 → (∀ y7 : Int32, y7 = y5 + ((y5.toUInt32 >>> (Int32.toUInt32 8 &&& Int32.toUInt32 31)).toInt32) → (∀ y9 : Int32, y9 = y7 + ((y7.toUInt32 >>> (Int32.toUInt32 16 &&& Int32.toUInt32 31)).toInt32) → (K (y9 &&& 63) σ)))))
def U_J10_newLength (σ : CS) (x0 : Int32) (x1 : Int32) (x2 : Int32) (K : Int32 → CS → Prop) : Prop := U_J12_max σ x1 x2 (fun r2 σ1 => ((((x0 + r2) ≤ (0 : Int32) → (False)) ∧ (¬ (x0 + r2) ≤ (0 : Int32) → ((((2147483639 : Int32) < (x0 + r2) → (False)) ∧ (¬ (2147483639 : Int32) < (x0 + r2) → (K (x0 + r2) σ1))))))))
def U_J13_copyOf_3 (mc ms : Nat) (σ : CS) (x0 : Nat) (x1 : Int32) (K : Nat → CS → Prop) : Prop := gK σ x0 = some (.inr (1, gN σ x0)) ∧ (((¬ x1 = (Int32.ofNat (gN σ x0)) → (¬ (x1 : Int32) < 0 ∧ ((Int32.toNatClampNeg x1) ≤ 1000000 ∧ ((1 ≤ mc ∧ 0 + (Int32.toNatClampNeg x1) ≤ ms) ∧ (σ.1 < CB ∧ (∀ σ1 : CS, σ1 = nC σ (.inr (1, (Int32.toNatClampNeg x1))) → (gK σ1 x0 = some (.inr (1, gN σ1 x0)) ∧ (U_J12_min σ1 (Int32.ofNat (gN σ1 x0)) x1 (fun r3 σ2 => ((x0 < CB ∧ (σ.1) < CB) ∧ ((gK σ2 x0 = some (.inr (1, gN σ2 x0)) ∧ gK σ2 (σ.1) = some (.inr (1, gN σ2 (σ.1)))) ∧ ((¬ (0 : Int32) < 0 ∧ ¬ (0 : Int32) < 0 ∧ ¬ r3 < 0) ∧ (((Int32.toNatClampNeg 0) + (Int32.toNatClampNeg r3) ≤ gN σ2 x0 ∧ (Int32.toNatClampNeg 0) + (Int32.toNatClampNeg r3) ≤ gN σ2 (σ.1)) ∧ ((∀ i, i < (Int32.toNatClampNeg r3) → (1 = 1 → fits .byte (.int (gI σ2 x0 ((Int32.toNatClampNeg 0) + i))) = true) ∧ (1 = 5 → gR σ2 x0 ((Int32.toNatClampNeg 0) + i) = 0 ∨ ∃ q, gR σ2 x0 ((Int32.toNatClampNeg 0) + i) = q + 1 ∧ isC "java/lang/Object" σ2 q)) ∧ (∀ σ4 : CS, σ4 = wC σ2 x0 (σ.1) (Int32.toNatClampNeg 0) (Int32.toNatClampNeg 0) (Int32.toNatClampNeg r3) → (K ((σ.1) + 1) σ4)))))))))))))))) ∧ (x1 = (Int32.ofNat (gN σ x0)) → (False))))
def U_J2_init (mc ms : Nat) (σ : CS) (ob : Nat) (x1 : Int32) (K : Unit → CS → Prop) : Prop := U_J1_init σ ob (fun _ σ1 => (((x1 ≤ 0 → (False)) ∧ (¬ x1 ≤ 0 → (¬ (x1 : Int32) < 0 ∧ ((Int32.toNatClampNeg x1) ≤ 1000000 ∧ ((1 ≤ mc ∧ 0 + (Int32.toNatClampNeg x1) ≤ ms) ∧ (σ1.1 < CB ∧ (∀ σ3 : CS, σ3 = nC σ1 (.inr (5, (Int32.toNatClampNeg x1))) → (ob < CB ∧ (gK σ3 ob = some kO20 ∧ (∀ σ4 : CS, σ4 = wR σ3 ob 1 ((σ1.1) + 1) → (K () σ4)))))))))))))
def U_J14_isLatin1 (σ : CS) (ob : Nat) (K : Int32 → CS → Prop) : Prop := gK σ ob = some kO22 ∧ (((¬ (gI σ ob 1) = (0 : Int32) → (K 0 σ)) ∧ ((gI σ ob 1) = (0 : Int32) → (K 1 σ))))
def U_J14_newCapacity (σ : CS) (ob : Nat) (x1 : Int32) (K : Int32 → CS → Prop) : Prop := gK σ ob = some kO22 ∧ (∃ q1, (gR σ ob 0) = q1 + 1 ∧ (gK σ q1 = some (.inr (1, gN σ q1)) ∧ (gK σ ob = some kO22 ∧ (gK σ ob = some kO22 ∧ (U_J10_newLength σ (Int32.ofNat (gN σ q1)) ((x1 <<< ((gI σ ob 1) &&& 31)) - (Int32.ofNat (gN σ q1))) ((Int32.ofNat (gN σ q1)) + (2 <<< ((gI σ ob 1) &&& 31))) (fun r4 σ3 => (((¬ r4 = 2147483647 → (gK σ3 ob = some kO22 ∧ (K (r4 >>> ((gI σ3 ob 1) &&& 31)) σ3))) ∧ (r4 = 2147483647 → (False))))))))))
def U_J14_ensureCapacityInternal (mc ms : Nat) (σ : CS) (ob : Nat) (x1 : Int32) (K : Unit → CS → Prop) : Prop := gK σ ob = some kO22 ∧ (∃ q1, (gR σ ob 0) = q1 + 1 ∧ (gK σ q1 = some (.inr (1, gN σ q1)) ∧ (gK σ ob = some kO22 ∧ ((((x1 - ((Int32.ofNat (gN σ q1)) >>> ((gI σ ob 1) &&& 31))) ≤ (0 : Int32) → (K () σ)) ∧ (¬ (x1 - ((Int32.ofNat (gN σ q1)) >>> ((gI σ ob 1) &&& 31))) ≤ (0 : Int32) → (gK σ ob = some kO22 ∧ (gK σ ob = some kO22 ∧ (U_J14_newCapacity σ ob x1 (fun r4 σ3 => (gK σ3 ob = some kO22 ∧ (∃ q5, (gR σ ob 0) = q5 + 1 ∧ (∃ mc9 ms10 : Nat, (0 + mc9 ≤ mc ∧ 0 + ms10 ≤ ms) ∧ (U_J13_copyOf_3 mc9 ms10 σ3 q5 (r4 <<< ((gI σ3 ob 1) &&& 31)) (fun r8 σ7 => (ob < CB ∧ (gK σ7 ob = some kO22 ∧ (∀ σ11 : CS, σ11 = wR σ7 ob 0 r8 → (K () σ11)))))))))))))))))))
def U_J9_canEncode (σ : CS) (x0 : Int32) (K : Int32 → CS → Prop) : Prop := ((255 < x0 → (K 0 σ)) ∧ (¬ 255 < x0 → (K 1 σ)))
def U_J14_init (mc ms : Nat) (σ : CS) (ob : Nat) (x1 : Int32) (K : Unit → CS → Prop) : Prop := ¬ (x1 : Int32) < 0 ∧ ((Int32.toNatClampNeg x1) ≤ 1000000 ∧ ((1 ≤ mc ∧ 0 + (Int32.toNatClampNeg x1) ≤ ms) ∧ (σ.1 < CB ∧ (∀ σ1 : CS, σ1 = nC σ (.inr (1, (Int32.toNatClampNeg x1))) → (ob < CB ∧ (gK σ1 ob = some kO22 ∧ (∀ σ2 : CS, σ2 = wR σ1 ob 0 ((σ.1) + 1) → (ob < CB ∧ (gK σ2 ob = some kO22 ∧ (∀ σ3 : CS, σ3 = wI σ2 ob 1 0 → (K () σ3)))))))))))
def U_J14_append (mc ms : Nat) (σ : CS) (ob : Nat) (x1 : Int32) (K : Nat → CS → Prop) : Prop := gK σ ob = some kO22 ∧ (gK σ ob = some kO22 ∧ (∃ mc3 ms4 : Nat, (0 + mc3 ≤ mc ∧ 0 + ms4 ≤ ms) ∧ (U_J14_ensureCapacityInternal mc3 ms4 σ ob ((gI σ ob 3) + 1) (fun _ σ1 => (gK σ1 ob = some kO22 ∧ (U_J14_isLatin1 σ1 ob (fun r6 σ5 => (((r6 = 0 → (False)) ∧ (¬ r6 = 0 → (U_J9_canEncode σ5 x1 (fun r8 σ7 => (((r8 = 0 → (False)) ∧ (¬ r8 = 0 → (gK σ7 ob = some kO22 ∧ (gK σ7 ob = some kO22 ∧ (ob < CB ∧ (gK σ7 ob = some kO22 ∧ (∀ σ9 : CS, σ9 = wI σ7 ob 3 ((gI σ7 ob 3) + 1) → (∃ q10, (gR σ7 ob 0) = q10 + 1 ∧ (q10 < CB ∧ (gK σ9 q10 = some (.inr (1, gN σ9 q10)) ∧ (vp_in (gI σ7 ob 3) (gN σ9 q10) ∧ (∀ σ12 : CS, σ12 = wI σ9 q10 (Int32.toNatClampNeg (gI σ7 ob 3)) (vp_nar .byte ((Int32.toInt8 x1).toInt32)) → (K (ob + 1) σ12))))))))))))))))))))))))))
def U_J6_checkIndex (σ : CS) (x0 : Int32) (x1 : Int32) (K : Unit → CS → Prop) : Prop := ∀ w1 : Option Nat, (U_J8_checkIndex σ x0 x1 w1 (fun r3 σ2 => (K () σ2)))
def U_J14_charAt (σ : CS) (ob : Nat) (x1 : Int32) (K : Int32 → CS → Prop) : Prop := gK σ ob = some kO22 ∧ (gK σ ob = some kO22 ∧ (gK σ ob = some kO22 ∧ (∃ q1, (gR σ ob 0) = q1 + 1 ∧ (gK σ q1 = some (.inr (1, gN σ q1)) ∧ (U_J12_min σ (gI σ ob 3) ((Int32.ofNat (gN σ q1)) >>> ((gI σ ob 1) &&& 31)) (fun r4 σ3 => (U_J6_checkIndex σ3 x1 r4 (fun _ σ5 => (((¬ (gI σ ob 1) = (0 : Int32) → (False)) ∧ ((gI σ ob 1) = (0 : Int32) → (∃ q7, (gR σ ob 0) = q7 + 1 ∧ (gK σ5 q7 = some (.inr (1, gN σ5 q7)) ∧ (vp_in x1 (gN σ5 q7) ∧ (narrow .char (.int ((Int32.toUInt32 ((gI σ5 q7 (Int32.toNatClampNeg x1)) &&& 255) % 65536).toInt32)) = .int ((Int32.toUInt32 ((gI σ5 q7 (Int32.toNatClampNeg x1)) &&& 255) % 65536).toInt32) ∧ K ((Int32.toUInt32 ((gI σ5 q7 (Int32.toNatClampNeg x1)) &&& 255) % 65536).toInt32) σ5)))))))))))))))
def U_J15_init (mc ms : Nat) (σ : CS) (ob : Nat) (K : Unit → CS → Prop) : Prop := ∃ mc3 ms4 : Nat, (0 + mc3 ≤ mc ∧ 0 + ms4 ≤ ms) ∧ (U_J14_init mc3 ms4 σ ob 16 (fun _ σ1 => (K () σ1)))
def U_J15_append (mc ms : Nat) (σ : CS) (ob : Nat) (x1 : Int32) (K : Nat → CS → Prop) : Prop := gK σ ob = some kO22 ∧ (∃ mc3 ms4 : Nat, (0 + mc3 ≤ mc ∧ 0 + ms4 ≤ ms) ∧ (U_J14_append mc3 ms4 σ ob x1 (fun r2 σ1 => (K (ob + 1) σ1))))
def U_J15_charAt (σ : CS) (ob : Nat) (x1 : Int32) (K : Int32 → CS → Prop) : Prop := gK σ ob = some kO22 ∧ (U_J14_charAt σ ob x1 (fun r2 σ1 => (narrow .char (.int r2) = .int r2 ∧ K r2 σ1)))
def U_J6_isLatin1 (σ : CS) (ob : Nat) (K : Int32 → CS → Prop) : Prop := gK σ ob = some kO21 ∧ (((¬ (gI σ ob 1) = (0 : Int32) → (K 0 σ)) ∧ ((gI σ ob 1) = (0 : Int32) → (K 1 σ))))
def U_J6_coder (σ : CS) (ob : Nat) (K : Int32 → CS → Prop) : Prop := gK σ ob = some kO21 ∧ (narrow .byte (.int (gI σ ob 1)) = .int (gI σ ob 1) ∧ K (gI σ ob 1) σ)
def U_J6_length (σ : CS) (ob : Nat) (K : Int32 → CS → Prop) : Prop := gK σ ob = some kO21 ∧ (∃ q1, (gR σ ob 0) = q1 + 1 ∧ (gK σ q1 = some (.inr (1, gN σ q1)) ∧ (gK σ ob = some kO21 ∧ (U_J6_coder σ ob (fun r4 σ3 => (K ((Int32.ofNat (gN σ q1)) >>> (r4 &&& 31)) σ3))))))
def U_J9_charAt (σ : CS) (x0 : Nat) (x1 : Int32) (K : Int32 → CS → Prop) : Prop := gK σ x0 = some (.inr (1, gN σ x0)) ∧ (U_J6_checkIndex σ x1 (Int32.ofNat (gN σ x0)) (fun _ σ1 => (gK σ1 x0 = some (.inr (1, gN σ1 x0)) ∧ (vp_in x1 (gN σ1 x0) ∧ (narrow .char (.int ((Int32.toUInt32 ((gI σ1 x0 (Int32.toNatClampNeg x1)) &&& 255) % 65536).toInt32)) = .int ((Int32.toUInt32 ((gI σ1 x0 (Int32.toNatClampNeg x1)) &&& 255) % 65536).toInt32) ∧ K ((Int32.toUInt32 ((gI σ1 x0 (Int32.toNatClampNeg x1)) &&& 255) % 65536).toInt32) σ1)))))
def U_J6_charAt (σ : CS) (ob : Nat) (x1 : Int32) (K : Int32 → CS → Prop) : Prop := gK σ ob = some kO21 ∧ (U_J6_isLatin1 σ ob (fun r2 σ1 => (((r2 = 0 → (False)) ∧ (¬ r2 = 0 → (gK σ1 ob = some kO21 ∧ (∃ q3, (gR σ1 ob 0) = q3 + 1 ∧ (U_J9_charAt σ1 q3 x1 (fun r6 σ5 => (narrow .char (.int r6) = .int r6 ∧ K r6 σ5))))))))))
def U_J9_equals_9 (K : Int32 → CS → Prop) (x0 : Nat) (x1 : Nat) : Nat → Int32 → CS → Prop
  | 0 => fun _ _ => False
  | n + 1 => fun x2 σ => gK σ x0 = some (.inr (1, gN σ x0)) ∧ ((((Int32.ofNat (gN σ x0)) ≤ x2 → (K 1 σ)) ∧ (¬ (Int32.ofNat (gN σ x0)) ≤ x2 → (gK σ x0 = some (.inr (1, gN σ x0)) ∧ (vp_in x2 (gN σ x0) ∧ (gK σ x1 = some (.inr (1, gN σ x1)) ∧ (vp_in x2 (gN σ x1) ∧ ((((gI σ x0 (Int32.toNatClampNeg x2)) = (gI σ x1 (Int32.toNatClampNeg x2)) → (U_J9_equals_9 K x0 x1 n (x2 + 1) σ)) ∧ (¬ (gI σ x0 (Int32.toNatClampNeg x2)) = (gI σ x1 (Int32.toNatClampNeg x2)) → (K 0 σ)))))))))))
def U_J9_equals (σ : CS) (x0 : Nat) (x1 : Nat) (K : Int32 → CS → Prop) : Prop := gK σ x0 = some (.inr (1, gN σ x0)) ∧ (gK σ x1 = some (.inr (1, gN σ x1)) ∧ (((¬ (Int32.ofNat (gN σ x0)) = (Int32.ofNat (gN σ x1)) → (K 0 σ)) ∧ ((Int32.ofNat (gN σ x0)) = (Int32.ofNat (gN σ x1)) → (∃ n9, U_J9_equals_9 K x0 x1 n9 0 σ)))))
def U_J6_equals_36 (K : Int32 → CS → Prop) (ob : Nat) (x1 : Nat) (σ : CS) : Prop := gK σ ob = some kO21 ∧ (gK σ x1 = some kO21 ∧ (∃ q1, (gR σ ob 0) = q1 + 1 ∧ (∃ q3, (gR σ x1 0) = q3 + 1 ∧ (U_J9_equals σ q1 q3 (fun r6 σ5 => (((r6 = 0 → (K 0 σ5)) ∧ (¬ r6 = 0 → (K 1 σ5)))))))))
def U_J6_equals (σ : CS) (ob : Nat) (x1 : Nat) (K : Int32 → CS → Prop) : Prop := (ob < CB ∨ x1 < CB) ∧ (((¬ ob = x1 → (gK σ x1 = some kO21 ∧ (isC "java/lang/String" σ x1 ∧ (gK σ ob = some kO21 ∧ (gK σ x1 = some kO21 ∧ (((¬ (gI σ ob 1) = (gI σ x1 1) → (K 0 σ)) ∧ ((gI σ ob 1) = (gI σ x1 1) → (U_J6_equals_36 K ob x1 σ))))))))) ∧ (ob = x1 → (K 1 σ))))
def U_J10_signedHashCode_8 (K : Int32 → CS → Prop) (x1 : Nat) (x4 : Int32) : Nat → Int32 → Int32 → CS → Prop
  | 0 => fun _ _ _ => False
  | n + 1 => fun x0 x5 σ => ((x4 ≤ x5 → (K x0 σ)) ∧ (¬ x4 ≤ x5 → (gK σ x1 = some (.inr (1, gN σ x1)) ∧ (vp_in x5 (gN σ x1) ∧ (U_J10_signedHashCode_8 K x1 x4 n ((31 * x0) + ((gI σ x1 (Int32.toNatClampNeg x5)) &&& 255)) (x5 + 1) σ)))))
def U_J10_signedHashCode (σ : CS) (x0 : Int32) (x1 : Nat) (x2 : Int32) (x3 : Int32) (K : Int32 → CS → Prop) : Prop := ∃ n8, U_J10_signedHashCode_8 K x1 (x2 + x3) n8 x0 x2 σ
def U_J10_vectorizedHashCode (σ : CS) (x0 : Nat) (x1 : Int32) (x2 : Int32) (x3 : Int32) (x4 : Int32) (K : Int32 → CS → Prop) : Prop := ((x4 = 4 → (gK σ x0 = some (.inr (1, gN σ x0)) ∧ (U_J10_signedHashCode σ x3 x0 x1 x2 (fun r2 σ1 => (K r2 σ1))))) ∧ (¬ x4 = 4 → (((x4 = 5 → (False)) ∧ (¬ x4 = 5 → (((x4 = 6 → (False)) ∧ (¬ x4 = 6 → (((x4 = 7 → (False)) ∧ (¬ x4 = 7 → (((x4 = 8 → (False)) ∧ (¬ x4 = 8 → (((x4 = 9 → (False)) ∧ (¬ x4 = 9 → (((x4 = 10 → (False)) ∧ (¬ x4 = 10 → (False)))))))))))))))))))))
def U_J9_hashCode (σ : CS) (x0 : Nat) (K : Int32 → CS → Prop) : Prop := gK σ x0 = some (.inr (1, gN σ x0)) ∧ ((((Int32.ofNat (gN σ x0)) = 0 → (K 0 σ)) ∧ (¬ (Int32.ofNat (gN σ x0)) = 0 → ((((Int32.ofNat (gN σ x0)) = 1 → (gK σ x0 = some (.inr (1, gN σ x0)) ∧ (vp_in 0 (gN σ x0) ∧ (K ((gI σ x0 (Int32.toNatClampNeg 0)) &&& 255) σ)))) ∧ (¬ (Int32.ofNat (gN σ x0)) = 1 → (gK σ x0 = some (.inr (1, gN σ x0)) ∧ (U_J10_vectorizedHashCode σ x0 0 (Int32.ofNat (gN σ x0)) 0 4 (fun r2 σ1 => (K r2 σ1))))))))))
def U_J6_hashCode (σ : CS) (ob : Nat) (K : Int32 → CS → Prop) : Prop := gK σ ob = some kO21 ∧ (((¬ (gI σ ob 2) = (0 : Int32) → (K (gI σ ob 2) σ)) ∧ ((gI σ ob 2) = (0 : Int32) → (gK σ ob = some kO21 ∧ (((¬ (gI σ ob 3) = (0 : Int32) → (K (gI σ ob 2) σ)) ∧ ((gI σ ob 3) = (0 : Int32) → (gK σ ob = some kO21 ∧ (U_J6_isLatin1 σ ob (fun r2 σ1 => (((r2 = 0 → (False)) ∧ (¬ r2 = 0 → (gK σ1 ob = some kO21 ∧ (∃ q3, (gR σ1 ob 0) = q3 + 1 ∧ (U_J9_hashCode σ1 q3 (fun r6 σ5 => (((¬ r6 = 0 → (ob < CB ∧ (gK σ5 ob = some kO21 ∧ (∀ σ7 : CS, σ7 = wI σ5 ob 2 r6 → (K r6 σ7))))) ∧ (r6 = 0 → (ob < CB ∧ (gK σ5 ob = some kO21 ∧ (∀ σ8 : CS, σ8 = wI σ5 ob 3 1 → (K r6 σ8))))))))))))))))))))))))
def U_J7_compress_2_3 (K : Int32 → CS → Prop) (x0 : Nat) (x2 : Nat) (x4 : Int32) : Nat → Int32 → Int32 → Int32 → CS → Prop
  | 0 => fun _ _ _ _ => False
  | n + 1 => fun x1 x3 x5 σ => ((x4 ≤ x5 → (K x4 σ)) ∧ (¬ x4 ≤ x5 → (gK σ x0 = some (.inr (3, gN σ x0)) ∧ (vp_in x1 (gN σ x0) ∧ ((((gI σ x0 (Int32.toNatClampNeg x1)) ≤ (255 : Int32) → (x2 < CB ∧ (gK σ x2 = some (.inr (1, gN σ x2)) ∧ (vp_in x3 (gN σ x2) ∧ (∀ σ1 : CS, σ1 = wI σ x2 (Int32.toNatClampNeg x3) (vp_nar .byte ((Int32.toInt8 (gI σ x0 (Int32.toNatClampNeg x1))).toInt32)) → (U_J7_compress_2_3 K x0 x2 x4 n (x1 + 1) (x3 + 1) (x5 + 1) σ1)))))) ∧ (¬ (gI σ x0 (Int32.toNatClampNeg x1)) ≤ (255 : Int32) → (K x5 σ))))))))
def U_J7_compress_2 (σ : CS) (x0 : Nat) (x1 : Int32) (x2 : Nat) (x3 : Int32) (x4 : Int32) (K : Int32 → CS → Prop) : Prop := ∃ n3, U_J7_compress_2_3 K x0 x2 x4 n3 x1 x3 0 σ
def U_J7_compress (mc ms : Nat) (σ : CS) (x0 : Nat) (x1 : Int32) (x2 : Int32) (K : Nat → CS → Prop) : Prop := ¬ (x2 : Int32) < 0 ∧ ((Int32.toNatClampNeg x2) ≤ 1000000 ∧ ((1 ≤ mc ∧ 0 + (Int32.toNatClampNeg x2) ≤ ms) ∧ (σ.1 < CB ∧ (∀ σ1 : CS, σ1 = nC σ (.inr (1, (Int32.toNatClampNeg x2))) → (U_J7_compress_2 σ1 x0 x1 (σ.1) 0 x2 (fun r3 σ2 => (((r3 = x2 → (K ((σ.1) + 1) σ2)) ∧ (¬ r3 = x2 → (False))))))))))
def U_J7_coderFromArrayLen (σ : CS) (x0 : Nat) (x1 : Int32) (K : Int32 → CS → Prop) : Prop := gK σ x0 = some (.inr (1, gN σ x0)) ∧ (narrow .byte (.int ((Int32.toInt8 (((x1 - (Int32.ofNat (gN σ x0))).toUInt32 >>> (Int32.toUInt32 31 &&& Int32.toUInt32 31)).toInt32)).toInt32)) = .int ((Int32.toInt8 (((x1 - (Int32.ofNat (gN σ x0))).toUInt32 >>> (Int32.toUInt32 31 &&& Int32.toUInt32 31)).toInt32)).toInt32) ∧ K ((Int32.toInt8 (((x1 - (Int32.ofNat (gN σ x0))).toUInt32 >>> (Int32.toUInt32 31 &&& Int32.toUInt32 31)).toInt32)).toInt32) σ)
def U_J6_init_2 (mc ms : Nat) (σ : CS) (ob : Nat) (x1 : Nat) (x2 : Int32) (x3 : Int32) (x4 : Nat) (K : Unit → CS → Prop) : Prop := ((¬ x3 = 0 → (∃ mc3 ms4 : Nat, (0 + mc3 ≤ mc ∧ 0 + ms4 ≤ ms) ∧ (U_J7_compress mc3 ms4 σ x1 x2 x3 (fun r2 σ1 => (∃ q5, r2 = q5 + 1 ∧ (U_J7_coderFromArrayLen σ1 q5 x3 (fun r7 σ6 => (ob < CB ∧ (gK σ6 ob = some kO21 ∧ ((narrow .byte (.int r7) = .int r7 ∧ fits .byte (.int r7) = true) ∧ (∀ σ8 : CS, σ8 = wI σ6 ob 1 r7 → (ob < CB ∧ (gK σ8 ob = some kO21 ∧ (∀ σ9 : CS, σ9 = wR σ8 ob 0 (q5 + 1) → (K () σ9))))))))))))))) ∧ (x3 = 0 → (False)))
def U_J6_init (mc ms : Nat) (σ : CS) (ob : Nat) (x1 : Nat) (K : Unit → CS → Prop) : Prop := gK σ x1 = some (.inr (3, gN σ x1)) ∧ (∃ mc3 ms4 : Nat, (0 + mc3 ≤ mc ∧ 0 + ms4 ≤ ms) ∧ (U_J6_init_2 mc3 ms4 σ ob x1 0 (Int32.ofNat (gN σ x1)) 0 (fun _ σ1 => (K () σ1))))
def U_J6_valueOf (mc ms : Nat) (σ : CS) (x0 : Nat) (K : Nat → CS → Prop) : Prop := (1 ≤ mc ∧ 4 ≤ ms) ∧ (σ.1 < CB ∧ (∀ σ1 : CS, σ1 = nC σ kO21 → (∃ mc4 ms5 : Nat, (1 + mc4 ≤ mc ∧ 4 + ms5 ≤ ms) ∧ (U_J6_init mc4 ms5 σ1 (σ.1) x0 (fun _ σ2 => (K ((σ.1) + 1) σ2))))))
theorem hdP_J14_append : yJ14_append.name ≠ "<init>" ∧ (parseMethodDescriptor yJ14_append.desc).map (fun d => d.parameters.length) = some 1 := by decide +kernel
theorem hdP_J14_charAt : yJ14_charAt.name ≠ "<init>" ∧ (parseMethodDescriptor yJ14_charAt.desc).map (fun d => d.parameters.length) = some 1 := by decide +kernel
theorem hdS_J0_init : yJ0_init.cls ≠ "java/lang/invoke/MethodHandle" ∧ yJ0_init.cls ≠ "java/lang/invoke/VarHandle" ∧ (parseMethodDescriptor yJ0_init.desc).map (fun d => d.parameters.length) = some 0 := by decide +kernel
theorem hdS_J10_newLength : yJ10_newLength.cls ≠ "java/lang/invoke/MethodHandle" ∧ yJ10_newLength.cls ≠ "java/lang/invoke/VarHandle" ∧ (parseMethodDescriptor yJ10_newLength.desc).map (fun d => d.parameters.length) = some 3 := by decide +kernel
theorem hdS_J10_signedHashCode : yJ10_signedHashCode.cls ≠ "java/lang/invoke/MethodHandle" ∧ yJ10_signedHashCode.cls ≠ "java/lang/invoke/VarHandle" ∧ (parseMethodDescriptor yJ10_signedHashCode.desc).map (fun d => d.parameters.length) = some 4 := by decide +kernel
theorem hdS_J10_vectorizedHashCode : yJ10_vectorizedHashCode.cls ≠ "java/lang/invoke/MethodHandle" ∧ yJ10_vectorizedHashCode.cls ≠ "java/lang/invoke/VarHandle" ∧ (parseMethodDescriptor yJ10_vectorizedHashCode.desc).map (fun d => d.parameters.length) = some 5 := by decide +kernel
theorem hdS_J11_checkIndex : yJ11_checkIndex.cls ≠ "java/lang/invoke/MethodHandle" ∧ yJ11_checkIndex.cls ≠ "java/lang/invoke/VarHandle" ∧ (parseMethodDescriptor yJ11_checkIndex.desc).map (fun d => d.parameters.length) = some 2 := by decide +kernel
theorem hdS_J12_max : yJ12_max.cls ≠ "java/lang/invoke/MethodHandle" ∧ yJ12_max.cls ≠ "java/lang/invoke/VarHandle" ∧ (parseMethodDescriptor yJ12_max.desc).map (fun d => d.parameters.length) = some 2 := by decide +kernel
theorem hdS_J12_min : yJ12_min.cls ≠ "java/lang/invoke/MethodHandle" ∧ yJ12_min.cls ≠ "java/lang/invoke/VarHandle" ∧ (parseMethodDescriptor yJ12_min.desc).map (fun d => d.parameters.length) = some 2 := by decide +kernel
theorem hdS_J13_copyOf_3 : yJ13_copyOf_3.cls ≠ "java/lang/invoke/MethodHandle" ∧ yJ13_copyOf_3.cls ≠ "java/lang/invoke/VarHandle" ∧ (parseMethodDescriptor yJ13_copyOf_3.desc).map (fun d => d.parameters.length) = some 2 := by decide +kernel
theorem hdS_J14_ensureCapacityInternal : yJ14_ensureCapacityInternal.cls ≠ "java/lang/invoke/MethodHandle" ∧ yJ14_ensureCapacityInternal.cls ≠ "java/lang/invoke/VarHandle" ∧ (parseMethodDescriptor yJ14_ensureCapacityInternal.desc).map (fun d => d.parameters.length) = some 1 := by decide +kernel
theorem hdS_J14_init : yJ14_init.cls ≠ "java/lang/invoke/MethodHandle" ∧ yJ14_init.cls ≠ "java/lang/invoke/VarHandle" ∧ (parseMethodDescriptor yJ14_init.desc).map (fun d => d.parameters.length) = some 1 := by decide +kernel
theorem hdS_J14_newCapacity : yJ14_newCapacity.cls ≠ "java/lang/invoke/MethodHandle" ∧ yJ14_newCapacity.cls ≠ "java/lang/invoke/VarHandle" ∧ (parseMethodDescriptor yJ14_newCapacity.desc).map (fun d => d.parameters.length) = some 1 := by decide +kernel
theorem hdS_J1_init : yJ1_init.cls ≠ "java/lang/invoke/MethodHandle" ∧ yJ1_init.cls ≠ "java/lang/invoke/VarHandle" ∧ (parseMethodDescriptor yJ1_init.desc).map (fun d => d.parameters.length) = some 0 := by decide +kernel
theorem hdS_J6_checkIndex : yJ6_checkIndex.cls ≠ "java/lang/invoke/MethodHandle" ∧ yJ6_checkIndex.cls ≠ "java/lang/invoke/VarHandle" ∧ (parseMethodDescriptor yJ6_checkIndex.desc).map (fun d => d.parameters.length) = some 2 := by decide +kernel
theorem hdS_J6_init : yJ6_init.cls ≠ "java/lang/invoke/MethodHandle" ∧ yJ6_init.cls ≠ "java/lang/invoke/VarHandle" ∧ (parseMethodDescriptor yJ6_init.desc).map (fun d => d.parameters.length) = some 1 := by decide +kernel
theorem hdS_J6_init_2 : yJ6_init_2.cls ≠ "java/lang/invoke/MethodHandle" ∧ yJ6_init_2.cls ≠ "java/lang/invoke/VarHandle" ∧ (parseMethodDescriptor yJ6_init_2.desc).map (fun d => d.parameters.length) = some 4 := by decide +kernel
theorem hdS_J7_coderFromArrayLen : yJ7_coderFromArrayLen.cls ≠ "java/lang/invoke/MethodHandle" ∧ yJ7_coderFromArrayLen.cls ≠ "java/lang/invoke/VarHandle" ∧ (parseMethodDescriptor yJ7_coderFromArrayLen.desc).map (fun d => d.parameters.length) = some 2 := by decide +kernel
theorem hdS_J7_compress : yJ7_compress.cls ≠ "java/lang/invoke/MethodHandle" ∧ yJ7_compress.cls ≠ "java/lang/invoke/VarHandle" ∧ (parseMethodDescriptor yJ7_compress.desc).map (fun d => d.parameters.length) = some 3 := by decide +kernel
theorem hdS_J7_compress_2 : yJ7_compress_2.cls ≠ "java/lang/invoke/MethodHandle" ∧ yJ7_compress_2.cls ≠ "java/lang/invoke/VarHandle" ∧ (parseMethodDescriptor yJ7_compress_2.desc).map (fun d => d.parameters.length) = some 5 := by decide +kernel
theorem hdS_J8_checkIndex : yJ8_checkIndex.cls ≠ "java/lang/invoke/MethodHandle" ∧ yJ8_checkIndex.cls ≠ "java/lang/invoke/VarHandle" ∧ (parseMethodDescriptor yJ8_checkIndex.desc).map (fun d => d.parameters.length) = some 3 := by decide +kernel
theorem hdS_J9_canEncode : yJ9_canEncode.cls ≠ "java/lang/invoke/MethodHandle" ∧ yJ9_canEncode.cls ≠ "java/lang/invoke/VarHandle" ∧ (parseMethodDescriptor yJ9_canEncode.desc).map (fun d => d.parameters.length) = some 1 := by decide +kernel
theorem hdS_J9_charAt : yJ9_charAt.cls ≠ "java/lang/invoke/MethodHandle" ∧ yJ9_charAt.cls ≠ "java/lang/invoke/VarHandle" ∧ (parseMethodDescriptor yJ9_charAt.desc).map (fun d => d.parameters.length) = some 2 := by decide +kernel
theorem hdS_J9_equals : yJ9_equals.cls ≠ "java/lang/invoke/MethodHandle" ∧ yJ9_equals.cls ≠ "java/lang/invoke/VarHandle" ∧ (parseMethodDescriptor yJ9_equals.desc).map (fun d => d.parameters.length) = some 2 := by decide +kernel
theorem hdS_J9_hashCode : yJ9_hashCode.cls ≠ "java/lang/invoke/MethodHandle" ∧ yJ9_hashCode.cls ≠ "java/lang/invoke/VarHandle" ∧ (parseMethodDescriptor yJ9_hashCode.desc).map (fun d => d.parameters.length) = some 1 := by decide +kernel
theorem hdU_J14_isLatin1 : RJ14 ≠ "java/lang/invoke/MethodHandle" ∧ RJ14 ≠ "java/lang/invoke/VarHandle" ∧ (parseMethodDescriptor yJ14_isLatin1.desc).map (fun d => d.parameters.length) = some 0 := by decide +kernel
theorem hdV_J2_elementData : yJ2_elementData.cls = RJ2 ∧ yJ2_elementData.cls ≠ "java/lang/invoke/MethodHandle" ∧ yJ2_elementData.cls ≠ "java/lang/invoke/VarHandle" ∧ (parseMethodDescriptor yJ2_elementData.desc).map (fun d => d.parameters.length) = some 1 := by decide +kernel
theorem hdV_J6_coder : yJ6_coder.cls = RJ6 ∧ yJ6_coder.cls ≠ "java/lang/invoke/MethodHandle" ∧ yJ6_coder.cls ≠ "java/lang/invoke/VarHandle" ∧ (parseMethodDescriptor yJ6_coder.desc).map (fun d => d.parameters.length) = some 0 := by decide +kernel
theorem hdV_J6_isLatin1 : yJ6_isLatin1.cls = RJ6 ∧ yJ6_isLatin1.cls ≠ "java/lang/invoke/MethodHandle" ∧ yJ6_isLatin1.cls ≠ "java/lang/invoke/VarHandle" ∧ (parseMethodDescriptor yJ6_isLatin1.desc).map (fun d => d.parameters.length) = some 0 := by decide +kernel
set_option maxHeartbeats 4000000 in
set_option maxRecDepth 100000 in
theorem um_J0_init (l : Launch) (D : va_G) (dA : Nat → ClassId) (ad : Nat → Nat) (n0 : Nat) (Hs : Heap) (hA : cAd ad n0 Hs.size) (σ : CS) (ob : Nat) (K : Unit → CS → Prop) (hT : U_J0_init σ ob K) : Met l yJ0_init (ws_ yJ0_init cJ0_init 1 (none)) ({ frames := 1, cells := 0, slots := 0, locals := 12 }) (va_Pc [.ref (ad ob)] (cU D dA ad n0 Hs σ)) (xQ rvU K (cU D dA ad n0 Hs) (cA ad)) 0 0 (cA ad) := by
  refine xm_v hA (by decide) rfl (Nat.le_of_ble_eq_true rfl) ?_
  intro p e s m args below meth c Q hC hN hret hI ls hl
  have hx := hC.1.1
  have hb := hC.1.2.1
  have hB : 0 ≤ 0 ∧ 0 ≤ 0 := ⟨Nat.zero_le _, Nat.zero_le _⟩
  have hl : lv_has ls 1 [(0, .ref (ad ob))] := hl
  unfold U_J0_init at hT
  refine lv_aload_n hx hb dJ0_init_0 rfl (lv_at hl 0 rfl) ?_
  refine W.objInit hx hb hC.1.2.2.2.1 (hC.1.2.2.2.2 _ q224) (hC.1.2.2.2.2 _ q205) (hC.1.2.2.2.2 _ q206) rfl (by rw [hC.1.2.2.1]; exact hl.1) rfl dJ0_init_1 (Nat.le_of_ble_eq_true rfl) (Nat.le_of_ble_eq_true rfl) ?_
  refine W.eq (g2 := F0 m 4 ls []) rfl ?_
  exact hret _ _ _ _ _ _ _ _ hT hI hB dJ0_init_4
set_option maxHeartbeats 4000000 in
set_option maxRecDepth 100000 in
theorem um_J1_init (l : Launch) (D : va_G) (dA : Nat → ClassId) (ad : Nat → Nat) (n0 : Nat) (Hs : Heap) (hA : cAd ad n0 Hs.size) (σ : CS) (ob : Nat) (K : Unit → CS → Prop) (hT : U_J1_init σ ob K) : Met l yJ1_init (ws_ yJ1_init cJ1_init 1 (none)) ({ frames := 2, cells := 0, slots := 0, locals := 32 }) (va_Pc [.ref (ad ob)] (cU D dA ad n0 Hs σ)) (xQ rvU K (cU D dA ad n0 Hs) (cA ad)) 0 0 (cA ad) := by
  refine xm_v hA (by decide) rfl (Nat.le_of_ble_eq_true rfl) ?_
  intro p e s m args below meth c Q hC hN hret hI ls hl
  have hx := hC.1.1
  have hb := hC.1.2.1
  have hB : 0 ≤ 0 ∧ 0 ≤ 0 := ⟨Nat.zero_le _, Nat.zero_le _⟩
  have hl : lv_has ls 1 [(0, .ref (ad ob))] := hl
  unfold U_J1_init at hT
  refine lv_aload_n hx hb dJ1_init_0 rfl (lv_at hl 0 rfl) ?_
  refine x_call (x_runI (i := ob) hC hI (um_J0_init l D dA ad n0 Hs hC.2.2 σ ob _ hT) q223 q160 q221 q222 rfl 0 hdS_J0_init ⟨rfl, rfl⟩ ⟨Nat.le_of_ble_eq_true rfl, Nat.le_of_ble_eq_true rfl⟩ rfl hl.1 rfl (Nat.le_of_ble_eq_true rfl) hB dJ1_init_1) hI (fun _ σ1 H locs hT hI => ?_)
  refine W.eq (g2 := F0 m 4 ls []) rfl ?_
  refine lv_aload_n hx hb dJ1_init_4 rfl (lv_at hl 0 rfl) ?_
  refine lv_iconst (v := 0) hx hb dJ1_init_5 (by decide) ?_
  obtain ⟨hic, hT⟩ := hT
  obtain ⟨hL, hT⟩ := hT
  refine xp20_0 (i := ob) (v := 0) hC hI hic hL hT q231 (fun _ h => h) dJ1_init_6 (fun σ3 H locs hT hI => ?_)
  exact hret _ _ _ _ _ _ _ _ hT hI hB dJ1_init_9
set_option maxHeartbeats 4000000 in
set_option maxRecDepth 100000 in
theorem um_J2_size (l : Launch) (D : va_G) (dA : Nat → ClassId) (ad : Nat → Nat) (n0 : Nat) (Hs : Heap) (hA : cAd ad n0 Hs.size) (σ : CS) (ob : Nat) (K : Int32 → CS → Prop) (hT : U_J2_size σ ob K) : Met l yJ2_size (ws_ yJ2_size cJ2_size 1 (some .int)) ({ frames := 1, cells := 0, slots := 0, locals := 12 }) (va_Pc [.ref (ad ob)] (cU D dA ad n0 Hs σ)) (xQ rvI K (cU D dA ad n0 Hs) (cA ad)) 0 0 (cA ad) := by
  refine xm_i hA (by decide) rfl (Nat.le_of_ble_eq_true rfl) ?_
  intro p e s m args below meth c Q hC hN hret hI ls hl
  have hx := hC.1.1
  have hb := hC.1.2.1
  have hB : 0 ≤ 0 ∧ 0 ≤ 0 := ⟨Nat.zero_le _, Nat.zero_le _⟩
  have hl : lv_has ls 1 [(0, .ref (ad ob))] := hl
  unfold U_J2_size at hT
  refine lv_aload_n hx hb dJ2_size_0 rfl (lv_at hl 0 rfl) ?_
  obtain ⟨hL, hT⟩ := hT
  refine xg20_2 (i := ob) hC hI hL q230 (fun _ h => h) dJ2_size_1 ?_
  exact hret _ _ _ _ _ _ _ _ hT hI hB dJ2_size_4
set_option maxHeartbeats 4000000 in
set_option maxRecDepth 100000 in
theorem um_J8_checkIndex (l : Launch) (D : va_G) (dA : Nat → ClassId) (ad : Nat → Nat) (n0 : Nat) (Hs : Heap) (hA : cAd ad n0 Hs.size) (σ : CS) (x0 : Int32) (x1 : Int32) (x2 : Option Nat) (K : Int32 → CS → Prop) (hT : U_J8_checkIndex σ x0 x1 x2 K) : Met l yJ8_checkIndex (ws_ yJ8_checkIndex cJ8_checkIndex 3 (some .int)) ({ frames := 1, cells := 0, slots := 0, locals := 12 }) (va_Pc [.int x0, .int x1, va_rf x2] (cU D dA ad n0 Hs σ)) (xQ rvI K (cU D dA ad n0 Hs) (cA ad)) 0 0 (cA ad) := by
  refine xm_i hA (by decide) rfl (by cases x2 <;> exact (Nat.le_of_ble_eq_true rfl)) ?_
  intro p e s m args below meth c Q hC hN hret hI ls hl
  have hx := hC.1.1
  have hb := hC.1.2.1
  have hB : 0 ≤ 0 ∧ 0 ≤ 0 := ⟨Nat.zero_le _, Nat.zero_le _⟩
  have hl : lv_has ls 3 [(0, .int x0), (1, .int x1), (2, va_rf x2)] := by cases x2 <;> exact hl
  unfold U_J8_checkIndex at hT
  refine lv_iload_n hx hb dJ8_checkIndex_0 rfl (lv_at hl 0 rfl) ?_
  refine lv_if_lt (tgt := 9) hx hb dJ8_checkIndex_1 (by decide) (fun hc => ?_) (fun hc => ?_)
  · replace hT := hT.1 hc
    exact hT.elim
  · replace hT := hT.2 hc
    refine lv_iload_n hx hb dJ8_checkIndex_4 rfl (lv_at hl 0 rfl) ?_
    refine lv_iload_n hx hb dJ8_checkIndex_5 rfl (lv_at hl 1 rfl) ?_
    refine lv_icmp_lt (tgt := 16) hx hb dJ8_checkIndex_6 (by decide) (fun hc => ?_) (fun hc => ?_)
    · replace hT := hT.1 hc
      refine lv_iload_n hx hb dJ8_checkIndex_16 rfl (lv_at hl 0 rfl) ?_
      exact hret _ _ _ _ _ _ _ _ hT hI hB dJ8_checkIndex_17
    · replace hT := hT.2 hc
      exact hT.elim
set_option maxHeartbeats 4000000 in
set_option maxRecDepth 100000 in
theorem um_J11_checkIndex (l : Launch) (D : va_G) (dA : Nat → ClassId) (ad : Nat → Nat) (n0 : Nat) (Hs : Heap) (hA : cAd ad n0 Hs.size) (σ : CS) (x0 : Int32) (x1 : Int32) (K : Int32 → CS → Prop) (hT : U_J11_checkIndex σ x0 x1 K) : Met l yJ11_checkIndex (ws_ yJ11_checkIndex cJ11_checkIndex 2 (some .int)) ({ frames := 2, cells := 0, slots := 0, locals := 34 }) (va_Pc [.int x0, .int x1] (cU D dA ad n0 Hs σ)) (xQ rvI K (cU D dA ad n0 Hs) (cA ad)) 0 0 (cA ad) := by
  refine xm_i hA (by decide) rfl (Nat.le_of_ble_eq_true rfl) ?_
  intro p e s m args below meth c Q hC hN hret hI ls hl
  have hx := hC.1.1
  have hb := hC.1.2.1
  have hB : 0 ≤ 0 ∧ 0 ≤ 0 := ⟨Nat.zero_le _, Nat.zero_le _⟩
  have hl : lv_has ls 2 [(0, .int x0), (1, .int x1)] := hl
  unfold U_J11_checkIndex at hT
  refine lv_iload_n hx hb dJ11_checkIndex_0 rfl (lv_at hl 0 rfl) ?_
  refine lv_iload_n hx hb dJ11_checkIndex_1 rfl (lv_at hl 1 rfl) ?_
  refine lv_null hx hb dJ11_checkIndex_2 ?_
  refine x_call (x_runS hC hI (um_J8_checkIndex l D dA ad n0 Hs hC.2.2 σ x0 x1 none _ hT) (lw_S q792 q793 q173 q794) 3 hdS_J8_checkIndex ⟨rfl, rfl⟩ ⟨Nat.le_of_ble_eq_true rfl, Nat.le_of_ble_eq_true rfl⟩ rfl hl.1 rfl (Nat.le_of_ble_eq_true rfl) hB dJ11_checkIndex_3) hI (fun r2 σ1 H locs hT hI => ?_)
  refine W.eq (g2 := F0 m 6 ls [.int r2]) rfl ?_
  exact hret _ _ _ _ _ _ _ _ hT hI hB dJ11_checkIndex_6
set_option maxHeartbeats 4000000 in
set_option maxRecDepth 100000 in
theorem um_J2_elementData (l : Launch) (D : va_G) (dA : Nat → ClassId) (ad : Nat → Nat) (n0 : Nat) (Hs : Heap) (hA : cAd ad n0 Hs.size) (σ : CS) (ob : Nat) (x1 : Int32) (K : Nat → CS → Prop) (hT : U_J2_elementData σ ob x1 K) : Met l yJ2_elementData (ws_ yJ2_elementData cJ2_elementData 2 (some (.object "java/lang/Object"))) ({ frames := 1, cells := 0, slots := 0, locals := 12 }) (va_Pc [.ref (ad ob), .int x1] (cU D dA ad n0 Hs σ)) (xQ (rvR ad) K (cU D dA ad n0 Hs) (cA ad)) 0 0 (cA ad) := by
  refine xm_r (Or.inl ⟨_, rfl⟩) hA (by decide) rfl (Nat.le_of_ble_eq_true rfl) ?_
  intro p e s m args below meth c Q hC hN hret hI ls hl
  have hx := hC.1.1
  have hb := hC.1.2.1
  have hB : 0 ≤ 0 ∧ 0 ≤ 0 := ⟨Nat.zero_le _, Nat.zero_le _⟩
  have hl : lv_has ls 2 [(0, .ref (ad ob)), (1, .int x1)] := hl
  unfold U_J2_elementData at hT
  refine lv_aload_n hx hb dJ2_elementData_0 rfl (lv_at hl 0 rfl) ?_
  obtain ⟨hL, hT⟩ := hT
  refine xg20_1 (i := ob) hC hI hL q229 (fun _ h => h) dJ2_elementData_1 ?_
  refine lv_iload_n hx hb dJ2_elementData_4 rfl (lv_at hl 1 rfl) ?_
  obtain ⟨q1, hq2, hT⟩ := hT
  refine W.eq (congrArg (fun z => F0 m 5 ls [.int x1, z]) (xrq hq2)) ?_
  obtain ⟨hL, hT⟩ := hT
  refine x_aald (i := q1) hC hI hL rfl rfl (by decide) hT dJ2_elementData_5 (fun hT => ?_)
  exact hret (gR σ q1 (Int32.toNatClampNeg x1)) _ _ _ _ _ _ _ hT hI hB dJ2_elementData_6
set_option maxHeartbeats 4000000 in
set_option maxRecDepth 100000 in
theorem um_J2_get (l : Launch) (D : va_G) (dA : Nat → ClassId) (ad : Nat → Nat) (n0 : Nat) (Hs : Heap) (hA : cAd ad n0 Hs.size) (σ : CS) (ob : Nat) (x1 : Int32) (K : Nat → CS → Prop) (hT : U_J2_get σ ob x1 K) : Met l yJ2_get (ws_ yJ2_get cJ2_get 2 (some (.object "java/lang/Object"))) ({ frames := 3, cells := 0, slots := 0, locals := 55 }) (va_Pc [.ref (ad ob), .int x1] (cU D dA ad n0 Hs σ)) (xQ (rvR ad) K (cU D dA ad n0 Hs) (cA ad)) 0 0 (cA ad) := by
  refine xm_r (Or.inl ⟨_, rfl⟩) hA (by decide) rfl (Nat.le_of_ble_eq_true rfl) ?_
  intro p e s m args below meth c Q hC hN hret hI ls hl
  have hx := hC.1.1
  have hb := hC.1.2.1
  have hB : 0 ≤ 0 ∧ 0 ≤ 0 := ⟨Nat.zero_le _, Nat.zero_le _⟩
  have hl : lv_has ls 2 [(0, .ref (ad ob)), (1, .int x1)] := hl
  unfold U_J2_get at hT
  refine lv_iload_n hx hb dJ2_get_0 rfl (lv_at hl 1 rfl) ?_
  refine lv_aload_n hx hb dJ2_get_1 rfl (lv_at hl 0 rfl) ?_
  obtain ⟨hL, hT⟩ := hT
  refine xg20_2 (i := ob) hC hI hL q230 (fun _ h => h) dJ2_get_2 ?_
  refine x_call (x_runS hC hI (um_J11_checkIndex l D dA ad n0 Hs hC.2.2 σ x1 (gI σ ob 2) _ hT) (lw_S q789 q790 q177 q791) 2 hdS_J11_checkIndex ⟨rfl, rfl⟩ ⟨Nat.le_of_ble_eq_true rfl, Nat.le_of_ble_eq_true rfl⟩ rfl hl.1 rfl (Nat.le_of_ble_eq_true rfl) hB dJ2_get_5) hI (fun r2 σ1 H locs hT hI => ?_)
  refine W.eq (g2 := F0 m 8 ls [.int r2]) rfl ?_
  refine lv_pop hx hb dJ2_get_8 rfl ?_
  refine lv_aload_n hx hb dJ2_get_9 rfl (lv_at hl 0 rfl) ?_
  refine lv_iload_n hx hb dJ2_get_10 rfl (lv_at hl 1 rfl) ?_
  obtain ⟨hL, hT⟩ := hT
  refine x_call (x_runV (i := ob) hC hI hL rfl (um_J2_elementData l D dA ad n0 Hs hC.2.2 σ1 ob x1 _ hT) (lw_V q795 q796 q797 q162 q798) 1 hdV_J2_elementData ⟨rfl, rfl⟩ ⟨Nat.le_of_ble_eq_true rfl, Nat.le_of_ble_eq_true rfl⟩ rfl hl.1 rfl (Nat.le_of_ble_eq_true rfl) hB dJ2_get_11) hI (fun r4 σ3 H locs hT hI => ?_)
  refine W.eq (g2 := F0 m 14 ls [va_rf (rgR ad r4)]) rfl ?_
  exact hret r4 _ _ _ _ _ _ _ hT hI hB dJ2_get_14
set_option maxHeartbeats 4000000 in
set_option maxRecDepth 100000 in
theorem um_J12_max (l : Launch) (D : va_G) (dA : Nat → ClassId) (ad : Nat → Nat) (n0 : Nat) (Hs : Heap) (hA : cAd ad n0 Hs.size) (σ : CS) (x0 : Int32) (x1 : Int32) (K : Int32 → CS → Prop) (hT : U_J12_max σ x0 x1 K) : Met l yJ12_max (ws_ yJ12_max cJ12_max 2 (some .int)) ({ frames := 1, cells := 0, slots := 0, locals := 12 }) (va_Pc [.int x0, .int x1] (cU D dA ad n0 Hs σ)) (xQ rvI K (cU D dA ad n0 Hs) (cA ad)) 0 0 (cA ad) := by
  refine xm_iF hA (by decide +kernel) rfl (Nat.le_of_ble_eq_true rfl) ?_
  intro p e s m args below meth c Q hC hN hret hI ls hl
  have hx := hC.1.1
  have hb := hC.1.2.1
  have hB : 0 ≤ 0 ∧ 0 ≤ 0 := ⟨Nat.zero_le _, Nat.zero_le _⟩
  have hl : lv_has ls 2 [(0, .int x0), (1, .int x1)] := hl
  unfold U_J12_max at hT
  refine lv_iload_n hx hb dJ12_max_0 rfl (lv_at hl 0 rfl) ?_
  refine lv_iload_n hx hb dJ12_max_1 rfl (lv_at hl 1 rfl) ?_
  refine lv_icmp_lt (tgt := 9) hx hb dJ12_max_2 (by decide) (fun hc => ?_) (fun hc => ?_)
  · replace hT := hT.1 hc
    refine lv_iload_n hx hb dJ12_max_9 rfl (lv_at hl 1 rfl) ?_
    exact hret _ _ _ _ _ _ _ _ hT hI hB dJ12_max_10
  · replace hT := hT.2 hc
    refine lv_iload_n hx hb dJ12_max_5 rfl (lv_at hl 0 rfl) ?_
    refine lv_goto (tgt := 10) hx hb dJ12_max_6 (by decide) ?_
    exact hret _ _ _ _ _ _ _ _ hT hI hB dJ12_max_10
set_option maxHeartbeats 4000000 in
set_option maxRecDepth 100000 in
theorem um_J12_min (l : Launch) (D : va_G) (dA : Nat → ClassId) (ad : Nat → Nat) (n0 : Nat) (Hs : Heap) (hA : cAd ad n0 Hs.size) (σ : CS) (x0 : Int32) (x1 : Int32) (K : Int32 → CS → Prop) (hT : U_J12_min σ x0 x1 K) : Met l yJ12_min (ws_ yJ12_min cJ12_min 2 (some .int)) ({ frames := 1, cells := 0, slots := 0, locals := 12 }) (va_Pc [.int x0, .int x1] (cU D dA ad n0 Hs σ)) (xQ rvI K (cU D dA ad n0 Hs) (cA ad)) 0 0 (cA ad) := by
  refine xm_iF hA (by decide +kernel) rfl (Nat.le_of_ble_eq_true rfl) ?_
  intro p e s m args below meth c Q hC hN hret hI ls hl
  have hx := hC.1.1
  have hb := hC.1.2.1
  have hB : 0 ≤ 0 ∧ 0 ≤ 0 := ⟨Nat.zero_le _, Nat.zero_le _⟩
  have hl : lv_has ls 2 [(0, .int x0), (1, .int x1)] := hl
  unfold U_J12_min at hT
  refine lv_iload_n hx hb dJ12_min_0 rfl (lv_at hl 0 rfl) ?_
  refine lv_iload_n hx hb dJ12_min_1 rfl (lv_at hl 1 rfl) ?_
  refine lv_icmp_gt (tgt := 9) hx hb dJ12_min_2 (by decide) (fun hc => ?_) (fun hc => ?_)
  · replace hT := hT.1 hc
    refine lv_iload_n hx hb dJ12_min_9 rfl (lv_at hl 1 rfl) ?_
    exact hret _ _ _ _ _ _ _ _ hT hI hB dJ12_min_10
  · replace hT := hT.2 hc
    refine lv_iload_n hx hb dJ12_min_5 rfl (lv_at hl 0 rfl) ?_
    refine lv_goto (tgt := 10) hx hb dJ12_min_6 (by decide) ?_
    exact hret _ _ _ _ _ _ _ _ hT hI hB dJ12_min_10
set_option maxHeartbeats 4000000 in
set_option maxRecDepth 100000 in
theorem um_J12_max_2 (l : Launch) (D : va_G) (dA : Nat → ClassId) (ad : Nat → Nat) (n0 : Nat) (Hs : Heap) (hA : cAd ad n0 Hs.size) (σ : CS) (x0 : Int64) (x2 : Int64) (K : Int64 → CS → Prop) (hT : U_J12_max_2 σ x0 x2 K) : Met l yJ12_max_2 (ws_ yJ12_max_2 cJ12_max_2 4 (some .long)) ({ frames := 1, cells := 0, slots := 0, locals := 12 }) (va_Pc [.long x0, .long x2] (cU D dA ad n0 Hs σ)) (xQ rvL K (cU D dA ad n0 Hs) (cA ad)) 0 0 (cA ad) := by
  refine xm_lF hA (by decide +kernel) rfl (Nat.le_of_ble_eq_true rfl) ?_
  intro p e s m args below meth c Q hC hN hret hI ls hl
  have hx := hC.1.1
  have hb := hC.1.2.1
  have hB : 0 ≤ 0 ∧ 0 ≤ 0 := ⟨Nat.zero_le _, Nat.zero_le _⟩
  have hl : lv_has ls 4 [(0, .long x0), (2, .long x2)] := hl
  unfold U_J12_max_2 at hT
  refine lv_lload_n hx hb dJ12_max_2_0 rfl (lv_at hl 0 rfl) ?_
  refine lv_lload_n hx hb dJ12_max_2_1 rfl (lv_at hl 1 rfl) ?_
  refine rl_lt (tgt := 10) hx hb dJ12_max_2_2 dJ12_max_2_3 (by decide) (fun hc => ?_) (fun hc => ?_)
  · replace hT := hT.1 hc
    refine lv_lload_n hx hb dJ12_max_2_10 rfl (lv_at hl 1 rfl) ?_
    exact hret _ _ _ _ _ _ _ _ hT hI hB dJ12_max_2_11
  · replace hT := hT.2 hc
    refine lv_lload_n hx hb dJ12_max_2_6 rfl (lv_at hl 0 rfl) ?_
    refine lv_goto (tgt := 11) hx hb dJ12_max_2_7 (by decide) ?_
    exact hret _ _ _ _ _ _ _ _ hT hI hB dJ12_max_2_11
set_option maxHeartbeats 4000000 in
set_option maxRecDepth 100000 in
theorem um_J12_min_2 (l : Launch) (D : va_G) (dA : Nat → ClassId) (ad : Nat → Nat) (n0 : Nat) (Hs : Heap) (hA : cAd ad n0 Hs.size) (σ : CS) (x0 : Int64) (x2 : Int64) (K : Int64 → CS → Prop) (hT : U_J12_min_2 σ x0 x2 K) : Met l yJ12_min_2 (ws_ yJ12_min_2 cJ12_min_2 4 (some .long)) ({ frames := 1, cells := 0, slots := 0, locals := 12 }) (va_Pc [.long x0, .long x2] (cU D dA ad n0 Hs σ)) (xQ rvL K (cU D dA ad n0 Hs) (cA ad)) 0 0 (cA ad) := by
  refine xm_lF hA (by decide +kernel) rfl (Nat.le_of_ble_eq_true rfl) ?_
  intro p e s m args below meth c Q hC hN hret hI ls hl
  have hx := hC.1.1
  have hb := hC.1.2.1
  have hB : 0 ≤ 0 ∧ 0 ≤ 0 := ⟨Nat.zero_le _, Nat.zero_le _⟩
  have hl : lv_has ls 4 [(0, .long x0), (2, .long x2)] := hl
  unfold U_J12_min_2 at hT
  refine lv_lload_n hx hb dJ12_min_2_0 rfl (lv_at hl 0 rfl) ?_
  refine lv_lload_n hx hb dJ12_min_2_1 rfl (lv_at hl 1 rfl) ?_
  refine rl_gt (tgt := 10) hx hb dJ12_min_2_2 dJ12_min_2_3 (by decide) (fun hc => ?_) (fun hc => ?_)
  · replace hT := hT.1 hc
    refine lv_lload_n hx hb dJ12_min_2_10 rfl (lv_at hl 1 rfl) ?_
    exact hret _ _ _ _ _ _ _ _ hT hI hB dJ12_min_2_11
  · replace hT := hT.2 hc
    refine lv_lload_n hx hb dJ12_min_2_6 rfl (lv_at hl 0 rfl) ?_
    refine lv_goto (tgt := 11) hx hb dJ12_min_2_7 (by decide) ?_
    exact hret _ _ _ _ _ _ _ _ hT hI hB dJ12_min_2_11
set_option maxHeartbeats 4000000 in
set_option maxRecDepth 100000 in
theorem um_J12_floorDiv (l : Launch) (D : va_G) (dA : Nat → ClassId) (ad : Nat → Nat) (n0 : Nat) (Hs : Heap) (hA : cAd ad n0 Hs.size) (σ : CS) (x0 : Int64) (x2 : Int64) (K : Int64 → CS → Prop) (hT : U_J12_floorDiv σ x0 x2 K) : Met l yJ12_floorDiv (ws_ yJ12_floorDiv cJ12_floorDiv 6 (some .long)) ({ frames := 1, cells := 0, slots := 0, locals := 12 }) (va_Pc [.long x0, .long x2] (cU D dA ad n0 Hs σ)) (xQ rvL K (cU D dA ad n0 Hs) (cA ad)) 0 0 (cA ad) := by
  refine xm_lF hA (by decide +kernel) rfl (Nat.le_of_ble_eq_true rfl) ?_
  intro p e s m args below meth c Q hC hN hret hI ls hl
  have hx := hC.1.1
  have hb := hC.1.2.1
  have hB : 0 ≤ 0 ∧ 0 ≤ 0 := ⟨Nat.zero_le _, Nat.zero_le _⟩
  have hl : lv_has ls 6 [(0, .long x0), (2, .long x2)] := hl
  unfold U_J12_floorDiv at hT
  refine lv_lload_n hx hb dJ12_floorDiv_0 rfl (lv_at hl 0 rfl) ?_
  refine lv_lload_n hx hb dJ12_floorDiv_1 rfl (lv_at hl 1 rfl) ?_
  refine lv_ldiv hx hb dJ12_floorDiv_2 hT.1 ?_
  replace hT := hT.2
  refine lv_lstore (lv' := [(4, .long (x0 / x2)), (0, .long x0), (2, .long x2)]) hx hb dJ12_floorDiv_3 hl (Nat.le_of_ble_eq_true rfl) rfl (fun ls hl => ?_)
  refine lv_lload_n hx hb dJ12_floorDiv_5 rfl (lv_at hl 1 rfl) ?_
  refine lv_lload_n hx hb dJ12_floorDiv_6 rfl (lv_at hl 2 rfl) ?_
  refine lv_lxor hx hb dJ12_floorDiv_7 ?_
  refine lv_lconst (v := 0) hx hb dJ12_floorDiv_8 (by decide) ?_
  refine rl_ge (tgt := 27) hx hb dJ12_floorDiv_9 dJ12_floorDiv_10 (by decide) (fun hc => ?_) (fun hc => ?_)
  · replace hT := hT.1 hc
    refine lv_lload hx hb dJ12_floorDiv_27 (lv_at hl 0 rfl) ?_
    exact hret _ _ _ _ _ _ _ _ hT hI hB dJ12_floorDiv_29
  · replace hT := hT.2 hc
    refine lv_lload hx hb dJ12_floorDiv_13 (lv_at hl 0 rfl) ?_
    refine lv_lload_n hx hb dJ12_floorDiv_15 rfl (lv_at hl 2 rfl) ?_
    refine lv_lmul hx hb dJ12_floorDiv_16 ?_
    refine lv_lload_n hx hb dJ12_floorDiv_17 rfl (lv_at hl 1 rfl) ?_
    refine rl_eq (tgt := 27) hx hb dJ12_floorDiv_18 dJ12_floorDiv_19 (by decide) (fun hc => ?_) (fun hc => ?_)
    · replace hT := hT.1 hc
      refine lv_lload hx hb dJ12_floorDiv_27 (lv_at hl 0 rfl) ?_
      exact hret _ _ _ _ _ _ _ _ hT hI hB dJ12_floorDiv_29
    · replace hT := hT.2 hc
      refine lv_lload hx hb dJ12_floorDiv_22 (lv_at hl 0 rfl) ?_
      refine lv_lconst (v := 1) hx hb dJ12_floorDiv_24 (by decide) ?_
      refine lv_lsub hx hb dJ12_floorDiv_25 ?_
      exact hret _ _ _ _ _ _ _ _ hT hI hB dJ12_floorDiv_26
set_option maxHeartbeats 4000000 in
set_option maxRecDepth 100000 in
theorem um_J16_bitCount (l : Launch) (D : va_G) (dA : Nat → ClassId) (ad : Nat → Nat) (n0 : Nat) (Hs : Heap) (hA : cAd ad n0 Hs.size) (σ : CS) (x0 : Int32) (K : Int32 → CS → Prop) (hT : U_J16_bitCount σ x0 K) : Met l yJ16_bitCount (ws_ yJ16_bitCount cJ16_bitCount 1 (some .int)) ({ frames := 1, cells := 0, slots := 0, locals := 12 }) (va_Pc [.int x0] (cU D dA ad n0 Hs σ)) (xQ rvI K (cU D dA ad n0 Hs) (cA ad)) 0 0 (cA ad) := by
  refine xm_i hA (by decide) rfl (Nat.le_of_ble_eq_true rfl) ?_
  intro p e s m args below meth c Q hC hN hret hI ls hl
  have hx := hC.1.1
  have hb := hC.1.2.1
  have hB : 0 ≤ 0 ∧ 0 ≤ 0 := ⟨Nat.zero_le _, Nat.zero_le _⟩
  have hl : lv_has ls 1 [(0, .int x0)] := hl
  unfold U_J16_bitCount at hT
  refine lv_iload_n hx hb dJ16_bitCount_0 rfl (lv_at hl 0 rfl) ?_
  refine lv_iload_n hx hb dJ16_bitCount_1 rfl (lv_at hl 0 rfl) ?_
  refine lv_iconst (v := 1) hx hb dJ16_bitCount_2 (by decide) ?_
  refine lv_iushr hx hb dJ16_bitCount_3 rfl ?_
  refine lv_ldcw hx hb hC.1.2.2.2.1 (hC.1.2.2.2.2 _ q1271) dJ16_bitCount_4 ?_
  refine lv_iand hx hb dJ16_bitCount_7 ?_
  refine lv_isub hx hb dJ16_bitCount_8 ?_
  refine lv_topi (fun y1 h2 => ?_)
  replace hT := hT y1 h2
  refine lv_istore_n (lv' := [(0, .int y1)]) hx hb dJ16_bitCount_9 rfl hl (Nat.le_of_ble_eq_true rfl) rfl (fun ls hl => ?_)
  refine lv_iload_n hx hb dJ16_bitCount_10 rfl (lv_at hl 0 rfl) ?_
  refine lv_ldcw hx hb hC.1.2.2.2.1 (hC.1.2.2.2.2 _ q1272) dJ16_bitCount_11 ?_
  refine lv_iand hx hb dJ16_bitCount_14 ?_
  refine lv_iload_n hx hb dJ16_bitCount_15 rfl (lv_at hl 0 rfl) ?_
  refine lv_iconst (v := 2) hx hb dJ16_bitCount_16 (by decide) ?_
  refine lv_iushr hx hb dJ16_bitCount_17 rfl ?_
  refine lv_ldcw hx hb hC.1.2.2.2.1 (hC.1.2.2.2.2 _ q1272) dJ16_bitCount_18 ?_
  refine lv_iand hx hb dJ16_bitCount_21 ?_
  refine lv_iadd hx hb dJ16_bitCount_22 ?_
  refine lv_topi (fun y3 h4 => ?_)
  replace hT := hT y3 h4
  refine lv_istore_n (lv' := [(0, .int y3)]) hx hb dJ16_bitCount_23 rfl hl (Nat.le_of_ble_eq_true rfl) rfl (fun ls hl => ?_)
  refine lv_iload_n hx hb dJ16_bitCount_24 rfl (lv_at hl 0 rfl) ?_
  refine lv_iload_n hx hb dJ16_bitCount_25 rfl (lv_at hl 0 rfl) ?_
  refine lv_iconst (v := 4) hx hb dJ16_bitCount_26 (by decide) ?_
  refine lv_iushr hx hb dJ16_bitCount_27 rfl ?_
  refine lv_iadd hx hb dJ16_bitCount_28 ?_
  refine lv_ldcw hx hb hC.1.2.2.2.1 (hC.1.2.2.2.2 _ q1273) dJ16_bitCount_29 ?_
  refine lv_iand hx hb dJ16_bitCount_32 ?_
  refine lv_topi (fun y5 h6 => ?_)
  replace hT := hT y5 h6
  refine lv_istore_n (lv' := [(0, .int y5)]) hx hb dJ16_bitCount_33 rfl hl (Nat.le_of_ble_eq_true rfl) rfl (fun ls hl => ?_)
  refine lv_iload_n hx hb dJ16_bitCount_34 rfl (lv_at hl 0 rfl) ?_
  refine lv_iload_n hx hb dJ16_bitCount_35 rfl (lv_at hl 0 rfl) ?_
  refine lv_bipush (v := 8) hx hb dJ16_bitCount_36 (by decide) ?_
  refine lv_iushr hx hb dJ16_bitCount_38 rfl ?_
  refine lv_iadd hx hb dJ16_bitCount_39 ?_
  refine lv_topi (fun y7 h8 => ?_)
  replace hT := hT y7 h8
  refine lv_istore_n (lv' := [(0, .int y7)]) hx hb dJ16_bitCount_40 rfl hl (Nat.le_of_ble_eq_true rfl) rfl (fun ls hl => ?_)
  refine lv_iload_n hx hb dJ16_bitCount_41 rfl (lv_at hl 0 rfl) ?_
  refine lv_iload_n hx hb dJ16_bitCount_42 rfl (lv_at hl 0 rfl) ?_
  refine lv_bipush (v := 16) hx hb dJ16_bitCount_43 (by decide) ?_
  refine lv_iushr hx hb dJ16_bitCount_45 rfl ?_
  refine lv_iadd hx hb dJ16_bitCount_46 ?_
  refine lv_topi (fun y9 h10 => ?_)
  replace hT := hT y9 h10
  refine lv_istore_n (lv' := [(0, .int y9)]) hx hb dJ16_bitCount_47 rfl hl (Nat.le_of_ble_eq_true rfl) rfl (fun ls hl => ?_)
  refine lv_iload_n hx hb dJ16_bitCount_48 rfl (lv_at hl 0 rfl) ?_
  refine lv_bipush (v := 63) hx hb dJ16_bitCount_49 (by decide) ?_
  refine lv_iand hx hb dJ16_bitCount_51 ?_
  exact hret _ _ _ _ _ _ _ _ hT hI hB dJ16_bitCount_52
set_option maxHeartbeats 4000000 in
set_option maxRecDepth 100000 in
theorem um_J10_newLength (l : Launch) (D : va_G) (dA : Nat → ClassId) (ad : Nat → Nat) (n0 : Nat) (Hs : Heap) (hA : cAd ad n0 Hs.size) (σ : CS) (x0 : Int32) (x1 : Int32) (x2 : Int32) (K : Int32 → CS → Prop) (hT : U_J10_newLength σ x0 x1 x2 K) : Met l yJ10_newLength (ws_ yJ10_newLength cJ10_newLength 4 (some .int)) ({ frames := 2, cells := 0, slots := 0, locals := 33 }) (va_Pc [.int x0, .int x1, .int x2] (cU D dA ad n0 Hs σ)) (xQ rvI K (cU D dA ad n0 Hs) (cA ad)) 0 0 (cA ad) := by
  refine xm_i hA (by decide) rfl (Nat.le_of_ble_eq_true rfl) ?_
  intro p e s m args below meth c Q hC hN hret hI ls hl
  have hx := hC.1.1
  have hb := hC.1.2.1
  have hB : 0 ≤ 0 ∧ 0 ≤ 0 := ⟨Nat.zero_le _, Nat.zero_le _⟩
  have hl : lv_has ls 4 [(0, .int x0), (1, .int x1), (2, .int x2)] := hl
  unfold U_J10_newLength at hT
  refine lv_iload_n hx hb dJ10_newLength_0 rfl (lv_at hl 0 rfl) ?_
  refine lv_iload_n hx hb dJ10_newLength_1 rfl (lv_at hl 1 rfl) ?_
  refine lv_iload_n hx hb dJ10_newLength_2 rfl (lv_at hl 2 rfl) ?_
  refine x_call (x_runS hC hI (um_J12_max l D dA ad n0 Hs hC.2.2 σ x1 x2 _ hT) (lw_S q873 q874 q179 q875) 2 hdS_J12_max ⟨rfl, rfl⟩ ⟨Nat.le_of_ble_eq_true rfl, Nat.le_of_ble_eq_true rfl⟩ rfl hl.1 rfl (Nat.le_of_ble_eq_true rfl) hB dJ10_newLength_3) hI (fun r2 σ1 H locs hT hI => ?_)
  refine W.eq (g2 := F0 m 6 ls [.int r2, .int x0]) rfl ?_
  refine lv_iadd hx hb dJ10_newLength_6 ?_
  refine lv_istore_n (lv' := [(3, .int (x0 + r2)), (0, .int x0), (1, .int x1), (2, .int x2)]) hx hb dJ10_newLength_7 rfl hl (Nat.le_of_ble_eq_true rfl) rfl (fun ls hl => ?_)
  refine lv_iconst (v := 0) hx hb dJ10_newLength_8 (by decide) ?_
  refine lv_iload_n hx hb dJ10_newLength_9 rfl (lv_at hl 0 rfl) ?_
  refine lv_icmp_ge (tgt := 21) hx hb dJ10_newLength_10 (by decide) (fun hc => ?_) (fun hc => ?_)
  · replace hT := hT.1 hc
    exact hT.elim
  · replace hT := hT.2 hc
    refine lv_iload_n hx hb dJ10_newLength_13 rfl (lv_at hl 0 rfl) ?_
    refine lv_ldc hx hb hC.1.2.2.2.1 (hC.1.2.2.2.2 _ q876) dJ10_newLength_14 ?_
    refine lv_icmp_gt (tgt := 21) hx hb dJ10_newLength_16 (by decide) (fun hc => ?_) (fun hc => ?_)
    · replace hT := hT.1 hc
      exact hT.elim
    · replace hT := hT.2 hc
      refine lv_iload_n hx hb dJ10_newLength_19 rfl (lv_at hl 0 rfl) ?_
      exact hret _ _ _ _ _ _ _ _ hT hI hB dJ10_newLength_20
set_option maxHeartbeats 4000000 in
set_option maxRecDepth 100000 in
theorem um_J13_copyOf_3 (l : Launch) (D : va_G) (dA : Nat → ClassId) (ad : Nat → Nat) (n0 : Nat) (Hs : Heap) (hA : cAd ad n0 Hs.size) (mc ms : Nat) (σ : CS) (x0 : Nat) (x1 : Int32) (K : Nat → CS → Prop) (hT : U_J13_copyOf_3 mc ms σ x0 x1 K) : Met l yJ13_copyOf_3 (ws_ yJ13_copyOf_3 cJ13_copyOf_3 3 (some (.array .byte))) ({ frames := 2, cells := mc, slots := ms, locals := 40 }) (va_Pc [.ref (ad x0), .int x1] (cU D dA ad n0 Hs σ)) (xQ (rvR ad) K (cU D dA ad n0 Hs) (cA ad)) mc ms (cA ad) := by
  refine xm_r (Or.inr ⟨_, rfl⟩) hA (by decide) rfl (Nat.le_of_ble_eq_true rfl) ?_
  intro p e s m args below meth c Q hC hN hret hI ls hl
  have hx := hC.1.1
  have hb := hC.1.2.1
  have hB : 0 ≤ mc ∧ 0 ≤ ms := ⟨Nat.zero_le _, Nat.zero_le _⟩
  have hl : lv_has ls 3 [(0, .ref (ad x0)), (1, .int x1)] := hl
  unfold U_J13_copyOf_3 at hT
  refine lv_iload_n hx hb dJ13_copyOf_3_0 rfl (lv_at hl 1 rfl) ?_
  refine lv_aload_n hx hb dJ13_copyOf_3_1 rfl (lv_at hl 0 rfl) ?_
  obtain ⟨hL, hT⟩ := hT
  refine x_alen (i := x0) hC hI hL (by decide) dJ13_copyOf_3_2 ?_
  refine lv_icmp_ne (tgt := 14) hx hb dJ13_copyOf_3_3 (by decide) (fun hc => ?_) (fun hc => ?_)
  · replace hT := hT.1 hc
    refine lv_iload_n hx hb dJ13_copyOf_3_14 rfl (lv_at hl 1 rfl) ?_
    have hB := hT.2.2.1
    refine xnewa1 hC hI hT dJ13_copyOf_3_15 (fun σ1 H hT hI => ?_)
    refine lv_astore_n (lv' := [(2, .ref (ad (σ.1))), (0, .ref (ad x0)), (1, .int x1)]) hx hb dJ13_copyOf_3_17 rfl hl (Nat.le_of_ble_eq_true rfl) rfl (fun ls hl => ?_)
    refine lv_aload_n hx hb dJ13_copyOf_3_18 rfl (lv_at hl 1 rfl) ?_
    refine lv_iconst (v := 0) hx hb dJ13_copyOf_3_19 (by decide) ?_
    refine lv_aload_n hx hb dJ13_copyOf_3_20 rfl (lv_at hl 0 rfl) ?_
    refine lv_iconst (v := 0) hx hb dJ13_copyOf_3_21 (by decide) ?_
    refine lv_aload_n hx hb dJ13_copyOf_3_22 rfl (lv_at hl 1 rfl) ?_
    obtain ⟨hL, hT⟩ := hT
    refine x_alen (i := x0) hC hI hL (by decide) dJ13_copyOf_3_23 ?_
    refine lv_iload_n hx hb dJ13_copyOf_3_24 rfl (lv_at hl 2 rfl) ?_
    refine x_call (x_runS hC hI (um_J12_min l D dA ad n0 Hs hC.2.2 σ1 (Int32.ofNat (gN σ1 x0)) x1 _ hT) (lw_S q916 q917 q179 q918) 2 hdS_J12_min ⟨rfl, rfl⟩ ⟨Nat.le_of_ble_eq_true rfl, Nat.le_of_ble_eq_true rfl⟩ rfl hl.1 rfl (Nat.le_of_ble_eq_true rfl) hB dJ13_copyOf_3_25) hI (fun r3 σ2 H locs hT hI => ?_)
    refine W.eq (g2 := F0 m 28 ls [.int r3, .int 0, .ref (ad (σ.1)), .int 0, .ref (ad x0)]) rfl ?_
    refine x_copy (b := x0) (a := σ.1) hC hI hl.1 q919 q921 q920 q181 hT.1.1 hT.1.2 hT.2.1.1 hT.2.1.2 (by decide) hT.2.2 (Nat.le_of_ble_eq_true rfl) (Nat.le_of_ble_eq_true rfl) dJ13_copyOf_3_28 (fun σ4 H locs hT hI => ?_)
    refine lv_aload_n hx hb dJ13_copyOf_3_31 rfl (lv_at hl 0 rfl) ?_
    exact hret ((σ.1) + 1) _ _ _ _ _ _ _ hT hI hB dJ13_copyOf_3_32
  · replace hT := hT.2 hc
    exact hT.elim
set_option maxHeartbeats 4000000 in
set_option maxRecDepth 100000 in
theorem um_J2_init (l : Launch) (D : va_G) (dA : Nat → ClassId) (ad : Nat → Nat) (n0 : Nat) (Hs : Heap) (hA : cAd ad n0 Hs.size) (mc ms : Nat) (σ : CS) (ob : Nat) (x1 : Int32) (K : Unit → CS → Prop) (hT : U_J2_init mc ms σ ob x1 K) : Met l yJ2_init (ws_ yJ2_init cJ2_init 2 (none)) ({ frames := 3, cells := mc, slots := ms, locals := 52 }) (va_Pc [.ref (ad ob), .int x1] (cU D dA ad n0 Hs σ)) (xQ rvU K (cU D dA ad n0 Hs) (cA ad)) mc ms (cA ad) := by
  refine xm_v hA (by decide) rfl (Nat.le_of_ble_eq_true rfl) ?_
  intro p e s m args below meth c Q hC hN hret hI ls hl
  have hx := hC.1.1
  have hb := hC.1.2.1
  have hB : 0 ≤ mc ∧ 0 ≤ ms := ⟨Nat.zero_le _, Nat.zero_le _⟩
  have hl : lv_has ls 2 [(0, .ref (ad ob)), (1, .int x1)] := hl
  unfold U_J2_init at hT
  refine lv_aload_n hx hb dJ2_init_0 rfl (lv_at hl 0 rfl) ?_
  refine x_call (x_runI (i := ob) hC hI (um_J1_init l D dA ad n0 Hs hC.2.2 σ ob _ hT) q220 q161 q218 q219 rfl 0 hdS_J1_init ⟨rfl, rfl⟩ ⟨Nat.le_of_ble_eq_true rfl, Nat.le_of_ble_eq_true rfl⟩ rfl hl.1 rfl (Nat.le_of_ble_eq_true rfl) hB dJ2_init_1) hI (fun _ σ1 H locs hT hI => ?_)
  refine W.eq (g2 := F0 m 4 ls []) rfl ?_
  refine lv_iload_n hx hb dJ2_init_4 rfl (lv_at hl 1 rfl) ?_
  refine lv_if_le (tgt := 19) hx hb dJ2_init_5 (by decide) (fun hc => ?_) (fun hc => ?_)
  · replace hT := hT.1 hc
    exact hT.elim
  · replace hT := hT.2 hc
    refine lv_aload_n hx hb dJ2_init_8 rfl (lv_at hl 0 rfl) ?_
    refine lv_iload_n hx hb dJ2_init_9 rfl (lv_at hl 1 rfl) ?_
    have hB := hT.2.2.1
    refine xanew5 hC hI q225 hT dJ2_init_10 (fun σ3 H hT hI => ?_)
    obtain ⟨hic, hT⟩ := hT
    obtain ⟨hL, hT⟩ := hT
    refine xp20_1 (i := ob) (v := (σ1.1) + 1) hC hI hic hL hT q229 (fun _ h => h) dJ2_init_13 (fun σ4 H locs hT hI => ?_)
    refine lv_goto (tgt := 60) hx hb dJ2_init_16 (by decide) ?_
    exact hret _ _ _ _ _ _ _ _ hT hI hB dJ2_init_60
set_option maxHeartbeats 4000000 in
set_option maxRecDepth 100000 in
theorem um_J14_isLatin1 (l : Launch) (D : va_G) (dA : Nat → ClassId) (ad : Nat → Nat) (n0 : Nat) (Hs : Heap) (hA : cAd ad n0 Hs.size) (σ : CS) (ob : Nat) (K : Int32 → CS → Prop) (hT : U_J14_isLatin1 σ ob K) : Met l yJ14_isLatin1 (ws_ yJ14_isLatin1 cJ14_isLatin1 1 (some .boolean)) ({ frames := 1, cells := 0, slots := 0, locals := 12 }) (va_Pc [.ref (ad ob)] (cU D dA ad n0 Hs σ)) (xQ rvI K (cU D dA ad n0 Hs) (cA ad)) 0 0 (cA ad) := by
  refine xm_z hA (by decide) rfl (Nat.le_of_ble_eq_true rfl) ?_
  intro p e s m args below meth c Q hC hN hret hI ls hl
  have hx := hC.1.1
  have hb := hC.1.2.1
  have hB : 0 ≤ 0 ∧ 0 ≤ 0 := ⟨Nat.zero_le _, Nat.zero_le _⟩
  have hl : lv_has ls 1 [(0, .ref (ad ob))] := hl
  unfold U_J14_isLatin1 at hT
  refine x_gets (w := .int 1) hC hI (List.mem_of_getElem? (i := 0) rfl) q1032 rfl dJ14_isLatin1_0 ?_
  refine lv_if_eq (tgt := 17) hx hb dJ14_isLatin1_3 (by decide) (fun hc => ?_) (fun hc => ?_)
  · exact absurd hc (by decide)
  · refine lv_aload_n hx hb dJ14_isLatin1_6 rfl (lv_at hl 0 rfl) ?_
    obtain ⟨hL, hT⟩ := hT
    refine xg22_1 (i := ob) hC hI hL q1035 (fun _ h => h) dJ14_isLatin1_7 ?_
    refine lv_if_ne (tgt := 17) hx hb dJ14_isLatin1_10 (by decide) (fun hc => ?_) (fun hc => ?_)
    · replace hT := hT.1 hc
      refine lv_iconst (v := 0) hx hb dJ14_isLatin1_17 (by decide) ?_
      exact hret _ _ _ _ _ _ _ _ rfl hT hI hB dJ14_isLatin1_18
    · replace hT := hT.2 hc
      refine lv_iconst (v := 1) hx hb dJ14_isLatin1_13 (by decide) ?_
      refine lv_goto (tgt := 18) hx hb dJ14_isLatin1_14 (by decide) ?_
      exact hret _ _ _ _ _ _ _ _ rfl hT hI hB dJ14_isLatin1_18
set_option maxHeartbeats 4000000 in
set_option maxRecDepth 100000 in
theorem um_J14_newCapacity (l : Launch) (D : va_G) (dA : Nat → ClassId) (ad : Nat → Nat) (n0 : Nat) (Hs : Heap) (hA : cAd ad n0 Hs.size) (σ : CS) (ob : Nat) (x1 : Int32) (K : Int32 → CS → Prop) (hT : U_J14_newCapacity σ ob x1 K) : Met l yJ14_newCapacity (ws_ yJ14_newCapacity cJ14_newCapacity 6 (some .int)) ({ frames := 3, cells := 0, slots := 0, locals := 56 }) (va_Pc [.ref (ad ob), .int x1] (cU D dA ad n0 Hs σ)) (xQ rvI K (cU D dA ad n0 Hs) (cA ad)) 0 0 (cA ad) := by
  refine xm_i hA (by decide) rfl (Nat.le_of_ble_eq_true rfl) ?_
  intro p e s m args below meth c Q hC hN hret hI ls hl
  have hx := hC.1.1
  have hb := hC.1.2.1
  have hB : 0 ≤ 0 ∧ 0 ≤ 0 := ⟨Nat.zero_le _, Nat.zero_le _⟩
  have hl : lv_has ls 6 [(0, .ref (ad ob)), (1, .int x1)] := hl
  unfold U_J14_newCapacity at hT
  refine lv_aload_n hx hb dJ14_newCapacity_0 rfl (lv_at hl 0 rfl) ?_
  obtain ⟨hL, hT⟩ := hT
  refine xg22_0 (i := ob) hC hI hL q1034 (fun _ h => h) dJ14_newCapacity_1 ?_
  obtain ⟨q1, hq2, hT⟩ := hT
  refine W.eq (congrArg (fun z => F0 m 4 ls [z]) (xrq hq2)) ?_
  obtain ⟨hL, hT⟩ := hT
  refine x_alen (i := q1) hC hI hL (by decide) dJ14_newCapacity_4 ?_
  refine lv_istore_n (lv' := [(2, .int (Int32.ofNat (gN σ q1))), (0, .ref (ad ob)), (1, .int x1)]) hx hb dJ14_newCapacity_5 rfl hl (Nat.le_of_ble_eq_true rfl) rfl (fun ls hl => ?_)
  refine lv_iload_n hx hb dJ14_newCapacity_6 rfl (lv_at hl 2 rfl) ?_
  refine lv_aload_n hx hb dJ14_newCapacity_7 rfl (lv_at hl 1 rfl) ?_
  obtain ⟨hL, hT⟩ := hT
  refine xg22_1 (i := ob) hC hI hL q1035 (fun _ h => h) dJ14_newCapacity_8 ?_
  refine lv_ishl hx hb dJ14_newCapacity_11 ?_
  refine lv_istore_n (lv' := [(3, .int (x1 <<< ((gI σ ob 1) &&& 31))), (2, .int (Int32.ofNat (gN σ q1))), (0, .ref (ad ob)), (1, .int x1)]) hx hb dJ14_newCapacity_12 rfl hl (Nat.le_of_ble_eq_true rfl) rfl (fun ls hl => ?_)
  refine lv_iload_n hx hb dJ14_newCapacity_13 rfl (lv_at hl 0 rfl) ?_
  refine lv_iload_n hx hb dJ14_newCapacity_14 rfl (lv_at hl 1 rfl) ?_
  refine lv_isub hx hb dJ14_newCapacity_15 ?_
  refine lv_istore (lv' := [(4, .int ((x1 <<< ((gI σ ob 1) &&& 31)) - (Int32.ofNat (gN σ q1)))), (3, .int (x1 <<< ((gI σ ob 1) &&& 31))), (2, .int (Int32.ofNat (gN σ q1))), (0, .ref (ad ob)), (1, .int x1)]) hx hb dJ14_newCapacity_16 hl (Nat.le_of_ble_eq_true rfl) rfl (fun ls hl => ?_)
  refine lv_iload_n hx hb dJ14_newCapacity_18 rfl (lv_at hl 2 rfl) ?_
  refine lv_iload hx hb dJ14_newCapacity_19 (lv_at hl 0 rfl) ?_
  refine lv_iload_n hx hb dJ14_newCapacity_21 rfl (lv_at hl 2 rfl) ?_
  refine lv_iconst (v := 2) hx hb dJ14_newCapacity_22 (by decide) ?_
  refine lv_aload_n hx hb dJ14_newCapacity_23 rfl (lv_at hl 3 rfl) ?_
  obtain ⟨hL, hT⟩ := hT
  refine xg22_1 (i := ob) hC hI hL q1035 (fun _ h => h) dJ14_newCapacity_24 ?_
  refine lv_ishl hx hb dJ14_newCapacity_27 ?_
  refine lv_iadd hx hb dJ14_newCapacity_28 ?_
  refine x_call (x_runS hC hI (um_J10_newLength l D dA ad n0 Hs hC.2.2 σ (Int32.ofNat (gN σ q1)) ((x1 <<< ((gI σ ob 1) &&& 31)) - (Int32.ofNat (gN σ q1))) ((Int32.ofNat (gN σ q1)) + (2 <<< ((gI σ ob 1) &&& 31))) _ hT) (lw_S q1149 q871 q175 q872) 3 hdS_J10_newLength ⟨rfl, rfl⟩ ⟨Nat.le_of_ble_eq_true rfl, Nat.le_of_ble_eq_true rfl⟩ rfl hl.1 rfl (Nat.le_of_ble_eq_true rfl) hB dJ14_newCapacity_29) hI (fun r4 σ3 H locs hT hI => ?_)
  refine W.eq (g2 := F0 m 32 ls [.int r4]) rfl ?_
  refine lv_istore (lv' := [(5, .int r4), (4, .int ((x1 <<< ((gI σ ob 1) &&& 31)) - (Int32.ofNat (gN σ q1)))), (3, .int (x1 <<< ((gI σ ob 1) &&& 31))), (2, .int (Int32.ofNat (gN σ q1))), (0, .ref (ad ob)), (1, .int x1)]) hx hb dJ14_newCapacity_32 hl (Nat.le_of_ble_eq_true rfl) rfl (fun ls hl => ?_)
  refine lv_iload hx hb dJ14_newCapacity_34 (lv_at hl 0 rfl) ?_
  refine lv_ldc hx hb hC.1.2.2.2.1 (hC.1.2.2.2.2 _ q1150) dJ14_newCapacity_36 ?_
  refine lv_icmp_ne (tgt := 51) hx hb dJ14_newCapacity_38 (by decide) (fun hc => ?_) (fun hc => ?_)
  · replace hT := hT.1 hc
    refine lv_iload hx hb dJ14_newCapacity_51 (lv_at hl 0 rfl) ?_
    refine lv_aload_n hx hb dJ14_newCapacity_53 rfl (lv_at hl 4 rfl) ?_
    obtain ⟨hL, hT⟩ := hT
    refine xg22_1 (i := ob) hC hI hL q1035 (fun _ h => h) dJ14_newCapacity_54 ?_
    refine lv_ishr hx hb dJ14_newCapacity_57 ?_
    exact hret _ _ _ _ _ _ _ _ hT hI hB dJ14_newCapacity_58
  · replace hT := hT.2 hc
    exact hT.elim
set_option maxHeartbeats 4000000 in
set_option maxRecDepth 100000 in
theorem um_J14_ensureCapacityInternal (l : Launch) (D : va_G) (dA : Nat → ClassId) (ad : Nat → Nat) (n0 : Nat) (Hs : Heap) (hA : cAd ad n0 Hs.size) (mc ms : Nat) (σ : CS) (ob : Nat) (x1 : Int32) (K : Unit → CS → Prop) (hT : U_J14_ensureCapacityInternal mc ms σ ob x1 K) : Met l yJ14_ensureCapacityInternal (ws_ yJ14_ensureCapacityInternal cJ14_ensureCapacityInternal 3 (none)) ({ frames := 4, cells := mc, slots := ms, locals := 81 }) (va_Pc [.ref (ad ob), .int x1] (cU D dA ad n0 Hs σ)) (xQ rvU K (cU D dA ad n0 Hs) (cA ad)) mc ms (cA ad) := by
  refine xm_v hA (by decide) rfl (Nat.le_of_ble_eq_true rfl) ?_
  intro p e s m args below meth c Q hC hN hret hI ls hl
  have hx := hC.1.1
  have hb := hC.1.2.1
  have hB : 0 ≤ mc ∧ 0 ≤ ms := ⟨Nat.zero_le _, Nat.zero_le _⟩
  have hl : lv_has ls 3 [(0, .ref (ad ob)), (1, .int x1)] := hl
  unfold U_J14_ensureCapacityInternal at hT
  refine lv_aload_n hx hb dJ14_ensureCapacityInternal_0 rfl (lv_at hl 0 rfl) ?_
  obtain ⟨hL, hT⟩ := hT
  refine xg22_0 (i := ob) hC hI hL q1034 (fun _ h => h) dJ14_ensureCapacityInternal_1 ?_
  obtain ⟨q1, hq2, hT⟩ := hT
  refine W.eq (congrArg (fun z => F0 m 4 ls [z]) (xrq hq2)) ?_
  obtain ⟨hL, hT⟩ := hT
  refine x_alen (i := q1) hC hI hL (by decide) dJ14_ensureCapacityInternal_4 ?_
  refine lv_aload_n hx hb dJ14_ensureCapacityInternal_5 rfl (lv_at hl 0 rfl) ?_
  obtain ⟨hL, hT⟩ := hT
  refine xg22_1 (i := ob) hC hI hL q1035 (fun _ h => h) dJ14_ensureCapacityInternal_6 ?_
  refine lv_ishr hx hb dJ14_ensureCapacityInternal_9 ?_
  refine lv_istore_n (lv' := [(2, .int ((Int32.ofNat (gN σ q1)) >>> ((gI σ ob 1) &&& 31))), (0, .ref (ad ob)), (1, .int x1)]) hx hb dJ14_ensureCapacityInternal_10 rfl hl (Nat.le_of_ble_eq_true rfl) rfl (fun ls hl => ?_)
  refine lv_iload_n hx hb dJ14_ensureCapacityInternal_11 rfl (lv_at hl 2 rfl) ?_
  refine lv_iload_n hx hb dJ14_ensureCapacityInternal_12 rfl (lv_at hl 0 rfl) ?_
  refine lv_isub hx hb dJ14_ensureCapacityInternal_13 ?_
  refine lv_if_le (tgt := 38) hx hb dJ14_ensureCapacityInternal_14 (by decide) (fun hc => ?_) (fun hc => ?_)
  · replace hT := hT.1 hc
    exact hret _ _ _ _ _ _ _ _ hT hI hB dJ14_ensureCapacityInternal_38
  · replace hT := hT.2 hc
    refine lv_aload_n hx hb dJ14_ensureCapacityInternal_17 rfl (lv_at hl 1 rfl) ?_
    refine lv_aload_n hx hb dJ14_ensureCapacityInternal_18 rfl (lv_at hl 1 rfl) ?_
    obtain ⟨hL, hT⟩ := hT
    refine xg22_0 (i := ob) hC hI hL q1034 (fun _ h => h) dJ14_ensureCapacityInternal_19 ?_
    refine lv_aload_n hx hb dJ14_ensureCapacityInternal_22 rfl (lv_at hl 1 rfl) ?_
    refine lv_iload_n hx hb dJ14_ensureCapacityInternal_23 rfl (lv_at hl 2 rfl) ?_
    obtain ⟨hL, hT⟩ := hT
    refine x_call (x_runP (i := ob) hC hI hL rfl (um_J14_newCapacity l D dA ad n0 Hs hC.2.2 σ ob x1 _ hT) q1148 q190 q1145 q2570 q1147 hC.2.1.2.2.2.2.2.2.1.2.2.2 1 hdS_J14_newCapacity ⟨rfl, rfl⟩ ⟨Nat.le_of_ble_eq_true rfl, Nat.le_of_ble_eq_true rfl⟩ rfl hl.1 rfl (by simp only [List.map_cons, List.map_nil, List.sum_cons, List.sum_nil, va_rf_cat, vc_int, vc_long, vc_ref, vc_null]; decide) hB dJ14_ensureCapacityInternal_24) hI (fun r4 σ3 H locs hT hI => ?_)
    refine W.eq (g2 := F0 m 27 ls [.int r4, va_rf (rgR ad (gR σ ob 0)), .ref (ad ob)]) rfl ?_
    refine lv_aload_n hx hb dJ14_ensureCapacityInternal_27 rfl (lv_at hl 1 rfl) ?_
    obtain ⟨hL, hT⟩ := hT
    refine xg22_1 (i := ob) hC hI hL q1035 (fun _ h => h) dJ14_ensureCapacityInternal_28 ?_
    refine lv_ishl hx hb dJ14_ensureCapacityInternal_31 ?_
    obtain ⟨q5, hq6, hT⟩ := hT
    refine W.eq (congrArg (fun z => F0 m 32 ls [.int (r4 <<< ((gI σ3 ob 1) &&& 31)), z, .ref (ad ob)]) (xrq hq6)) ?_
    obtain ⟨mc9, ms10, hB, hT⟩ := hT
    refine x_call (x_runS hC hI (um_J13_copyOf_3 l D dA ad n0 Hs hC.2.2 mc9 ms10 σ3 q5 (r4 <<< ((gI σ3 ob 1) &&& 31)) _ hT) (lw_S q1151 q1152 q180 q1153) 2 hdS_J13_copyOf_3 ⟨rfl, rfl⟩ ⟨Nat.le_of_ble_eq_true rfl, Nat.le_of_ble_eq_true rfl⟩ rfl hl.1 rfl (Nat.le_of_ble_eq_true rfl) hB dJ14_ensureCapacityInternal_32) hI (fun r8 σ7 H locs hT hI => ?_)
    refine W.eq (g2 := F0 m 35 ls [va_rf (rgR ad r8), .ref (ad ob)]) rfl ?_
    obtain ⟨hic, hT⟩ := hT
    obtain ⟨hL, hT⟩ := hT
    refine xp22_0 (i := ob) (v := r8) hC hI hic hL hT q1034 (fun _ h => h) dJ14_ensureCapacityInternal_35 (fun σ11 H locs hT hI => ?_)
    exact hret _ _ _ _ _ _ _ _ hT hI hB dJ14_ensureCapacityInternal_38
set_option maxHeartbeats 4000000 in
set_option maxRecDepth 100000 in
theorem um_J9_canEncode (l : Launch) (D : va_G) (dA : Nat → ClassId) (ad : Nat → Nat) (n0 : Nat) (Hs : Heap) (hA : cAd ad n0 Hs.size) (σ : CS) (x0 : Int32) (K : Int32 → CS → Prop) (hT : U_J9_canEncode σ x0 K) : Met l yJ9_canEncode (ws_ yJ9_canEncode cJ9_canEncode 1 (some .boolean)) ({ frames := 1, cells := 0, slots := 0, locals := 12 }) (va_Pc [.int x0] (cU D dA ad n0 Hs σ)) (xQ rvI K (cU D dA ad n0 Hs) (cA ad)) 0 0 (cA ad) := by
  refine xm_z hA (by decide) rfl (Nat.le_of_ble_eq_true rfl) ?_
  intro p e s m args below meth c Q hC hN hret hI ls hl
  have hx := hC.1.1
  have hb := hC.1.2.1
  have hB : 0 ≤ 0 ∧ 0 ≤ 0 := ⟨Nat.zero_le _, Nat.zero_le _⟩
  have hl : lv_has ls 1 [(0, .int x0)] := hl
  unfold U_J9_canEncode at hT
  refine lv_iload_n hx hb dJ9_canEncode_0 rfl (lv_at hl 0 rfl) ?_
  refine lv_sipush (v := 255) hx hb dJ9_canEncode_1 (by decide) ?_
  refine lv_icmp_gt (tgt := 11) hx hb dJ9_canEncode_4 (by decide) (fun hc => ?_) (fun hc => ?_)
  · replace hT := hT.1 hc
    refine lv_iconst (v := 0) hx hb dJ9_canEncode_11 (by decide) ?_
    exact hret _ _ _ _ _ _ _ _ rfl hT hI hB dJ9_canEncode_12
  · replace hT := hT.2 hc
    refine lv_iconst (v := 1) hx hb dJ9_canEncode_7 (by decide) ?_
    refine lv_goto (tgt := 12) hx hb dJ9_canEncode_8 (by decide) ?_
    exact hret _ _ _ _ _ _ _ _ rfl hT hI hB dJ9_canEncode_12
set_option maxHeartbeats 4000000 in
set_option maxRecDepth 100000 in
theorem um_J14_init (l : Launch) (D : va_G) (dA : Nat → ClassId) (ad : Nat → Nat) (n0 : Nat) (Hs : Heap) (hA : cAd ad n0 Hs.size) (mc ms : Nat) (σ : CS) (ob : Nat) (x1 : Int32) (K : Unit → CS → Prop) (hT : U_J14_init mc ms σ ob x1 K) : Met l yJ14_init (ws_ yJ14_init cJ14_init 2 (none)) ({ frames := 1, cells := mc, slots := ms, locals := 12 }) (va_Pc [.ref (ad ob), .int x1] (cU D dA ad n0 Hs σ)) (xQ rvU K (cU D dA ad n0 Hs) (cA ad)) mc ms (cA ad) := by
  refine xm_v hA (by decide) rfl (Nat.le_of_ble_eq_true rfl) ?_
  intro p e s m args below meth c Q hC hN hret hI ls hl
  have hx := hC.1.1
  have hb := hC.1.2.1
  have hB : 0 ≤ mc ∧ 0 ≤ ms := ⟨Nat.zero_le _, Nat.zero_le _⟩
  have hl : lv_has ls 2 [(0, .ref (ad ob)), (1, .int x1)] := hl
  unfold U_J14_init at hT
  refine lv_aload_n hx hb dJ14_init_0 rfl (lv_at hl 0 rfl) ?_
  refine W.objInit hx hb hC.1.2.2.2.1 (hC.1.2.2.2.2 _ q1031) (hC.1.2.2.2.2 _ q205) (hC.1.2.2.2.2 _ q206) rfl (by rw [hC.1.2.2.1]; exact hl.1) rfl dJ14_init_1 (Nat.le_of_ble_eq_true rfl) (Nat.le_of_ble_eq_true rfl) ?_
  refine W.eq (g2 := F0 m 4 ls []) rfl ?_
  refine x_gets (w := .int 1) hC hI (List.mem_of_getElem? (i := 0) rfl) q1032 rfl dJ14_init_4 ?_
  refine lv_if_eq (tgt := 25) hx hb dJ14_init_7 (by decide) (fun hc => ?_) (fun hc => ?_)
  · exact absurd hc (by decide)
  · refine lv_aload_n hx hb dJ14_init_10 rfl (lv_at hl 0 rfl) ?_
    refine lv_iload_n hx hb dJ14_init_11 rfl (lv_at hl 1 rfl) ?_
    have hB := hT.2.2.1
    refine xnewa1 hC hI hT dJ14_init_12 (fun σ1 H hT hI => ?_)
    obtain ⟨hic, hT⟩ := hT
    obtain ⟨hL, hT⟩ := hT
    refine xp22_0 (i := ob) (v := (σ.1) + 1) hC hI hic hL hT q1034 (fun _ h => h) dJ14_init_14 (fun σ2 H locs hT hI => ?_)
    refine lv_aload_n hx hb dJ14_init_17 rfl (lv_at hl 0 rfl) ?_
    refine lv_iconst (v := 0) hx hb dJ14_init_18 (by decide) ?_
    obtain ⟨hic, hT⟩ := hT
    obtain ⟨hL, hT⟩ := hT
    refine xp22_1 (i := ob) (v := 0) hC hI hic hL ⟨rfl, rfl⟩ hT q1035 (fun _ h => h) dJ14_init_19 (fun σ3 H locs hT hI => ?_)
    refine lv_goto (tgt := 38) hx hb dJ14_init_22 (by decide) ?_
    exact hret _ _ _ _ _ _ _ _ hT hI hB dJ14_init_38
set_option maxHeartbeats 4000000 in
set_option maxRecDepth 100000 in
theorem um_J14_append (l : Launch) (D : va_G) (dA : Nat → ClassId) (ad : Nat → Nat) (n0 : Nat) (Hs : Heap) (hA : cAd ad n0 Hs.size) (mc ms : Nat) (σ : CS) (ob : Nat) (x1 : Int32) (K : Nat → CS → Prop) (hT : U_J14_append mc ms σ ob x1 K) : Met l yJ14_append (ws_ yJ14_append cJ14_append 2 (some (.object "java/lang/AbstractStringBuilder"))) ({ frames := 5, cells := mc, slots := ms, locals := 103 }) (va_Pc [.ref (ad ob), .int x1] (cU D dA ad n0 Hs σ)) (xQ (rvR ad) K (cU D dA ad n0 Hs) (cA ad)) mc ms (cA ad) := by
  refine xm_r (Or.inl ⟨_, rfl⟩) hA (by decide) rfl (Nat.le_of_ble_eq_true rfl) ?_
  intro p e s m args below meth c Q hC hN hret hI ls hl
  have hx := hC.1.1
  have hb := hC.1.2.1
  have hB : 0 ≤ mc ∧ 0 ≤ ms := ⟨Nat.zero_le _, Nat.zero_le _⟩
  have hl : lv_has ls 2 [(0, .ref (ad ob)), (1, .int x1)] := hl
  unfold U_J14_append at hT
  refine lv_aload_n hx hb dJ14_append_0 rfl (lv_at hl 0 rfl) ?_
  refine lv_aload_n hx hb dJ14_append_1 rfl (lv_at hl 0 rfl) ?_
  obtain ⟨hL, hT⟩ := hT
  refine xg22_3 (i := ob) hC hI hL q1036 (fun _ h => h) dJ14_append_2 ?_
  refine lv_iconst (v := 1) hx hb dJ14_append_5 (by decide) ?_
  refine lv_iadd hx hb dJ14_append_6 ?_
  obtain ⟨hL, hT⟩ := hT
  obtain ⟨mc3, ms4, hB, hT⟩ := hT
  refine x_call (x_runP (i := ob) hC hI hL rfl (um_J14_ensureCapacityInternal l D dA ad n0 Hs hC.2.2 mc3 ms4 σ ob ((gI σ ob 3) + 1) _ hT) q1144 q190 q1141 q2569 q1143 hC.2.1.2.2.2.2.2.2.1.2.2.1 1 hdS_J14_ensureCapacityInternal ⟨rfl, rfl⟩ ⟨Nat.le_of_ble_eq_true rfl, Nat.le_of_ble_eq_true rfl⟩ rfl hl.1 rfl (Nat.le_of_ble_eq_true rfl) hB dJ14_append_7) hI (fun _ σ1 H locs hT hI => ?_)
  refine W.eq (g2 := F0 m 10 ls []) rfl ?_
  refine lv_aload_n hx hb dJ14_append_10 rfl (lv_at hl 0 rfl) ?_
  obtain ⟨hL, hT⟩ := hT
  refine x_call (x_runU (i := ob) hC hI hL rfl (um_J14_isLatin1 l D dA ad n0 Hs hC.2.2 σ1 ob _ hT) (lw_app (a := [.methodLink _ _ _, .sameMethod _ _ _ _, .selects _ _ _, .instanceMethod _, .initialized _]) (lw5 q1161 q1163 q1164 q1162 q190) (lw_meth q1165)) rfl 0 hdU_J14_isLatin1 ⟨rfl, rfl⟩ ⟨Nat.le_of_ble_eq_true rfl, Nat.le_of_ble_eq_true rfl⟩ rfl hl.1 rfl (Nat.le_of_ble_eq_true rfl) hB dJ14_append_11) hI (fun r6 σ5 H locs hT hI => ?_)
  refine W.eq (g2 := F0 m 14 ls [.int r6]) rfl ?_
  refine lv_if_eq (tgt := 45) hx hb dJ14_append_14 (by decide) (fun hc => ?_) (fun hc => ?_)
  · replace hT := hT.1 hc
    exact hT.elim
  · replace hT := hT.2 hc
    refine lv_iload_n hx hb dJ14_append_17 rfl (lv_at hl 1 rfl) ?_
    refine x_call (x_runS hC hI (um_J9_canEncode l D dA ad n0 Hs hC.2.2 σ5 x1 _ hT) (lw_S q1166 q1167 q174 q1168) 1 hdS_J9_canEncode ⟨rfl, rfl⟩ ⟨Nat.le_of_ble_eq_true rfl, Nat.le_of_ble_eq_true rfl⟩ rfl hl.1 rfl (Nat.le_of_ble_eq_true rfl) hB dJ14_append_18) hI (fun r8 σ7 H locs hT hI => ?_)
    refine W.eq (g2 := F0 m 21 ls [.int r8]) rfl ?_
    refine lv_if_eq (tgt := 45) hx hb dJ14_append_21 (by decide) (fun hc => ?_) (fun hc => ?_)
    · replace hT := hT.1 hc
      exact hT.elim
    · replace hT := hT.2 hc
      refine lv_aload_n hx hb dJ14_append_24 rfl (lv_at hl 0 rfl) ?_
      obtain ⟨hL, hT⟩ := hT
      refine xg22_0 (i := ob) hC hI hL q1034 (fun _ h => h) dJ14_append_25 ?_
      refine lv_aload_n hx hb dJ14_append_28 rfl (lv_at hl 0 rfl) ?_
      refine lv_dup hx hb dJ14_append_29 rfl ?_
      obtain ⟨hL, hT⟩ := hT
      refine xg22_3 (i := ob) hC hI hL q1036 (fun _ h => h) dJ14_append_30 ?_
      refine lv_dup_x1 hx hb dJ14_append_33 rfl rfl ?_
      refine lv_iconst (v := 1) hx hb dJ14_append_34 (by decide) ?_
      refine lv_iadd hx hb dJ14_append_35 ?_
      obtain ⟨hic, hT⟩ := hT
      obtain ⟨hL, hT⟩ := hT
      refine xp22_3 (i := ob) (v := (gI σ7 ob 3) + 1) hC hI hic hL hT q1036 (fun _ h => h) dJ14_append_36 (fun σ9 H locs hT hI => ?_)
      refine lv_iload_n hx hb dJ14_append_39 rfl (lv_at hl 1 rfl) ?_
      refine lv_i2b hx hb dJ14_append_40 rfl ?_
      obtain ⟨q10, hq11, hT⟩ := hT
      refine W.eq (congrArg (fun z => F0 m 41 ls [.int ((Int32.toInt8 x1).toInt32), .int (gI σ7 ob 3), z]) (xrq hq11)) ?_
      obtain ⟨hic, hT⟩ := hT
      obtain ⟨hL, hT⟩ := hT
      refine x_bast (i := q10) hC hI hic hL hT dJ14_append_41 (fun σ12 H locs hT hI => ?_)
      refine lv_goto (tgt := 75) hx hb dJ14_append_42 (by decide) ?_
      refine lv_aload_n hx hb dJ14_append_75 rfl (lv_at hl 0 rfl) ?_
      exact hret (ob + 1) _ _ _ _ _ _ _ hT hI hB dJ14_append_76
set_option maxHeartbeats 4000000 in
set_option maxRecDepth 100000 in
theorem um_J6_checkIndex (l : Launch) (D : va_G) (dA : Nat → ClassId) (ad : Nat → Nat) (n0 : Nat) (Hs : Heap) (hA : cAd ad n0 Hs.size) (σ : CS) (x0 : Int32) (x1 : Int32) (K : Unit → CS → Prop) (hT : U_J6_checkIndex σ x0 x1 K) : Met l yJ6_checkIndex (ws_ yJ6_checkIndex cJ6_checkIndex 2 (none)) ({ frames := 2, cells := 0, slots := 0, locals := 34 }) (va_Pc [.int x0, .int x1] (cU D dA ad n0 Hs σ)) (xQ rvU K (cU D dA ad n0 Hs) (cA ad)) 0 0 (cA ad) := by
  refine xm_v hA (by decide) rfl (Nat.le_of_ble_eq_true rfl) ?_
  intro p e s m args below meth c Q hC hN hret hI ls hl
  have hx := hC.1.1
  have hb := hC.1.2.1
  have hB : 0 ≤ 0 ∧ 0 ≤ 0 := ⟨Nat.zero_le _, Nat.zero_le _⟩
  have hl : lv_has ls 2 [(0, .int x0), (1, .int x1)] := hl
  unfold U_J6_checkIndex at hT
  refine lv_iload_n hx hb dJ6_checkIndex_0 rfl (lv_at hl 0 rfl) ?_
  refine lv_iload_n hx hb dJ6_checkIndex_1 rfl (lv_at hl 1 rfl) ?_
  refine x_getsq hC hI (List.mem_of_getElem? (i := 0) rfl) q649 hT dJ6_checkIndex_2 (fun w1 hT => ?_)
  refine x_call (x_runS hC hI (um_J8_checkIndex l D dA ad n0 Hs hC.2.2 σ x0 x1 w1 _ hT) (lw_S q1188 q793 q173 q794) 3 hdS_J8_checkIndex ⟨rfl, rfl⟩ ⟨Nat.le_of_ble_eq_true rfl, Nat.le_of_ble_eq_true rfl⟩ rfl hl.1 rfl (Nat.le_of_ble_eq_true rfl) hB dJ6_checkIndex_5) hI (fun r3 σ2 H locs hT hI => ?_)
  refine W.eq (g2 := F0 m 8 ls [.int r3]) rfl ?_
  refine lv_pop hx hb dJ6_checkIndex_8 rfl ?_
  exact hret _ _ _ _ _ _ _ _ hT hI hB dJ6_checkIndex_9
set_option maxHeartbeats 4000000 in
set_option maxRecDepth 100000 in
theorem um_J14_charAt (l : Launch) (D : va_G) (dA : Nat → ClassId) (ad : Nat → Nat) (n0 : Nat) (Hs : Heap) (hA : cAd ad n0 Hs.size) (σ : CS) (ob : Nat) (x1 : Int32) (K : Int32 → CS → Prop) (hT : U_J14_charAt σ ob x1 K) : Met l yJ14_charAt (ws_ yJ14_charAt cJ14_charAt 5 (some .char)) ({ frames := 3, cells := 0, slots := 0, locals := 55 }) (va_Pc [.ref (ad ob), .int x1] (cU D dA ad n0 Hs σ)) (xQ rvI K (cU D dA ad n0 Hs) (cA ad)) 0 0 (cA ad) := by
  refine xm_c hA (by decide) rfl (Nat.le_of_ble_eq_true rfl) ?_
  intro p e s m args below meth c Q hC hN hret hI ls hl
  have hx := hC.1.1
  have hb := hC.1.2.1
  have hB : 0 ≤ 0 ∧ 0 ≤ 0 := ⟨Nat.zero_le _, Nat.zero_le _⟩
  have hl : lv_has ls 5 [(0, .ref (ad ob)), (1, .int x1)] := hl
  unfold U_J14_charAt at hT
  refine lv_aload_n hx hb dJ14_charAt_0 rfl (lv_at hl 0 rfl) ?_
  obtain ⟨hL, hT⟩ := hT
  refine xg22_1 (i := ob) hC hI hL q1035 (fun _ h => h) dJ14_charAt_1 ?_
  refine lv_istore_n (lv' := [(2, .int (gI σ ob 1)), (0, .ref (ad ob)), (1, .int x1)]) hx hb dJ14_charAt_4 rfl hl (Nat.le_of_ble_eq_true rfl) rfl (fun ls hl => ?_)
  refine lv_aload_n hx hb dJ14_charAt_5 rfl (lv_at hl 1 rfl) ?_
  obtain ⟨hL, hT⟩ := hT
  refine xg22_0 (i := ob) hC hI hL q1034 (fun _ h => h) dJ14_charAt_6 ?_
  refine x_astore_n (lv' := [(3, va_rf (rgR ad (gR σ ob 0))), (2, .int (gI σ ob 1)), (0, .ref (ad ob)), (1, .int x1)]) hx hb dJ14_charAt_9 rfl hl (Nat.le_of_ble_eq_true rfl) rfl (fun ls hl => ?_)
  refine lv_aload_n hx hb dJ14_charAt_10 rfl (lv_at hl 2 rfl) ?_
  obtain ⟨hL, hT⟩ := hT
  refine xg22_3 (i := ob) hC hI hL q1036 (fun _ h => h) dJ14_charAt_11 ?_
  refine x_aload_n hx hb dJ14_charAt_14 rfl (lv_at hl 0 rfl) ?_
  obtain ⟨q1, hq2, hT⟩ := hT
  refine W.eq (congrArg (fun z => F0 m 15 ls [z, .int (gI σ ob 3)]) (xrq hq2)) ?_
  obtain ⟨hL, hT⟩ := hT
  refine x_alen (i := q1) hC hI hL (by decide) dJ14_charAt_15 ?_
  refine lv_iload_n hx hb dJ14_charAt_16 rfl (lv_at hl 1 rfl) ?_
  refine lv_ishr hx hb dJ14_charAt_17 ?_
  refine x_call (x_runS hC hI (um_J12_min l D dA ad n0 Hs hC.2.2 σ (gI σ ob 3) ((Int32.ofNat (gN σ q1)) >>> ((gI σ ob 1) &&& 31)) _ hT) (lw_S q1369 q917 q179 q918) 2 hdS_J12_min ⟨rfl, rfl⟩ ⟨Nat.le_of_ble_eq_true rfl, Nat.le_of_ble_eq_true rfl⟩ rfl hl.1 rfl (Nat.le_of_ble_eq_true rfl) hB dJ14_charAt_18) hI (fun r4 σ3 H locs hT hI => ?_)
  refine W.eq (g2 := F0 m 21 ls [.int r4]) rfl ?_
  refine lv_istore (lv' := [(4, .int r4), (3, va_rf (rgR ad (gR σ ob 0))), (2, .int (gI σ ob 1)), (0, .ref (ad ob)), (1, .int x1)]) hx hb dJ14_charAt_21 hl (Nat.le_of_ble_eq_true rfl) (by simp [va_rf_cat, vc_int, vc_long, vc_ref, vc_null]) (fun ls hl => ?_)
  refine lv_iload_n hx hb dJ14_charAt_23 rfl (lv_at hl 4 rfl) ?_
  refine lv_iload hx hb dJ14_charAt_24 (lv_at hl 0 rfl) ?_
  refine x_call (x_runS hC hI (um_J6_checkIndex l D dA ad n0 Hs hC.2.2 σ3 x1 r4 _ hT) (lw_S q1370 q1186 q171 q1187) 2 hdS_J6_checkIndex ⟨rfl, rfl⟩ ⟨Nat.le_of_ble_eq_true rfl, Nat.le_of_ble_eq_true rfl⟩ rfl hl.1 rfl (Nat.le_of_ble_eq_true rfl) hB dJ14_charAt_26) hI (fun _ σ5 H locs hT hI => ?_)
  refine W.eq (g2 := F0 m 29 ls []) rfl ?_
  refine lv_iload_n hx hb dJ14_charAt_29 rfl (lv_at hl 2 rfl) ?_
  refine lv_if_ne (tgt := 42) hx hb dJ14_charAt_30 (by decide) (fun hc => ?_) (fun hc => ?_)
  · replace hT := hT.1 hc
    exact hT.elim
  · replace hT := hT.2 hc
    refine x_aload_n hx hb dJ14_charAt_33 rfl (lv_at hl 1 rfl) ?_
    refine lv_iload_n hx hb dJ14_charAt_34 rfl (lv_at hl 4 rfl) ?_
    obtain ⟨q7, hq8, hT⟩ := hT
    refine W.eq (congrArg (fun z => F0 m 35 ls [.int x1, z]) (xrq hq8)) ?_
    obtain ⟨hL, hT⟩ := hT
    refine x_bald (i := q7) hC hI hL hT dJ14_charAt_35 (fun hT => ?_)
    refine lv_sipush (v := 255) hx hb dJ14_charAt_36 (by decide) ?_
    refine lv_iand hx hb dJ14_charAt_39 ?_
    refine lv_i2c hx hb dJ14_charAt_40 rfl ?_
    exact hret _ _ _ _ _ _ _ _ hT.1 hT.2 hI hB dJ14_charAt_41
set_option maxHeartbeats 4000000 in
set_option maxRecDepth 100000 in
theorem um_J15_init (l : Launch) (D : va_G) (dA : Nat → ClassId) (ad : Nat → Nat) (n0 : Nat) (Hs : Heap) (hA : cAd ad n0 Hs.size) (mc ms : Nat) (σ : CS) (ob : Nat) (K : Unit → CS → Prop) (hT : U_J15_init mc ms σ ob K) : Met l yJ15_init (ws_ yJ15_init cJ15_init 1 (none)) ({ frames := 2, cells := mc, slots := ms, locals := 33 }) (va_Pc [.ref (ad ob)] (cU D dA ad n0 Hs σ)) (xQ rvU K (cU D dA ad n0 Hs) (cA ad)) mc ms (cA ad) := by
  refine xm_v hA (by decide) rfl (Nat.le_of_ble_eq_true rfl) ?_
  intro p e s m args below meth c Q hC hN hret hI ls hl
  have hx := hC.1.1
  have hb := hC.1.2.1
  have hB : 0 ≤ mc ∧ 0 ≤ ms := ⟨Nat.zero_le _, Nat.zero_le _⟩
  have hl : lv_has ls 1 [(0, .ref (ad ob))] := hl
  unfold U_J15_init at hT
  refine lv_aload_n hx hb dJ15_init_0 rfl (lv_at hl 0 rfl) ?_
  refine lv_bipush (v := 16) hx hb dJ15_init_1 (by decide) ?_
  obtain ⟨mc3, ms4, hB, hT⟩ := hT
  refine x_call (x_runI (i := ob) hC hI (um_J14_init l D dA ad n0 Hs hC.2.2 mc3 ms4 σ ob 16 _ hT) q1030 q190 q1028 q1029 rfl 1 hdS_J14_init ⟨rfl, rfl⟩ ⟨Nat.le_of_ble_eq_true rfl, Nat.le_of_ble_eq_true rfl⟩ rfl hl.1 rfl (Nat.le_of_ble_eq_true rfl) hB dJ15_init_3) hI (fun _ σ1 H locs hT hI => ?_)
  refine W.eq (g2 := F0 m 6 ls []) rfl ?_
  exact hret _ _ _ _ _ _ _ _ hT hI hB dJ15_init_6
set_option maxHeartbeats 4000000 in
set_option maxRecDepth 100000 in
theorem um_J15_append (l : Launch) (D : va_G) (dA : Nat → ClassId) (ad : Nat → Nat) (n0 : Nat) (Hs : Heap) (hA : cAd ad n0 Hs.size) (mc ms : Nat) (σ : CS) (ob : Nat) (x1 : Int32) (K : Nat → CS → Prop) (hT : U_J15_append mc ms σ ob x1 K) : Met l yJ15_append (ws_ yJ15_append cJ15_append 2 (some (.object "java/lang/StringBuilder"))) ({ frames := 6, cells := mc, slots := ms, locals := 124 }) (va_Pc [.ref (ad ob), .int x1] (cU D dA ad n0 Hs σ)) (xQ (rvR ad) K (cU D dA ad n0 Hs) (cA ad)) mc ms (cA ad) := by
  refine xm_r (Or.inl ⟨_, rfl⟩) hA (by decide) rfl (Nat.le_of_ble_eq_true rfl) ?_
  intro p e s m args below meth c Q hC hN hret hI ls hl
  have hx := hC.1.1
  have hb := hC.1.2.1
  have hB : 0 ≤ mc ∧ 0 ≤ ms := ⟨Nat.zero_le _, Nat.zero_le _⟩
  have hl : lv_has ls 2 [(0, .ref (ad ob)), (1, .int x1)] := hl
  unfold U_J15_append at hT
  refine lv_aload_n hx hb dJ15_append_0 rfl (lv_at hl 0 rfl) ?_
  refine lv_iload_n hx hb dJ15_append_1 rfl (lv_at hl 1 rfl) ?_
  obtain ⟨hL, hT⟩ := hT
  obtain ⟨mc3, ms4, hB, hT⟩ := hT
  refine x_call (x_runSU (i := ob) hC hI hL rfl (um_J14_append l D dA ad n0 Hs hC.2.2 mc3 ms4 σ ob x1 _ hT) (lw_app (a := [.methodLink _ _ _, .sameMethod _ _ _ _, .superclass _ _, .instanceMethod _, .initialized _]) (lw5 q1138 q2568 q1045 q1139 q190) (lw_meth q1140)) 1 hdP_J14_append ⟨rfl, rfl⟩ ⟨Nat.le_of_ble_eq_true rfl, Nat.le_of_ble_eq_true rfl⟩ rfl hl.1 rfl (Nat.le_of_ble_eq_true rfl) hB dJ15_append_2) hI (fun r2 σ1 H locs hT hI => ?_)
  refine W.eq (g2 := F0 m 5 ls [va_rf (rgR ad r2)]) rfl ?_
  refine lv_pop hx hb dJ15_append_5 (va_rf_cat _) ?_
  refine lv_aload_n hx hb dJ15_append_6 rfl (lv_at hl 0 rfl) ?_
  exact hret (ob + 1) _ _ _ _ _ _ _ hT hI hB dJ15_append_7
set_option maxHeartbeats 4000000 in
set_option maxRecDepth 100000 in
theorem um_J15_charAt (l : Launch) (D : va_G) (dA : Nat → ClassId) (ad : Nat → Nat) (n0 : Nat) (Hs : Heap) (hA : cAd ad n0 Hs.size) (σ : CS) (ob : Nat) (x1 : Int32) (K : Int32 → CS → Prop) (hT : U_J15_charAt σ ob x1 K) : Met l yJ15_charAt (ws_ yJ15_charAt cJ15_charAt 2 (some .char)) ({ frames := 4, cells := 0, slots := 0, locals := 79 }) (va_Pc [.ref (ad ob), .int x1] (cU D dA ad n0 Hs σ)) (xQ rvI K (cU D dA ad n0 Hs) (cA ad)) 0 0 (cA ad) := by
  refine xm_c hA (by decide) rfl (Nat.le_of_ble_eq_true rfl) ?_
  intro p e s m args below meth c Q hC hN hret hI ls hl
  have hx := hC.1.1
  have hb := hC.1.2.1
  have hB : 0 ≤ 0 ∧ 0 ≤ 0 := ⟨Nat.zero_le _, Nat.zero_le _⟩
  have hl : lv_has ls 2 [(0, .ref (ad ob)), (1, .int x1)] := hl
  unfold U_J15_charAt at hT
  refine lv_aload_n hx hb dJ15_charAt_0 rfl (lv_at hl 0 rfl) ?_
  refine lv_iload_n hx hb dJ15_charAt_1 rfl (lv_at hl 1 rfl) ?_
  obtain ⟨hL, hT⟩ := hT
  refine x_call (x_runSU (i := ob) hC hI hL rfl (um_J14_charAt l D dA ad n0 Hs hC.2.2 σ ob x1 _ hT) (lw_app (a := [.methodLink _ _ _, .sameMethod _ _ _ _, .superclass _ _, .instanceMethod _, .initialized _]) (lw5 q1366 q2572 q1045 q1367 q190) (lw_meth q1368)) 1 hdP_J14_charAt ⟨rfl, rfl⟩ ⟨Nat.le_of_ble_eq_true rfl, Nat.le_of_ble_eq_true rfl⟩ rfl hl.1 rfl (Nat.le_of_ble_eq_true rfl) hB dJ15_charAt_2) hI (fun r2 σ1 H locs hT hI => ?_)
  refine W.eq (g2 := F0 m 5 ls [.int r2]) rfl ?_
  exact hret _ _ _ _ _ _ _ _ hT.1 hT.2 hI hB dJ15_charAt_5
set_option maxHeartbeats 4000000 in
set_option maxRecDepth 100000 in
theorem um_J6_isLatin1 (l : Launch) (D : va_G) (dA : Nat → ClassId) (ad : Nat → Nat) (n0 : Nat) (Hs : Heap) (hA : cAd ad n0 Hs.size) (σ : CS) (ob : Nat) (K : Int32 → CS → Prop) (hT : U_J6_isLatin1 σ ob K) : Met l yJ6_isLatin1 (ws_ yJ6_isLatin1 cJ6_isLatin1 1 (some .boolean)) ({ frames := 1, cells := 0, slots := 0, locals := 12 }) (va_Pc [.ref (ad ob)] (cU D dA ad n0 Hs σ)) (xQ rvI K (cU D dA ad n0 Hs) (cA ad)) 0 0 (cA ad) := by
  refine xm_z hA (by decide) rfl (Nat.le_of_ble_eq_true rfl) ?_
  intro p e s m args below meth c Q hC hN hret hI ls hl
  have hx := hC.1.1
  have hb := hC.1.2.1
  have hB : 0 ≤ 0 ∧ 0 ≤ 0 := ⟨Nat.zero_le _, Nat.zero_le _⟩
  have hl : lv_has ls 1 [(0, .ref (ad ob))] := hl
  unfold U_J6_isLatin1 at hT
  refine x_gets (w := .int 1) hC hI (List.mem_of_getElem? (i := 0) rfl) q607 rfl dJ6_isLatin1_0 ?_
  refine lv_if_eq (tgt := 17) hx hb dJ6_isLatin1_3 (by decide) (fun hc => ?_) (fun hc => ?_)
  · exact absurd hc (by decide)
  · refine lv_aload_n hx hb dJ6_isLatin1_6 rfl (lv_at hl 0 rfl) ?_
    obtain ⟨hL, hT⟩ := hT
    refine xg21_1 (i := ob) hC hI hL q659 (fun _ h => h) dJ6_isLatin1_7 ?_
    refine lv_if_ne (tgt := 17) hx hb dJ6_isLatin1_10 (by decide) (fun hc => ?_) (fun hc => ?_)
    · replace hT := hT.1 hc
      refine lv_iconst (v := 0) hx hb dJ6_isLatin1_17 (by decide) ?_
      exact hret _ _ _ _ _ _ _ _ rfl hT hI hB dJ6_isLatin1_18
    · replace hT := hT.2 hc
      refine lv_iconst (v := 1) hx hb dJ6_isLatin1_13 (by decide) ?_
      refine lv_goto (tgt := 18) hx hb dJ6_isLatin1_14 (by decide) ?_
      exact hret _ _ _ _ _ _ _ _ rfl hT hI hB dJ6_isLatin1_18
set_option maxHeartbeats 4000000 in
set_option maxRecDepth 100000 in
theorem um_J6_coder (l : Launch) (D : va_G) (dA : Nat → ClassId) (ad : Nat → Nat) (n0 : Nat) (Hs : Heap) (hA : cAd ad n0 Hs.size) (σ : CS) (ob : Nat) (K : Int32 → CS → Prop) (hT : U_J6_coder σ ob K) : Met l yJ6_coder (ws_ yJ6_coder cJ6_coder 1 (some .byte)) ({ frames := 1, cells := 0, slots := 0, locals := 12 }) (va_Pc [.ref (ad ob)] (cU D dA ad n0 Hs σ)) (xQ rvI K (cU D dA ad n0 Hs) (cA ad)) 0 0 (cA ad) := by
  refine xm_b hA (by decide) rfl (Nat.le_of_ble_eq_true rfl) ?_
  intro p e s m args below meth c Q hC hN hret hI ls hl
  have hx := hC.1.1
  have hb := hC.1.2.1
  have hB : 0 ≤ 0 ∧ 0 ≤ 0 := ⟨Nat.zero_le _, Nat.zero_le _⟩
  have hl : lv_has ls 1 [(0, .ref (ad ob))] := hl
  unfold U_J6_coder at hT
  refine x_gets (w := .int 1) hC hI (List.mem_of_getElem? (i := 0) rfl) q607 rfl dJ6_coder_0 ?_
  refine lv_if_eq (tgt := 13) hx hb dJ6_coder_3 (by decide) (fun hc => ?_) (fun hc => ?_)
  · exact absurd hc (by decide)
  · refine lv_aload_n hx hb dJ6_coder_6 rfl (lv_at hl 0 rfl) ?_
    obtain ⟨hL, hT⟩ := hT
    refine xg21_1 (i := ob) hC hI hL q659 (fun _ h => h) dJ6_coder_7 ?_
    refine lv_goto (tgt := 14) hx hb dJ6_coder_10 (by decide) ?_
    exact hret _ _ _ _ _ _ _ _ hT.1 hT.2 hI hB dJ6_coder_14
set_option maxHeartbeats 4000000 in
set_option maxRecDepth 100000 in
theorem um_J6_length (l : Launch) (D : va_G) (dA : Nat → ClassId) (ad : Nat → Nat) (n0 : Nat) (Hs : Heap) (hA : cAd ad n0 Hs.size) (σ : CS) (ob : Nat) (K : Int32 → CS → Prop) (hT : U_J6_length σ ob K) : Met l yJ6_length (ws_ yJ6_length cJ6_length 1 (some .int)) ({ frames := 2, cells := 0, slots := 0, locals := 32 }) (va_Pc [.ref (ad ob)] (cU D dA ad n0 Hs σ)) (xQ rvI K (cU D dA ad n0 Hs) (cA ad)) 0 0 (cA ad) := by
  refine xm_i hA (by decide) rfl (Nat.le_of_ble_eq_true rfl) ?_
  intro p e s m args below meth c Q hC hN hret hI ls hl
  have hx := hC.1.1
  have hb := hC.1.2.1
  have hB : 0 ≤ 0 ∧ 0 ≤ 0 := ⟨Nat.zero_le _, Nat.zero_le _⟩
  have hl : lv_has ls 1 [(0, .ref (ad ob))] := hl
  unfold U_J6_length at hT
  refine lv_aload_n hx hb dJ6_length_0 rfl (lv_at hl 0 rfl) ?_
  obtain ⟨hL, hT⟩ := hT
  refine xg21_0 (i := ob) hC hI hL q658 (fun _ h => h) dJ6_length_1 ?_
  obtain ⟨q1, hq2, hT⟩ := hT
  refine W.eq (congrArg (fun z => F0 m 4 ls [z]) (xrq hq2)) ?_
  obtain ⟨hL, hT⟩ := hT
  refine x_alen (i := q1) hC hI hL (by decide) dJ6_length_4 ?_
  refine lv_aload_n hx hb dJ6_length_5 rfl (lv_at hl 0 rfl) ?_
  obtain ⟨hL, hT⟩ := hT
  refine x_call (x_runV (i := ob) hC hI hL rfl (um_J6_coder l D dA ad n0 Hs hC.2.2 σ ob _ hT) (lw_V q767 q768 q769 q171 q770) 0 hdV_J6_coder ⟨rfl, rfl⟩ ⟨Nat.le_of_ble_eq_true rfl, Nat.le_of_ble_eq_true rfl⟩ rfl hl.1 rfl (Nat.le_of_ble_eq_true rfl) hB dJ6_length_6) hI (fun r4 σ3 H locs hT hI => ?_)
  refine W.eq (g2 := F0 m 9 ls [.int r4, .int (Int32.ofNat (gN σ q1))]) rfl ?_
  refine lv_ishr hx hb dJ6_length_9 ?_
  exact hret _ _ _ _ _ _ _ _ hT hI hB dJ6_length_10
set_option maxHeartbeats 4000000 in
set_option maxRecDepth 100000 in
theorem um_J9_charAt (l : Launch) (D : va_G) (dA : Nat → ClassId) (ad : Nat → Nat) (n0 : Nat) (Hs : Heap) (hA : cAd ad n0 Hs.size) (σ : CS) (x0 : Nat) (x1 : Int32) (K : Int32 → CS → Prop) (hT : U_J9_charAt σ x0 x1 K) : Met l yJ9_charAt (ws_ yJ9_charAt cJ9_charAt 2 (some .char)) ({ frames := 3, cells := 0, slots := 0, locals := 55 }) (va_Pc [.ref (ad x0), .int x1] (cU D dA ad n0 Hs σ)) (xQ rvI K (cU D dA ad n0 Hs) (cA ad)) 0 0 (cA ad) := by
  refine xm_c hA (by decide) rfl (Nat.le_of_ble_eq_true rfl) ?_
  intro p e s m args below meth c Q hC hN hret hI ls hl
  have hx := hC.1.1
  have hb := hC.1.2.1
  have hB : 0 ≤ 0 ∧ 0 ≤ 0 := ⟨Nat.zero_le _, Nat.zero_le _⟩
  have hl : lv_has ls 2 [(0, .ref (ad x0)), (1, .int x1)] := hl
  unfold U_J9_charAt at hT
  refine lv_iload_n hx hb dJ9_charAt_0 rfl (lv_at hl 1 rfl) ?_
  refine lv_aload_n hx hb dJ9_charAt_1 rfl (lv_at hl 0 rfl) ?_
  obtain ⟨hL, hT⟩ := hT
  refine x_alen (i := x0) hC hI hL (by decide) dJ9_charAt_2 ?_
  refine x_call (x_runS hC hI (um_J6_checkIndex l D dA ad n0 Hs hC.2.2 σ x1 (Int32.ofNat (gN σ x0)) _ hT) (lw_S q1415 q1186 q171 q1187) 2 hdS_J6_checkIndex ⟨rfl, rfl⟩ ⟨Nat.le_of_ble_eq_true rfl, Nat.le_of_ble_eq_true rfl⟩ rfl hl.1 rfl (Nat.le_of_ble_eq_true rfl) hB dJ9_charAt_3) hI (fun _ σ1 H locs hT hI => ?_)
  refine W.eq (g2 := F0 m 6 ls []) rfl ?_
  refine lv_aload_n hx hb dJ9_charAt_6 rfl (lv_at hl 0 rfl) ?_
  refine lv_iload_n hx hb dJ9_charAt_7 rfl (lv_at hl 1 rfl) ?_
  obtain ⟨hL, hT⟩ := hT
  refine x_bald (i := x0) hC hI hL hT dJ9_charAt_8 (fun hT => ?_)
  refine lv_sipush (v := 255) hx hb dJ9_charAt_9 (by decide) ?_
  refine lv_iand hx hb dJ9_charAt_12 ?_
  refine lv_i2c hx hb dJ9_charAt_13 rfl ?_
  exact hret _ _ _ _ _ _ _ _ hT.1 hT.2 hI hB dJ9_charAt_14
set_option maxHeartbeats 4000000 in
set_option maxRecDepth 100000 in
theorem um_J6_charAt (l : Launch) (D : va_G) (dA : Nat → ClassId) (ad : Nat → Nat) (n0 : Nat) (Hs : Heap) (hA : cAd ad n0 Hs.size) (σ : CS) (ob : Nat) (x1 : Int32) (K : Int32 → CS → Prop) (hT : U_J6_charAt σ ob x1 K) : Met l yJ6_charAt (ws_ yJ6_charAt cJ6_charAt 2 (some .char)) ({ frames := 4, cells := 0, slots := 0, locals := 76 }) (va_Pc [.ref (ad ob), .int x1] (cU D dA ad n0 Hs σ)) (xQ rvI K (cU D dA ad n0 Hs) (cA ad)) 0 0 (cA ad) := by
  refine xm_c hA (by decide) rfl (Nat.le_of_ble_eq_true rfl) ?_
  intro p e s m args below meth c Q hC hN hret hI ls hl
  have hx := hC.1.1
  have hb := hC.1.2.1
  have hB : 0 ≤ 0 ∧ 0 ≤ 0 := ⟨Nat.zero_le _, Nat.zero_le _⟩
  have hl : lv_has ls 2 [(0, .ref (ad ob)), (1, .int x1)] := hl
  unfold U_J6_charAt at hT
  refine lv_aload_n hx hb dJ6_charAt_0 rfl (lv_at hl 0 rfl) ?_
  obtain ⟨hL, hT⟩ := hT
  refine x_call (x_runV (i := ob) hC hI hL rfl (um_J6_isLatin1 l D dA ad n0 Hs hC.2.2 σ ob _ hT) (lw_V q680 q681 q682 q171 q683) 0 hdV_J6_isLatin1 ⟨rfl, rfl⟩ ⟨Nat.le_of_ble_eq_true rfl, Nat.le_of_ble_eq_true rfl⟩ rfl hl.1 rfl (Nat.le_of_ble_eq_true rfl) hB dJ6_charAt_1) hI (fun r2 σ1 H locs hT hI => ?_)
  refine W.eq (g2 := F0 m 4 ls [.int r2]) rfl ?_
  refine lv_if_eq (tgt := 16) hx hb dJ6_charAt_4 (by decide) (fun hc => ?_) (fun hc => ?_)
  · replace hT := hT.1 hc
    exact hT.elim
  · replace hT := hT.2 hc
    refine lv_aload_n hx hb dJ6_charAt_7 rfl (lv_at hl 0 rfl) ?_
    obtain ⟨hL, hT⟩ := hT
    refine xg21_0 (i := ob) hC hI hL q658 (fun _ h => h) dJ6_charAt_8 ?_
    refine lv_iload_n hx hb dJ6_charAt_11 rfl (lv_at hl 1 rfl) ?_
    obtain ⟨q3, hq4, hT⟩ := hT
    refine W.eq (congrArg (fun z => F0 m 12 ls [.int x1, z]) (xrq hq4)) ?_
    refine x_call (x_runS hC hI (um_J9_charAt l D dA ad n0 Hs hC.2.2 σ1 q3 x1 _ hT) (lw_S q1412 q1413 q174 q1414) 2 hdS_J9_charAt ⟨rfl, rfl⟩ ⟨Nat.le_of_ble_eq_true rfl, Nat.le_of_ble_eq_true rfl⟩ rfl hl.1 rfl (Nat.le_of_ble_eq_true rfl) hB dJ6_charAt_12) hI (fun r6 σ5 H locs hT hI => ?_)
    refine W.eq (g2 := F0 m 15 ls [.int r6]) rfl ?_
    exact hret _ _ _ _ _ _ _ _ hT.1 hT.2 hI hB dJ6_charAt_15
set_option maxHeartbeats 4000000 in
set_option maxRecDepth 100000 in
theorem um_J9_equals (l : Launch) (D : va_G) (dA : Nat → ClassId) (ad : Nat → Nat) (n0 : Nat) (Hs : Heap) (hA : cAd ad n0 Hs.size) (σ : CS) (x0 : Nat) (x1 : Nat) (K : Int32 → CS → Prop) (hT : U_J9_equals σ x0 x1 K) : Met l yJ9_equals (ws_ yJ9_equals cJ9_equals 3 (some .boolean)) ({ frames := 1, cells := 0, slots := 0, locals := 12 }) (va_Pc [.ref (ad x0), .ref (ad x1)] (cU D dA ad n0 Hs σ)) (xQ rvI K (cU D dA ad n0 Hs) (cA ad)) 0 0 (cA ad) := by
  refine xm_z hA (by decide) rfl (Nat.le_of_ble_eq_true rfl) ?_
  intro p e s m args below meth c Q hC hN hret hI ls hl
  have hx := hC.1.1
  have hb := hC.1.2.1
  have hB : 0 ≤ 0 ∧ 0 ≤ 0 := ⟨Nat.zero_le _, Nat.zero_le _⟩
  have hl : lv_has ls 3 [(0, .ref (ad x0)), (1, .ref (ad x1))] := hl
  have w_9 : ∀ (n : Nat) (x2 : Int32) (σ : CS) (H : Heap) (locs : List Loc) (ls : Array Slot), U_J9_equals_9 K x0 x1 n x2 σ → xI D dA ad n0 Hs s.heap σ H locs → lv_has ls 3 [(0, .ref (ad x0)), (1, .ref (ad x1)), (2, .int x2)] → W p l e ({ frames := 1, cells := 0, slots := 0, locals := 12 }) s m args below meth c H locs 0 0 Q (F0 m 9 ls []) := by
    intro n
    induction n with
    | zero => intro x2 σ H locs ls hT; exact hT.elim
    | succ n ih =>
      intro x2 σ H locs ls hT hI hl
      unfold U_J9_equals_9 at hT
      refine lv_iload_n hx hb dJ9_equals_9 rfl (lv_at hl 2 rfl) ?_
      refine lv_aload_n hx hb dJ9_equals_10 rfl (lv_at hl 0 rfl) ?_
      obtain ⟨hL, hT⟩ := hT
      refine x_alen (i := x0) hC hI hL (by decide) dJ9_equals_11 ?_
      refine lv_icmp_ge (tgt := 32) hx hb dJ9_equals_12 (by decide) (fun hc => ?_) (fun hc => ?_)
      · replace hT := hT.1 hc
        refine lv_iconst (v := 1) hx hb dJ9_equals_32 (by decide) ?_
        exact hret _ _ _ _ _ _ _ _ rfl hT hI hB dJ9_equals_33
      · replace hT := hT.2 hc
        refine lv_aload_n hx hb dJ9_equals_15 rfl (lv_at hl 0 rfl) ?_
        refine lv_iload_n hx hb dJ9_equals_16 rfl (lv_at hl 2 rfl) ?_
        obtain ⟨hL, hT⟩ := hT
        refine x_bald (i := x0) hC hI hL hT dJ9_equals_17 (fun hT => ?_)
        refine lv_aload_n hx hb dJ9_equals_18 rfl (lv_at hl 1 rfl) ?_
        refine lv_iload_n hx hb dJ9_equals_19 rfl (lv_at hl 2 rfl) ?_
        obtain ⟨hL, hT⟩ := hT
        refine x_bald (i := x1) hC hI hL hT dJ9_equals_20 (fun hT => ?_)
        refine lv_icmp_eq (tgt := 26) hx hb dJ9_equals_21 (by decide) (fun hc => ?_) (fun hc => ?_)
        · replace hT := hT.1 hc
          refine lv_iinc (v := x2 + 1) (lv' := [(2, .int (x2 + 1)), (0, .ref (ad x0)), (1, .ref (ad x1))]) hx hb dJ9_equals_26 hl (k := 2) rfl rfl (Nat.le_of_ble_eq_true rfl) rfl (fun ls hl => ?_)
          refine lv_goto (tgt := 9) hx hb dJ9_equals_29 (by decide) ?_
          exact ih (x2 + 1) σ _ _ _ hT hI (lv_sub hl [1, 2, 0] rfl)
        · replace hT := hT.2 hc
          refine lv_iconst (v := 0) hx hb dJ9_equals_24 (by decide) ?_
          exact hret _ _ _ _ _ _ _ _ rfl hT hI hB dJ9_equals_25
  unfold U_J9_equals at hT
  refine lv_aload_n hx hb dJ9_equals_0 rfl (lv_at hl 0 rfl) ?_
  obtain ⟨hL, hT⟩ := hT
  refine x_alen (i := x0) hC hI hL (by decide) dJ9_equals_1 ?_
  refine lv_aload_n hx hb dJ9_equals_2 rfl (lv_at hl 1 rfl) ?_
  obtain ⟨hL, hT⟩ := hT
  refine x_alen (i := x1) hC hI hL (by decide) dJ9_equals_3 ?_
  refine lv_icmp_ne (tgt := 34) hx hb dJ9_equals_4 (by decide) (fun hc => ?_) (fun hc => ?_)
  · replace hT := hT.1 hc
    refine lv_iconst (v := 0) hx hb dJ9_equals_34 (by decide) ?_
    exact hret _ _ _ _ _ _ _ _ rfl hT hI hB dJ9_equals_35
  · replace hT := hT.2 hc
    refine lv_iconst (v := 0) hx hb dJ9_equals_7 (by decide) ?_
    refine lv_istore_n (lv' := [(2, .int 0), (0, .ref (ad x0)), (1, .ref (ad x1))]) hx hb dJ9_equals_8 rfl hl (Nat.le_of_ble_eq_true rfl) rfl (fun ls hl => ?_)
    obtain ⟨n9, hT⟩ := hT
    exact w_9 n9 0 σ _ _ _ hT hI (lv_sub hl [1, 2, 0] rfl)
set_option maxHeartbeats 4000000 in
set_option maxRecDepth 100000 in
theorem um_J6_equals (l : Launch) (D : va_G) (dA : Nat → ClassId) (ad : Nat → Nat) (n0 : Nat) (Hs : Heap) (hA : cAd ad n0 Hs.size) (σ : CS) (ob : Nat) (x1 : Nat) (K : Int32 → CS → Prop) (hT : U_J6_equals σ ob x1 K) : Met l yJ6_equals (ws_ yJ6_equals cJ6_equals 3 (some .boolean)) ({ frames := 2, cells := 0, slots := 0, locals := 34 }) (va_Pc [.ref (ad ob), .ref (ad x1)] (cU D dA ad n0 Hs σ)) (xQ rvI K (cU D dA ad n0 Hs) (cA ad)) 0 0 (cA ad) := by
  refine xm_z hA (by decide) rfl (Nat.le_of_ble_eq_true rfl) ?_
  intro p e s m args below meth c Q hC hN hret hI ls hl
  have hx := hC.1.1
  have hb := hC.1.2.1
  have hB : 0 ≤ 0 ∧ 0 ≤ 0 := ⟨Nat.zero_le _, Nat.zero_le _⟩
  have hl : lv_has ls 3 [(0, .ref (ad ob)), (1, .ref (ad x1))] := hl
  have w_36 : ∀ (σ : CS) (H : Heap) (locs : List Loc) (ls : Array Slot), U_J6_equals_36 K ob x1 σ → xI D dA ad n0 Hs s.heap σ H locs → lv_has ls 3 [(0, .ref (ad ob)), (2, .ref (ad x1))] → W p l e ({ frames := 2, cells := 0, slots := 0, locals := 34 }) s m args below meth c H locs 0 0 Q (F0 m 36 ls []) := by
    intro σ H locs ls hT hI hl
    unfold U_J6_equals_36 at hT
    refine lv_aload_n hx hb dJ6_equals_36 rfl (lv_at hl 0 rfl) ?_
    obtain ⟨hL, hT⟩ := hT
    refine xg21_0 (i := ob) hC hI hL q658 (fun _ h => h) dJ6_equals_37 ?_
    refine lv_aload_n hx hb dJ6_equals_40 rfl (lv_at hl 1 rfl) ?_
    obtain ⟨hL, hT⟩ := hT
    refine xg21_0 (i := x1) hC hI hL q658 (fun _ h => h) dJ6_equals_41 ?_
    obtain ⟨q1, hq2, hT⟩ := hT
    refine W.eq (congrArg (fun z => F0 m 44 ls [va_rf (rgR ad (gR σ x1 0)), z]) (xrq hq2)) ?_
    obtain ⟨q3, hq4, hT⟩ := hT
    refine W.eq (congrArg (fun z => F0 m 44 ls [z, .ref (ad q1)]) (xrq hq4)) ?_
    refine x_call (x_runS hC hI (um_J9_equals l D dA ad n0 Hs hC.2.2 σ q1 q3 _ hT) (lw_S q734 q735 q174 q736) 2 hdS_J9_equals ⟨rfl, rfl⟩ ⟨Nat.le_of_ble_eq_true rfl, Nat.le_of_ble_eq_true rfl⟩ rfl hl.1 rfl (Nat.le_of_ble_eq_true rfl) hB dJ6_equals_44) hI (fun r6 σ5 H locs hT hI => ?_)
    refine W.eq (g2 := F0 m 47 ls [.int r6]) rfl ?_
    refine lv_if_eq (tgt := 54) hx hb dJ6_equals_47 (by decide) (fun hc => ?_) (fun hc => ?_)
    · replace hT := hT.1 hc
      refine lv_iconst (v := 0) hx hb dJ6_equals_54 (by decide) ?_
      exact hret _ _ _ _ _ _ _ _ rfl hT hI hB dJ6_equals_55
    · replace hT := hT.2 hc
      refine lv_iconst (v := 1) hx hb dJ6_equals_50 (by decide) ?_
      refine lv_goto (tgt := 55) hx hb dJ6_equals_51 (by decide) ?_
      exact hret _ _ _ _ _ _ _ _ rfl hT hI hB dJ6_equals_55
  unfold U_J6_equals at hT
  refine lv_aload_n hx hb dJ6_equals_0 rfl (lv_at hl 0 rfl) ?_
  refine lv_aload_n hx hb dJ6_equals_1 rfl (lv_at hl 1 rfl) ?_
  obtain ⟨hab, hT⟩ := hT
  refine x_acmp_ne (tgt := 7) hC hab dJ6_equals_2 (by decide) (fun hc => ?_) (fun hc => ?_)
  · replace hT := hT.1 hc
    refine lv_aload_n hx hb dJ6_equals_7 rfl (lv_at hl 1 rfl) ?_
    obtain ⟨hL, hT⟩ := hT
    refine x_inst (i := x1) hC hI hL rfl q597 dJ6_equals_8 ?_
    refine lv_if_eq (tgt := 54) hx hb dJ6_equals_11 (by decide) (fun hc => ?_) (fun hc => ?_)
    · exact absurd hc (by decide)
    · refine lv_aload_n hx hb dJ6_equals_14 rfl (lv_at hl 1 rfl) ?_
      obtain ⟨hL, hT⟩ := hT
      refine x_cast0 (q := x1) hC hI hL q597 dJ6_equals_15 ?_
      refine lv_astore_n (lv' := [(2, .ref (ad x1)), (0, .ref (ad ob)), (1, .ref (ad x1))]) hx hb dJ6_equals_18 rfl hl (Nat.le_of_ble_eq_true rfl) rfl (fun ls hl => ?_)
      refine x_gets (w := .int 1) hC hI (List.mem_of_getElem? (i := 0) rfl) q607 rfl dJ6_equals_19 ?_
      refine lv_if_eq (tgt := 36) hx hb dJ6_equals_22 (by decide) (fun hc => ?_) (fun hc => ?_)
      · exact absurd hc (by decide)
      · refine lv_aload_n hx hb dJ6_equals_25 rfl (lv_at hl 1 rfl) ?_
        obtain ⟨hL, hT⟩ := hT
        refine xg21_1 (i := ob) hC hI hL q659 (fun _ h => h) dJ6_equals_26 ?_
        refine lv_aload_n hx hb dJ6_equals_29 rfl (lv_at hl 0 rfl) ?_
        obtain ⟨hL, hT⟩ := hT
        refine xg21_1 (i := x1) hC hI hL q659 (fun _ h => h) dJ6_equals_30 ?_
        refine lv_icmp_ne (tgt := 54) hx hb dJ6_equals_33 (by decide) (fun hc => ?_) (fun hc => ?_)
        · replace hT := hT.1 hc
          refine lv_iconst (v := 0) hx hb dJ6_equals_54 (by decide) ?_
          exact hret _ _ _ _ _ _ _ _ rfl hT hI hB dJ6_equals_55
        · replace hT := hT.2 hc
          exact w_36 σ _ _ _ hT hI (lv_sub hl [1, 0] rfl)
  · replace hT := hT.2 hc
    refine lv_iconst (v := 1) hx hb dJ6_equals_5 (by decide) ?_
    exact hret _ _ _ _ _ _ _ _ rfl hT hI hB dJ6_equals_6
set_option maxHeartbeats 4000000 in
set_option maxRecDepth 100000 in
theorem um_J10_signedHashCode (l : Launch) (D : va_G) (dA : Nat → ClassId) (ad : Nat → Nat) (n0 : Nat) (Hs : Heap) (hA : cAd ad n0 Hs.size) (σ : CS) (x0 : Int32) (x1 : Nat) (x2 : Int32) (x3 : Int32) (K : Int32 → CS → Prop) (hT : U_J10_signedHashCode σ x0 x1 x2 x3 K) : Met l yJ10_signedHashCode (ws_ yJ10_signedHashCode cJ10_signedHashCode 6 (some .int)) ({ frames := 1, cells := 0, slots := 0, locals := 12 }) (va_Pc [.int x0, .ref (ad x1), .int x2, .int x3] (cU D dA ad n0 Hs σ)) (xQ rvI K (cU D dA ad n0 Hs) (cA ad)) 0 0 (cA ad) := by
  refine xm_i hA (by decide) rfl (Nat.le_of_ble_eq_true rfl) ?_
  intro p e s m args below meth c Q hC hN hret hI ls hl
  have hx := hC.1.1
  have hb := hC.1.2.1
  have hB : 0 ≤ 0 ∧ 0 ≤ 0 := ⟨Nat.zero_le _, Nat.zero_le _⟩
  have hl : lv_has ls 6 [(0, .int x0), (1, .ref (ad x1)), (2, .int x2), (3, .int x3)] := hl
  have w_8 : ∀ (x4 : Int32) (n : Nat) (x0 : Int32) (x5 : Int32) (σ : CS) (H : Heap) (locs : List Loc) (ls : Array Slot), U_J10_signedHashCode_8 K x1 x4 n x0 x5 σ → xI D dA ad n0 Hs s.heap σ H locs → lv_has ls 6 [(0, .int x0), (1, .ref (ad x1)), (4, .int x4), (5, .int x5)] → W p l e ({ frames := 1, cells := 0, slots := 0, locals := 12 }) s m args below meth c H locs 0 0 Q (F0 m 8 ls []) := by
    intro x4 n
    induction n with
    | zero => intro x0 x5 σ H locs ls hT; exact hT.elim
    | succ n ih =>
      intro x0 x5 σ H locs ls hT hI hl
      unfold U_J10_signedHashCode_8 at hT
      refine lv_iload hx hb dJ10_signedHashCode_8 (lv_at hl 3 rfl) ?_
      refine lv_iload hx hb dJ10_signedHashCode_10 (lv_at hl 2 rfl) ?_
      refine lv_icmp_ge (tgt := 35) hx hb dJ10_signedHashCode_12 (by decide) (fun hc => ?_) (fun hc => ?_)
      · replace hT := hT.1 hc
        refine lv_iload_n hx hb dJ10_signedHashCode_35 rfl (lv_at hl 0 rfl) ?_
        exact hret _ _ _ _ _ _ _ _ hT hI hB dJ10_signedHashCode_36
      · replace hT := hT.2 hc
        refine lv_bipush (v := 31) hx hb dJ10_signedHashCode_15 (by decide) ?_
        refine lv_iload_n hx hb dJ10_signedHashCode_17 rfl (lv_at hl 0 rfl) ?_
        refine lv_imul hx hb dJ10_signedHashCode_18 ?_
        refine lv_aload_n hx hb dJ10_signedHashCode_19 rfl (lv_at hl 1 rfl) ?_
        refine lv_iload hx hb dJ10_signedHashCode_20 (lv_at hl 3 rfl) ?_
        obtain ⟨hL, hT⟩ := hT
        refine x_bald (i := x1) hC hI hL hT dJ10_signedHashCode_22 (fun hT => ?_)
        refine lv_sipush (v := 255) hx hb dJ10_signedHashCode_23 (by decide) ?_
        refine lv_iand hx hb dJ10_signedHashCode_26 ?_
        refine lv_iadd hx hb dJ10_signedHashCode_27 ?_
        refine lv_istore_n (lv' := [(0, .int ((31 * x0) + ((gI σ x1 (Int32.toNatClampNeg x5)) &&& 255))), (1, .ref (ad x1)), (4, .int x4), (5, .int x5)]) hx hb dJ10_signedHashCode_28 rfl hl (Nat.le_of_ble_eq_true rfl) rfl (fun ls hl => ?_)
        refine lv_iinc (v := x5 + 1) (lv' := [(5, .int (x5 + 1)), (0, .int ((31 * x0) + ((gI σ x1 (Int32.toNatClampNeg x5)) &&& 255))), (1, .ref (ad x1)), (4, .int x4)]) hx hb dJ10_signedHashCode_29 hl (k := 3) rfl rfl (Nat.le_of_ble_eq_true rfl) rfl (fun ls hl => ?_)
        refine lv_goto (tgt := 8) hx hb dJ10_signedHashCode_32 (by decide) ?_
        exact ih ((31 * x0) + ((gI σ x1 (Int32.toNatClampNeg x5)) &&& 255)) (x5 + 1) σ _ _ _ hT hI (lv_sub hl [1, 2, 3, 0] rfl)
  unfold U_J10_signedHashCode at hT
  refine lv_iload_n hx hb dJ10_signedHashCode_0 rfl (lv_at hl 2 rfl) ?_
  refine lv_iload_n hx hb dJ10_signedHashCode_1 rfl (lv_at hl 3 rfl) ?_
  refine lv_iadd hx hb dJ10_signedHashCode_2 ?_
  refine lv_istore (lv' := [(4, .int (x2 + x3)), (0, .int x0), (1, .ref (ad x1)), (2, .int x2), (3, .int x3)]) hx hb dJ10_signedHashCode_3 hl (Nat.le_of_ble_eq_true rfl) rfl (fun ls hl => ?_)
  refine lv_iload_n hx hb dJ10_signedHashCode_5 rfl (lv_at hl 3 rfl) ?_
  refine lv_istore (lv' := [(5, .int x2), (4, .int (x2 + x3)), (0, .int x0), (1, .ref (ad x1)), (2, .int x2), (3, .int x3)]) hx hb dJ10_signedHashCode_6 hl (Nat.le_of_ble_eq_true rfl) rfl (fun ls hl => ?_)
  obtain ⟨n8, hT⟩ := hT
  exact w_8 (x2 + x3) n8 x0 x2 σ _ _ _ hT hI (lv_sub hl [2, 3, 1, 0] rfl)
set_option maxHeartbeats 4000000 in
set_option maxRecDepth 100000 in
theorem um_J10_vectorizedHashCode (l : Launch) (D : va_G) (dA : Nat → ClassId) (ad : Nat → Nat) (n0 : Nat) (Hs : Heap) (hA : cAd ad n0 Hs.size) (σ : CS) (x0 : Nat) (x1 : Int32) (x2 : Int32) (x3 : Int32) (x4 : Int32) (K : Int32 → CS → Prop) (hT : U_J10_vectorizedHashCode σ x0 x1 x2 x3 x4 K) : Met l yJ10_vectorizedHashCode (ws_ yJ10_vectorizedHashCode cJ10_vectorizedHashCode 5 (some .int)) ({ frames := 2, cells := 0, slots := 0, locals := 37 }) (va_Pc [.ref (ad x0), .int x1, .int x2, .int x3, .int x4] (cU D dA ad n0 Hs σ)) (xQ rvI K (cU D dA ad n0 Hs) (cA ad)) 0 0 (cA ad) := by
  refine xm_i hA (by decide) rfl (Nat.le_of_ble_eq_true rfl) ?_
  intro p e s m args below meth c Q hC hN hret hI ls hl
  have hx := hC.1.1
  have hb := hC.1.2.1
  have hB : 0 ≤ 0 ∧ 0 ≤ 0 := ⟨Nat.zero_le _, Nat.zero_le _⟩
  have hl : lv_has ls 5 [(0, .ref (ad x0)), (1, .int x1), (2, .int x2), (3, .int x3), (4, .int x4)] := hl
  unfold U_J10_vectorizedHashCode at hT
  refine lv_iload hx hb dJ10_vectorizedHashCode_0 (lv_at hl 4 rfl) ?_
  by_cases c0 : x4 = 4
  · replace hT := hT.1 c0
    refine lv_tableIn (tgt := 44) hx hb dJ10_vectorizedHashCode_2 (by rw [c0]; decide) (by rw [c0]; decide) (by rw [c0]; rfl) (by decide) ?_
    refine lv_iload_n hx hb dJ10_vectorizedHashCode_44 rfl (lv_at hl 3 rfl) ?_
    refine lv_aload_n hx hb dJ10_vectorizedHashCode_45 rfl (lv_at hl 0 rfl) ?_
    obtain ⟨hL, hT⟩ := hT
    refine x_castA (i := x0) hC hI hL (hC.2.1.1.2 1 _ rfl).2 q690 dJ10_vectorizedHashCode_46 ?_
    refine lv_iload_n hx hb dJ10_vectorizedHashCode_49 rfl (lv_at hl 1 rfl) ?_
    refine lv_iload_n hx hb dJ10_vectorizedHashCode_50 rfl (lv_at hl 2 rfl) ?_
    refine x_call (x_runS hC hI (um_J10_signedHashCode l D dA ad n0 Hs hC.2.2 σ x3 x0 x1 x2 _ hT) (lw_S q691 q692 q175 q693) 4 hdS_J10_signedHashCode ⟨rfl, rfl⟩ ⟨Nat.le_of_ble_eq_true rfl, Nat.le_of_ble_eq_true rfl⟩ rfl hl.1 rfl (Nat.le_of_ble_eq_true rfl) hB dJ10_vectorizedHashCode_51) hI (fun r2 σ1 H locs hT hI => ?_)
    refine W.eq (g2 := F0 m 54 ls [.int r2]) rfl ?_
    refine lv_goto (tgt := 157) hx hb dJ10_vectorizedHashCode_54 (by decide) ?_
    exact hret _ _ _ _ _ _ _ _ hT hI hB dJ10_vectorizedHashCode_157
  replace hT := hT.2 c0
  by_cases c1 : x4 = 5
  · replace hT := hT.1 c1
    refine lv_tableIn (tgt := 57) hx hb dJ10_vectorizedHashCode_2 (by rw [c1]; decide) (by rw [c1]; decide) (by rw [c1]; rfl) (by decide) ?_
    exact hT.elim
  replace hT := hT.2 c1
  by_cases c2 : x4 = 6
  · replace hT := hT.1 c2
    refine lv_tableIn (tgt := 129) hx hb dJ10_vectorizedHashCode_2 (by rw [c2]; decide) (by rw [c2]; decide) (by rw [c2]; rfl) (by decide) ?_
    exact hT.elim
  replace hT := hT.2 c2
  by_cases c3 : x4 = 7
  · replace hT := hT.1 c3
    refine lv_tableIn (tgt := 129) hx hb dJ10_vectorizedHashCode_2 (by rw [c3]; decide) (by rw [c3]; decide) (by rw [c3]; rfl) (by decide) ?_
    exact hT.elim
  replace hT := hT.2 c3
  by_cases c4 : x4 = 8
  · replace hT := hT.1 c4
    refine lv_tableIn (tgt := 90) hx hb dJ10_vectorizedHashCode_2 (by rw [c4]; decide) (by rw [c4]; decide) (by rw [c4]; rfl) (by decide) ?_
    exact hT.elim
  replace hT := hT.2 c4
  by_cases c5 : x4 = 9
  · replace hT := hT.1 c5
    refine lv_tableIn (tgt := 103) hx hb dJ10_vectorizedHashCode_2 (by rw [c5]; decide) (by rw [c5]; decide) (by rw [c5]; rfl) (by decide) ?_
    exact hT.elim
  replace hT := hT.2 c5
  by_cases c6 : x4 = 10
  · replace hT := hT.1 c6
    refine lv_tableIn (tgt := 116) hx hb dJ10_vectorizedHashCode_2 (by rw [c6]; decide) (by rw [c6]; decide) (by rw [c6]; rfl) (by decide) ?_
    exact hT.elim
  replace hT := hT.2 c6
  refine lv_tableOut (tgt := 129) hx hb dJ10_vectorizedHashCode_2 (ts_outn 4 (n := 7) (by decide) (fun k hk => by rcases (show k = 0 ∨ k = 1 ∨ k = 2 ∨ k = 3 ∨ k = 4 ∨ k = 5 ∨ k = 6 by omega) with rfl | rfl | rfl | rfl | rfl | rfl | rfl <;> assumption)) (by decide) ?_
  exact hT.elim
set_option maxHeartbeats 4000000 in
set_option maxRecDepth 100000 in
theorem um_J9_hashCode (l : Launch) (D : va_G) (dA : Nat → ClassId) (ad : Nat → Nat) (n0 : Nat) (Hs : Heap) (hA : cAd ad n0 Hs.size) (σ : CS) (x0 : Nat) (K : Int32 → CS → Prop) (hT : U_J9_hashCode σ x0 K) : Met l yJ9_hashCode (ws_ yJ9_hashCode cJ9_hashCode 1 (some .int)) ({ frames := 3, cells := 0, slots := 0, locals := 61 }) (va_Pc [.ref (ad x0)] (cU D dA ad n0 Hs σ)) (xQ rvI K (cU D dA ad n0 Hs) (cA ad)) 0 0 (cA ad) := by
  refine xm_i hA (by decide) rfl (Nat.le_of_ble_eq_true rfl) ?_
  intro p e s m args below meth c Q hC hN hret hI ls hl
  have hx := hC.1.1
  have hb := hC.1.2.1
  have hB : 0 ≤ 0 ∧ 0 ≤ 0 := ⟨Nat.zero_le _, Nat.zero_le _⟩
  have hl : lv_has ls 1 [(0, .ref (ad x0))] := hl
  unfold U_J9_hashCode at hT
  refine lv_aload_n hx hb dJ9_hashCode_0 rfl (lv_at hl 0 rfl) ?_
  obtain ⟨hL, hT⟩ := hT
  refine x_alen (i := x0) hC hI hL (by decide) dJ9_hashCode_1 ?_
  by_cases c0 : Int32.ofNat (gN σ x0) = 0
  · replace hT := hT.1 c0
    refine lv_lookup (tgt := 28) hx hb dJ9_hashCode_2 (by decide) (by rw [c0]; first | done | rfl) (by decide) ?_
    refine lv_iconst (v := 0) hx hb dJ9_hashCode_28 (by decide) ?_
    refine lv_goto (tgt := 51) hx hb dJ9_hashCode_29 (by decide) ?_
    exact hret _ _ _ _ _ _ _ _ hT hI hB dJ9_hashCode_51
  replace hT := hT.2 c0
  by_cases c1 : Int32.ofNat (gN σ x0) = 1
  · replace hT := hT.1 c1
    refine lv_lookup (tgt := 32) hx hb dJ9_hashCode_2 (by decide) (by rw [c1]; first | done | rfl) (by decide) ?_
    refine lv_aload_n hx hb dJ9_hashCode_32 rfl (lv_at hl 0 rfl) ?_
    refine lv_iconst (v := 0) hx hb dJ9_hashCode_33 (by decide) ?_
    obtain ⟨hL, hT⟩ := hT
    refine x_bald (i := x0) hC hI hL hT dJ9_hashCode_34 (fun hT => ?_)
    refine lv_sipush (v := 255) hx hb dJ9_hashCode_35 (by decide) ?_
    refine lv_iand hx hb dJ9_hashCode_38 ?_
    refine lv_goto (tgt := 51) hx hb dJ9_hashCode_39 (by decide) ?_
    exact hret _ _ _ _ _ _ _ _ hT hI hB dJ9_hashCode_51
  replace hT := hT.2 c1
  refine lv_lookup (tgt := 42) (off := 40) hx hb dJ9_hashCode_2 (by decide) (lk_out _ _ _ (by simp only [List.forall_mem_cons, List.not_mem_nil, false_implies, implies_true, and_true]; exact ⟨lk_ne c0 rfl, lk_ne c1 rfl⟩)) (by decide) ?_
  refine lv_aload_n hx hb dJ9_hashCode_42 rfl (lv_at hl 0 rfl) ?_
  refine lv_iconst (v := 0) hx hb dJ9_hashCode_43 (by decide) ?_
  refine lv_aload_n hx hb dJ9_hashCode_44 rfl (lv_at hl 0 rfl) ?_
  obtain ⟨hL, hT⟩ := hT
  refine x_alen (i := x0) hC hI hL (by decide) dJ9_hashCode_45 ?_
  refine lv_iconst (v := 0) hx hb dJ9_hashCode_46 (by decide) ?_
  refine lv_iconst (v := 4) hx hb dJ9_hashCode_47 (by decide) ?_
  refine x_call (x_runS hC hI (um_J10_vectorizedHashCode l D dA ad n0 Hs hC.2.2 σ x0 0 (Int32.ofNat (gN σ x0)) 0 4 _ hT) (lw_S q687 q688 q175 q689) 5 hdS_J10_vectorizedHashCode ⟨rfl, rfl⟩ ⟨Nat.le_of_ble_eq_true rfl, Nat.le_of_ble_eq_true rfl⟩ rfl hl.1 rfl (Nat.le_of_ble_eq_true rfl) hB dJ9_hashCode_48) hI (fun r2 σ1 H locs hT hI => ?_)
  refine W.eq (g2 := F0 m 51 ls [.int r2]) rfl ?_
  exact hret _ _ _ _ _ _ _ _ hT hI hB dJ9_hashCode_51
set_option maxHeartbeats 4000000 in
set_option maxRecDepth 100000 in
theorem um_J6_hashCode (l : Launch) (D : va_G) (dA : Nat → ClassId) (ad : Nat → Nat) (n0 : Nat) (Hs : Heap) (hA : cAd ad n0 Hs.size) (σ : CS) (ob : Nat) (K : Int32 → CS → Prop) (hT : U_J6_hashCode σ ob K) : Met l yJ6_hashCode (ws_ yJ6_hashCode cJ6_hashCode 2 (some .int)) ({ frames := 4, cells := 0, slots := 0, locals := 81 }) (va_Pc [.ref (ad ob)] (cU D dA ad n0 Hs σ)) (xQ rvI K (cU D dA ad n0 Hs) (cA ad)) 0 0 (cA ad) := by
  refine xm_i hA (by decide) rfl (Nat.le_of_ble_eq_true rfl) ?_
  intro p e s m args below meth c Q hC hN hret hI ls hl
  have hx := hC.1.1
  have hb := hC.1.2.1
  have hB : 0 ≤ 0 ∧ 0 ≤ 0 := ⟨Nat.zero_le _, Nat.zero_le _⟩
  have hl : lv_has ls 2 [(0, .ref (ad ob))] := hl
  unfold U_J6_hashCode at hT
  refine lv_aload_n hx hb dJ6_hashCode_0 rfl (lv_at hl 0 rfl) ?_
  obtain ⟨hL, hT⟩ := hT
  refine xg21_2 (i := ob) hC hI hL q660 (fun _ h => h) dJ6_hashCode_1 ?_
  refine lv_istore_n (lv' := [(1, .int (gI σ ob 2)), (0, .ref (ad ob))]) hx hb dJ6_hashCode_4 rfl hl (Nat.le_of_ble_eq_true rfl) rfl (fun ls hl => ?_)
  refine lv_iload_n hx hb dJ6_hashCode_5 rfl (lv_at hl 0 rfl) ?_
  refine lv_if_ne (tgt := 58) hx hb dJ6_hashCode_6 (by decide) (fun hc => ?_) (fun hc => ?_)
  · replace hT := hT.1 hc
    refine lv_iload_n hx hb dJ6_hashCode_58 rfl (lv_at hl 0 rfl) ?_
    exact hret _ _ _ _ _ _ _ _ hT hI hB dJ6_hashCode_59
  · replace hT := hT.2 hc
    refine lv_aload_n hx hb dJ6_hashCode_9 rfl (lv_at hl 1 rfl) ?_
    obtain ⟨hL, hT⟩ := hT
    refine xg21_3 (i := ob) hC hI hL q661 (fun _ h => h) dJ6_hashCode_10 ?_
    refine lv_if_ne (tgt := 58) hx hb dJ6_hashCode_13 (by decide) (fun hc => ?_) (fun hc => ?_)
    · replace hT := hT.1 hc
      refine lv_iload_n hx hb dJ6_hashCode_58 rfl (lv_at hl 0 rfl) ?_
      exact hret _ _ _ _ _ _ _ _ hT hI hB dJ6_hashCode_59
    · replace hT := hT.2 hc
      refine lv_aload_n hx hb dJ6_hashCode_16 rfl (lv_at hl 1 rfl) ?_
      obtain ⟨hL, hT⟩ := hT
      refine x_call (x_runV (i := ob) hC hI hL rfl (um_J6_isLatin1 l D dA ad n0 Hs hC.2.2 σ ob _ hT) (lw_V q680 q681 q682 q171 q683) 0 hdV_J6_isLatin1 ⟨rfl, rfl⟩ ⟨Nat.le_of_ble_eq_true rfl, Nat.le_of_ble_eq_true rfl⟩ rfl hl.1 rfl (Nat.le_of_ble_eq_true rfl) hB dJ6_hashCode_17) hI (fun r2 σ1 H locs hT hI => ?_)
      refine W.eq (g2 := F0 m 20 ls [.int r2]) rfl ?_
      refine lv_if_eq (tgt := 33) hx hb dJ6_hashCode_20 (by decide) (fun hc => ?_) (fun hc => ?_)
      · replace hT := hT.1 hc
        exact hT.elim
      · replace hT := hT.2 hc
        refine lv_aload_n hx hb dJ6_hashCode_23 rfl (lv_at hl 1 rfl) ?_
        obtain ⟨hL, hT⟩ := hT
        refine xg21_0 (i := ob) hC hI hL q658 (fun _ h => h) dJ6_hashCode_24 ?_
        obtain ⟨q3, hq4, hT⟩ := hT
        refine W.eq (congrArg (fun z => F0 m 27 ls [z]) (xrq hq4)) ?_
        refine x_call (x_runS hC hI (um_J9_hashCode l D dA ad n0 Hs hC.2.2 σ1 q3 _ hT) (lw_S q684 q685 q174 q686) 1 hdS_J9_hashCode ⟨rfl, rfl⟩ ⟨Nat.le_of_ble_eq_true rfl, Nat.le_of_ble_eq_true rfl⟩ rfl hl.1 rfl (Nat.le_of_ble_eq_true rfl) hB dJ6_hashCode_27) hI (fun r6 σ5 H locs hT hI => ?_)
        refine W.eq (g2 := F0 m 30 ls [.int r6]) rfl ?_
        refine lv_goto (tgt := 40) hx hb dJ6_hashCode_30 (by decide) ?_
        refine lv_istore_n (lv' := [(1, .int r6), (0, .ref (ad ob))]) hx hb dJ6_hashCode_40 rfl hl (Nat.le_of_ble_eq_true rfl) rfl (fun ls hl => ?_)
        refine lv_iload_n hx hb dJ6_hashCode_41 rfl (lv_at hl 0 rfl) ?_
        refine lv_if_ne (tgt := 53) hx hb dJ6_hashCode_42 (by decide) (fun hc => ?_) (fun hc => ?_)
        · replace hT := hT.1 hc
          refine lv_aload_n hx hb dJ6_hashCode_53 rfl (lv_at hl 1 rfl) ?_
          refine lv_iload_n hx hb dJ6_hashCode_54 rfl (lv_at hl 0 rfl) ?_
          obtain ⟨hic, hT⟩ := hT
          obtain ⟨hL, hT⟩ := hT
          refine xp21_2 (i := ob) (v := r6) hC hI hic hL hT q660 (fun _ h => h) dJ6_hashCode_55 (fun σ7 H locs hT hI => ?_)
          refine lv_iload_n hx hb dJ6_hashCode_58 rfl (lv_at hl 0 rfl) ?_
          exact hret _ _ _ _ _ _ _ _ hT hI hB dJ6_hashCode_59
        · replace hT := hT.2 hc
          refine lv_aload_n hx hb dJ6_hashCode_45 rfl (lv_at hl 1 rfl) ?_
          refine lv_iconst (v := 1) hx hb dJ6_hashCode_46 (by decide) ?_
          obtain ⟨hic, hT⟩ := hT
          obtain ⟨hL, hT⟩ := hT
          refine xp21_3 (i := ob) (v := 1) hC hI hic hL ⟨rfl, rfl⟩ hT q661 (fun _ h => h) dJ6_hashCode_47 (fun σ8 H locs hT hI => ?_)
          refine lv_goto (tgt := 58) hx hb dJ6_hashCode_50 (by decide) ?_
          refine lv_iload_n hx hb dJ6_hashCode_58 rfl (lv_at hl 0 rfl) ?_
          exact hret _ _ _ _ _ _ _ _ hT hI hB dJ6_hashCode_59
set_option maxHeartbeats 4000000 in
set_option maxRecDepth 100000 in
theorem um_J7_compress_2 (l : Launch) (D : va_G) (dA : Nat → ClassId) (ad : Nat → Nat) (n0 : Nat) (Hs : Heap) (hA : cAd ad n0 Hs.size) (σ : CS) (x0 : Nat) (x1 : Int32) (x2 : Nat) (x3 : Int32) (x4 : Int32) (K : Int32 → CS → Prop) (hT : U_J7_compress_2 σ x0 x1 x2 x3 x4 K) : Met l yJ7_compress_2 (ws_ yJ7_compress_2 cJ7_compress_2 7 (some .int)) ({ frames := 1, cells := 0, slots := 0, locals := 12 }) (va_Pc [.ref (ad x0), .int x1, .ref (ad x2), .int x3, .int x4] (cU D dA ad n0 Hs σ)) (xQ rvI K (cU D dA ad n0 Hs) (cA ad)) 0 0 (cA ad) := by
  refine xm_i hA (by decide) rfl (Nat.le_of_ble_eq_true rfl) ?_
  intro p e s m args below meth c Q hC hN hret hI ls hl
  have hx := hC.1.1
  have hb := hC.1.2.1
  have hB : 0 ≤ 0 ∧ 0 ≤ 0 := ⟨Nat.zero_le _, Nat.zero_le _⟩
  have hl : lv_has ls 7 [(0, .ref (ad x0)), (1, .int x1), (2, .ref (ad x2)), (3, .int x3), (4, .int x4)] := hl
  have w_3 : ∀ (x4 : Int32) (n : Nat) (x1 : Int32) (x3 : Int32) (x5 : Int32) (σ : CS) (H : Heap) (locs : List Loc) (ls : Array Slot), U_J7_compress_2_3 K x0 x2 x4 n x1 x3 x5 σ → xI D dA ad n0 Hs s.heap σ H locs → lv_has ls 7 [(0, .ref (ad x0)), (1, .int x1), (2, .ref (ad x2)), (3, .int x3), (4, .int x4), (5, .int x5)] → W p l e ({ frames := 1, cells := 0, slots := 0, locals := 12 }) s m args below meth c H locs 0 0 Q (F0 m 3 ls []) := by
    intro x4 n
    induction n with
    | zero => intro x1 x3 x5 σ H locs ls hT; exact hT.elim
    | succ n ih =>
      intro x1 x3 x5 σ H locs ls hT hI hl
      unfold U_J7_compress_2_3 at hT
      refine lv_iload hx hb dJ7_compress_2_3 (lv_at hl 5 rfl) ?_
      refine lv_iload hx hb dJ7_compress_2_5 (lv_at hl 4 rfl) ?_
      refine lv_icmp_ge (tgt := 44) hx hb dJ7_compress_2_7 (by decide) (fun hc => ?_) (fun hc => ?_)
      · replace hT := hT.1 hc
        refine lv_iload hx hb dJ7_compress_2_44 (lv_at hl 4 rfl) ?_
        exact hret _ _ _ _ _ _ _ _ hT hI hB dJ7_compress_2_46
      · replace hT := hT.2 hc
        refine lv_aload_n hx hb dJ7_compress_2_10 rfl (lv_at hl 0 rfl) ?_
        refine lv_iload_n hx hb dJ7_compress_2_11 rfl (lv_at hl 1 rfl) ?_
        obtain ⟨hL, hT⟩ := hT
        refine x_cald (i := x0) hC hI hL hT dJ7_compress_2_12 (fun hT => ?_)
        refine lv_istore (lv' := [(6, .int (gI σ x0 (Int32.toNatClampNeg x1))), (0, .ref (ad x0)), (1, .int x1), (2, .ref (ad x2)), (3, .int x3), (4, .int x4), (5, .int x5)]) hx hb dJ7_compress_2_13 hl (Nat.le_of_ble_eq_true rfl) rfl (fun ls hl => ?_)
        refine lv_iload hx hb dJ7_compress_2_15 (lv_at hl 0 rfl) ?_
        refine lv_sipush (v := 255) hx hb dJ7_compress_2_17 (by decide) ?_
        refine lv_icmp_le (tgt := 26) hx hb dJ7_compress_2_20 (by decide) (fun hc => ?_) (fun hc => ?_)
        · replace hT := hT.1 hc
          refine lv_aload_n hx hb dJ7_compress_2_26 rfl (lv_at hl 3 rfl) ?_
          refine lv_iload_n hx hb dJ7_compress_2_27 rfl (lv_at hl 4 rfl) ?_
          refine lv_iload hx hb dJ7_compress_2_28 (lv_at hl 0 rfl) ?_
          refine lv_i2b hx hb dJ7_compress_2_30 rfl ?_
          obtain ⟨hic, hT⟩ := hT
          obtain ⟨hL, hT⟩ := hT
          refine x_bast (i := x2) hC hI hic hL hT dJ7_compress_2_31 (fun σ1 H locs hT hI => ?_)
          refine lv_iinc (v := x1 + 1) (lv' := [(1, .int (x1 + 1)), (6, .int (gI σ x0 (Int32.toNatClampNeg x1))), (0, .ref (ad x0)), (2, .ref (ad x2)), (3, .int x3), (4, .int x4), (5, .int x5)]) hx hb dJ7_compress_2_32 hl (k := 2) rfl rfl (Nat.le_of_ble_eq_true rfl) rfl (fun ls hl => ?_)
          refine lv_iinc (v := x3 + 1) (lv' := [(3, .int (x3 + 1)), (1, .int (x1 + 1)), (6, .int (gI σ x0 (Int32.toNatClampNeg x1))), (0, .ref (ad x0)), (2, .ref (ad x2)), (4, .int x4), (5, .int x5)]) hx hb dJ7_compress_2_35 hl (k := 4) rfl rfl (Nat.le_of_ble_eq_true rfl) rfl (fun ls hl => ?_)
          refine lv_iinc (v := x5 + 1) (lv' := [(5, .int (x5 + 1)), (3, .int (x3 + 1)), (1, .int (x1 + 1)), (6, .int (gI σ x0 (Int32.toNatClampNeg x1))), (0, .ref (ad x0)), (2, .ref (ad x2)), (4, .int x4)]) hx hb dJ7_compress_2_38 hl (k := 6) rfl rfl (Nat.le_of_ble_eq_true rfl) rfl (fun ls hl => ?_)
          refine lv_goto (tgt := 3) hx hb dJ7_compress_2_41 (by decide) ?_
          exact ih (x1 + 1) (x3 + 1) (x5 + 1) σ1 _ _ _ hT hI (lv_sub hl [4, 2, 5, 1, 6, 0] rfl)
        · replace hT := hT.2 hc
          refine lv_iload hx hb dJ7_compress_2_23 (lv_at hl 6 rfl) ?_
          exact hret _ _ _ _ _ _ _ _ hT hI hB dJ7_compress_2_25
  unfold U_J7_compress_2 at hT
  refine lv_iconst (v := 0) hx hb dJ7_compress_2_0 (by decide) ?_
  refine lv_istore (lv' := [(5, .int 0), (0, .ref (ad x0)), (1, .int x1), (2, .ref (ad x2)), (3, .int x3), (4, .int x4)]) hx hb dJ7_compress_2_1 hl (Nat.le_of_ble_eq_true rfl) rfl (fun ls hl => ?_)
  obtain ⟨n3, hT⟩ := hT
  exact w_3 x4 n3 x1 x3 0 σ _ _ _ hT hI (lv_sub hl [1, 2, 3, 4, 5, 0] rfl)
set_option maxHeartbeats 4000000 in
set_option maxRecDepth 100000 in
theorem um_J7_compress (l : Launch) (D : va_G) (dA : Nat → ClassId) (ad : Nat → Nat) (n0 : Nat) (Hs : Heap) (hA : cAd ad n0 Hs.size) (mc ms : Nat) (σ : CS) (x0 : Nat) (x1 : Int32) (x2 : Int32) (K : Nat → CS → Prop) (hT : U_J7_compress mc ms σ x0 x1 x2 K) : Met l yJ7_compress (ws_ yJ7_compress cJ7_compress 6 (some (.array .byte))) ({ frames := 2, cells := mc, slots := ms, locals := 38 }) (va_Pc [.ref (ad x0), .int x1, .int x2] (cU D dA ad n0 Hs σ)) (xQ (rvR ad) K (cU D dA ad n0 Hs) (cA ad)) mc ms (cA ad) := by
  refine xm_r (Or.inr ⟨_, rfl⟩) hA (by decide) rfl (Nat.le_of_ble_eq_true rfl) ?_
  intro p e s m args below meth c Q hC hN hret hI ls hl
  have hx := hC.1.1
  have hb := hC.1.2.1
  have hB : 0 ≤ mc ∧ 0 ≤ ms := ⟨Nat.zero_le _, Nat.zero_le _⟩
  have hl : lv_has ls 6 [(0, .ref (ad x0)), (1, .int x1), (2, .int x2)] := hl
  unfold U_J7_compress at hT
  refine lv_iload_n hx hb dJ7_compress_0 rfl (lv_at hl 2 rfl) ?_
  have hB := hT.2.2.1
  refine xnewa1 hC hI hT dJ7_compress_1 (fun σ1 H hT hI => ?_)
  refine lv_astore_n (lv' := [(3, .ref (ad (σ.1))), (0, .ref (ad x0)), (1, .int x1), (2, .int x2)]) hx hb dJ7_compress_3 rfl hl (Nat.le_of_ble_eq_true rfl) rfl (fun ls hl => ?_)
  refine lv_aload_n hx hb dJ7_compress_4 rfl (lv_at hl 1 rfl) ?_
  refine lv_iload_n hx hb dJ7_compress_5 rfl (lv_at hl 2 rfl) ?_
  refine lv_aload_n hx hb dJ7_compress_6 rfl (lv_at hl 0 rfl) ?_
  refine lv_iconst (v := 0) hx hb dJ7_compress_7 (by decide) ?_
  refine lv_iload_n hx hb dJ7_compress_8 rfl (lv_at hl 3 rfl) ?_
  refine x_call (x_runS hC hI (um_J7_compress_2 l D dA ad n0 Hs hC.2.2 σ1 x0 x1 (σ.1) 0 x2 _ hT) (lw_S q612 q613 q172 q614) 5 hdS_J7_compress_2 ⟨rfl, rfl⟩ ⟨Nat.le_of_ble_eq_true rfl, Nat.le_of_ble_eq_true rfl⟩ rfl hl.1 rfl (Nat.le_of_ble_eq_true rfl) hB dJ7_compress_9) hI (fun r3 σ2 H locs hT hI => ?_)
  refine W.eq (g2 := F0 m 12 ls [.int r3]) rfl ?_
  refine lv_istore (lv' := [(4, .int r3), (3, .ref (ad (σ.1))), (0, .ref (ad x0)), (1, .int x1), (2, .int x2)]) hx hb dJ7_compress_12 hl (Nat.le_of_ble_eq_true rfl) rfl (fun ls hl => ?_)
  refine lv_iload hx hb dJ7_compress_14 (lv_at hl 0 rfl) ?_
  refine lv_iload_n hx hb dJ7_compress_16 rfl (lv_at hl 4 rfl) ?_
  refine lv_icmp_eq (tgt := 57) hx hb dJ7_compress_17 (by decide) (fun hc => ?_) (fun hc => ?_)
  · replace hT := hT.1 hc
    refine lv_aload_n hx hb dJ7_compress_57 rfl (lv_at hl 1 rfl) ?_
    exact hret ((σ.1) + 1) _ _ _ _ _ _ _ hT hI hB dJ7_compress_58
  · replace hT := hT.2 hc
    exact hT.elim
set_option maxHeartbeats 4000000 in
set_option maxRecDepth 100000 in
theorem um_J7_coderFromArrayLen (l : Launch) (D : va_G) (dA : Nat → ClassId) (ad : Nat → Nat) (n0 : Nat) (Hs : Heap) (hA : cAd ad n0 Hs.size) (σ : CS) (x0 : Nat) (x1 : Int32) (K : Int32 → CS → Prop) (hT : U_J7_coderFromArrayLen σ x0 x1 K) : Met l yJ7_coderFromArrayLen (ws_ yJ7_coderFromArrayLen cJ7_coderFromArrayLen 2 (some .byte)) ({ frames := 1, cells := 0, slots := 0, locals := 12 }) (va_Pc [.ref (ad x0), .int x1] (cU D dA ad n0 Hs σ)) (xQ rvI K (cU D dA ad n0 Hs) (cA ad)) 0 0 (cA ad) := by
  refine xm_b hA (by decide) rfl (Nat.le_of_ble_eq_true rfl) ?_
  intro p e s m args below meth c Q hC hN hret hI ls hl
  have hx := hC.1.1
  have hb := hC.1.2.1
  have hB : 0 ≤ 0 ∧ 0 ≤ 0 := ⟨Nat.zero_le _, Nat.zero_le _⟩
  have hl : lv_has ls 2 [(0, .ref (ad x0)), (1, .int x1)] := hl
  unfold U_J7_coderFromArrayLen at hT
  refine lv_iload_n hx hb dJ7_coderFromArrayLen_0 rfl (lv_at hl 1 rfl) ?_
  refine lv_aload_n hx hb dJ7_coderFromArrayLen_1 rfl (lv_at hl 0 rfl) ?_
  obtain ⟨hL, hT⟩ := hT
  refine x_alen (i := x0) hC hI hL (by decide) dJ7_coderFromArrayLen_2 ?_
  refine lv_isub hx hb dJ7_coderFromArrayLen_3 ?_
  refine lv_bipush (v := 31) hx hb dJ7_coderFromArrayLen_4 (by decide) ?_
  refine lv_iushr hx hb dJ7_coderFromArrayLen_6 rfl ?_
  refine lv_i2b hx hb dJ7_coderFromArrayLen_7 rfl ?_
  exact hret _ _ _ _ _ _ _ _ hT.1 hT.2 hI hB dJ7_coderFromArrayLen_8
set_option maxHeartbeats 4000000 in
set_option maxRecDepth 100000 in
theorem um_J6_init_2 (l : Launch) (D : va_G) (dA : Nat → ClassId) (ad : Nat → Nat) (n0 : Nat) (Hs : Heap) (hA : cAd ad n0 Hs.size) (mc ms : Nat) (σ : CS) (ob : Nat) (x1 : Nat) (x2 : Int32) (x3 : Int32) (x4 : Nat) (K : Unit → CS → Prop) (hT : U_J6_init_2 mc ms σ ob x1 x2 x3 x4 K) : Met l yJ6_init_2 (ws_ yJ6_init_2 cJ6_init_2 6 (none)) ({ frames := 3, cells := mc, slots := ms, locals := 63 }) (va_Pc [.ref (ad ob), .ref (ad x1), .int x2, .int x3, va_rf (rgR ad x4)] (cU D dA ad n0 Hs σ)) (xQ rvU K (cU D dA ad n0 Hs) (cA ad)) mc ms (cA ad) := by
  refine xm_v hA (by decide) rfl (by cases x4 <;> exact (Nat.le_of_ble_eq_true rfl)) ?_
  intro p e s m args below meth c Q hC hN hret hI ls hl
  have hx := hC.1.1
  have hb := hC.1.2.1
  have hB : 0 ≤ mc ∧ 0 ≤ ms := ⟨Nat.zero_le _, Nat.zero_le _⟩
  have hl : lv_has ls 6 [(0, .ref (ad ob)), (1, .ref (ad x1)), (2, .int x2), (3, .int x3), (4, va_rf (rgR ad x4))] := by cases x4 <;> exact hl
  unfold U_J6_init_2 at hT
  refine lv_aload_n hx hb dJ6_init_2_0 rfl (lv_at hl 0 rfl) ?_
  refine W.objInit hx hb hC.1.2.2.2.1 (hC.1.2.2.2.2 _ q605) (hC.1.2.2.2.2 _ q205) (hC.1.2.2.2.2 _ q206) rfl (by rw [hC.1.2.2.1]; exact hl.1) rfl dJ6_init_2_1 (Nat.le_of_ble_eq_true rfl) (Nat.le_of_ble_eq_true rfl) ?_
  refine W.eq (g2 := F0 m 4 ls []) rfl ?_
  refine lv_iload_n hx hb dJ6_init_2_4 rfl (lv_at hl 3 rfl) ?_
  refine lv_if_ne (tgt := 27) hx hb dJ6_init_2_5 (by decide) (fun hc => ?_) (fun hc => ?_)
  · replace hT := hT.1 hc
    refine x_gets (w := .int 1) hC hI (List.mem_of_getElem? (i := 0) rfl) q607 rfl dJ6_init_2_27 ?_
    refine lv_if_eq (tgt := 58) hx hb dJ6_init_2_30 (by decide) (fun hc => ?_) (fun hc => ?_)
    · exact absurd hc (by decide)
    · refine lv_aload_n hx hb dJ6_init_2_33 rfl (lv_at hl 1 rfl) ?_
      refine lv_iload_n hx hb dJ6_init_2_34 rfl (lv_at hl 2 rfl) ?_
      refine lv_iload_n hx hb dJ6_init_2_35 rfl (lv_at hl 3 rfl) ?_
      obtain ⟨mc3, ms4, hB, hT⟩ := hT
      refine x_call (x_runS hC hI (um_J7_compress l D dA ad n0 Hs hC.2.2 mc3 ms4 σ x1 x2 x3 _ hT) (lw_S q609 q610 q172 q611) 3 hdS_J7_compress ⟨rfl, rfl⟩ ⟨Nat.le_of_ble_eq_true rfl, Nat.le_of_ble_eq_true rfl⟩ rfl hl.1 rfl (Nat.le_of_ble_eq_true rfl) hB dJ6_init_2_36) hI (fun r2 σ1 H locs hT hI => ?_)
      refine W.eq (g2 := F0 m 39 ls [va_rf (rgR ad r2)]) rfl ?_
      refine x_astore (lv' := [(5, va_rf (rgR ad r2)), (0, .ref (ad ob)), (1, .ref (ad x1)), (2, .int x2), (3, .int x3), (4, va_rf (rgR ad x4))]) hx hb dJ6_init_2_39 hl (Nat.le_of_ble_eq_true rfl) (by simp [va_rf_cat, vc_int, vc_long, vc_ref, vc_null]) (fun ls hl => ?_)
      refine lv_aload_n hx hb dJ6_init_2_41 rfl (lv_at hl 1 rfl) ?_
      refine x_aload hx hb dJ6_init_2_42 (lv_at hl 0 rfl) ?_
      refine lv_iload_n hx hb dJ6_init_2_44 rfl (lv_at hl 4 rfl) ?_
      obtain ⟨q5, hqe_q5, hT_q5⟩ := hT
      have hl_q5 := hl
      subst hqe_q5
      replace hT := hT_q5
      refine W.eq (g2 := F0 m 45 ls [.int x3, .ref (ad q5), .ref (ad ob)]) rfl ?_
      have hl : lv_has ls 6 [(5, .ref (ad q5)), (0, .ref (ad ob)), (1, .ref (ad x1)), (2, .int x2), (3, .int x3), (4, va_rf (rgR ad x4))] := hl_q5
      refine x_call (x_runS hC hI (um_J7_coderFromArrayLen l D dA ad n0 Hs hC.2.2 σ1 q5 x3 _ hT) (lw_S q654 q655 q172 q656) 2 hdS_J7_coderFromArrayLen ⟨rfl, rfl⟩ ⟨Nat.le_of_ble_eq_true rfl, Nat.le_of_ble_eq_true rfl⟩ rfl hl.1 rfl (Nat.le_of_ble_eq_true rfl) hB dJ6_init_2_45) hI (fun r7 σ6 H locs hT hI => ?_)
      refine W.eq (g2 := F0 m 48 ls [.int r7, .ref (ad ob)]) rfl ?_
      obtain ⟨hic, hT⟩ := hT
      obtain ⟨hL, hT⟩ := hT
      obtain ⟨hz, hT⟩ := hT
      refine xpF21_1 (i := ob) (v := r7) hC hI hN rfl hic hL hz hT q659 (fun _ h => h) dJ6_init_2_48 (fun σ8 H locs hT hI => ?_)
      refine lv_aload_n hx hb dJ6_init_2_51 rfl (lv_at hl 1 rfl) ?_
      refine lv_aload hx hb dJ6_init_2_52 (lv_at hl 0 rfl) ?_
      obtain ⟨hic, hT⟩ := hT
      obtain ⟨hL, hT⟩ := hT
      refine xpF21_0 (i := ob) (v := q5 + 1) hC hI hN rfl hic hL hT q658 (fun _ h => h) dJ6_init_2_54 (fun σ9 H locs hT hI => ?_)
      exact hret _ _ _ _ _ _ _ _ hT hI hB dJ6_init_2_57
  · replace hT := hT.2 hc
    exact hT.elim
set_option maxHeartbeats 4000000 in
set_option maxRecDepth 100000 in
theorem um_J6_init (l : Launch) (D : va_G) (dA : Nat → ClassId) (ad : Nat → Nat) (n0 : Nat) (Hs : Heap) (hA : cAd ad n0 Hs.size) (mc ms : Nat) (σ : CS) (ob : Nat) (x1 : Nat) (K : Unit → CS → Prop) (hT : U_J6_init mc ms σ ob x1 K) : Met l yJ6_init (ws_ yJ6_init cJ6_init 2 (none)) ({ frames := 4, cells := mc, slots := ms, locals := 88 }) (va_Pc [.ref (ad ob), .ref (ad x1)] (cU D dA ad n0 Hs σ)) (xQ rvU K (cU D dA ad n0 Hs) (cA ad)) mc ms (cA ad) := by
  refine xm_v hA (by decide) rfl (Nat.le_of_ble_eq_true rfl) ?_
  intro p e s m args below meth c Q hC hN hret hI ls hl
  have hx := hC.1.1
  have hb := hC.1.2.1
  have hB : 0 ≤ mc ∧ 0 ≤ ms := ⟨Nat.zero_le _, Nat.zero_le _⟩
  have hl : lv_has ls 2 [(0, .ref (ad ob)), (1, .ref (ad x1))] := hl
  unfold U_J6_init at hT
  refine lv_aload_n hx hb dJ6_init_0 rfl (lv_at hl 0 rfl) ?_
  refine lv_aload_n hx hb dJ6_init_1 rfl (lv_at hl 1 rfl) ?_
  refine lv_iconst (v := 0) hx hb dJ6_init_2 (by decide) ?_
  refine lv_aload_n hx hb dJ6_init_3 rfl (lv_at hl 1 rfl) ?_
  obtain ⟨hL, hT⟩ := hT
  refine x_alen (i := x1) hC hI hL (by decide) dJ6_init_4 ?_
  refine lv_null hx hb dJ6_init_5 ?_
  obtain ⟨mc3, ms4, hB, hT⟩ := hT
  refine x_call (x_runI (i := ob) hC hI (um_J6_init_2 l D dA ad n0 Hs hC.2.2 mc3 ms4 σ ob x1 0 (Int32.ofNat (gN σ x1)) 0 _ hT) q604 q171 q602 q603 rfl 4 hdS_J6_init_2 ⟨rfl, rfl⟩ ⟨Nat.le_of_ble_eq_true rfl, Nat.le_of_ble_eq_true rfl⟩ rfl hl.1 rfl (Nat.le_of_ble_eq_true rfl) hB dJ6_init_6) hI (fun _ σ1 H locs hT hI => ?_)
  refine W.eq (g2 := F0 m 9 ls []) rfl ?_
  exact hret _ _ _ _ _ _ _ _ hT hI hB dJ6_init_9
set_option maxHeartbeats 4000000 in
set_option maxRecDepth 100000 in
theorem um_J6_valueOf (l : Launch) (D : va_G) (dA : Nat → ClassId) (ad : Nat → Nat) (n0 : Nat) (Hs : Heap) (hA : cAd ad n0 Hs.size) (mc ms : Nat) (σ : CS) (x0 : Nat) (K : Nat → CS → Prop) (hT : U_J6_valueOf mc ms σ x0 K) : Met l yJ6_valueOf (ws_ yJ6_valueOf cJ6_valueOf 1 (some (.object "java/lang/String"))) ({ frames := 5, cells := mc, slots := ms, locals := 109 }) (va_Pc [.ref (ad x0)] (cU D dA ad n0 Hs σ)) (xQ (rvR ad) K (cU D dA ad n0 Hs) (cA ad)) mc ms (cA ad) := by
  refine xm_r (Or.inl ⟨_, rfl⟩) hA (by decide) rfl (Nat.le_of_ble_eq_true rfl) ?_
  intro p e s m args below meth c Q hC hN hret hI ls hl
  have hx := hC.1.1
  have hb := hC.1.2.1
  have hB : 0 ≤ mc ∧ 0 ≤ ms := ⟨Nat.zero_le _, Nat.zero_le _⟩
  have hl : lv_has ls 1 [(0, .ref (ad x0))] := hl
  unfold U_J6_valueOf at hT
  have hB := hT.1
  refine xnew21 hC hI q597 hT dJ6_valueOf_0 (fun σ1 H hT hI => ?_)
  refine lv_dup hx hb dJ6_valueOf_3 rfl ?_
  refine lv_aload_n hx hb dJ6_valueOf_4 rfl (lv_at hl 0 rfl) ?_
  obtain ⟨mc4, ms5, hB, hT⟩ := hT
  refine x_call (x_runI (i := σ.1) hC hI (um_J6_init l D dA ad n0 Hs hC.2.2 mc4 ms5 σ1 (σ.1) x0 _ hT) q601 q171 q599 q600 rfl 1 hdS_J6_init ⟨rfl, rfl⟩ ⟨Nat.le_of_ble_eq_true rfl, Nat.le_of_ble_eq_true rfl⟩ rfl hl.1 rfl (Nat.le_of_ble_eq_true rfl) hB dJ6_valueOf_5) hI (fun _ σ2 H locs hT hI => ?_)
  refine W.eq (g2 := F0 m 8 ls [.ref (ad (σ.1))]) rfl ?_
  exact hret ((σ.1) + 1) _ _ _ _ _ _ _ hT hI hB dJ6_valueOf_8
