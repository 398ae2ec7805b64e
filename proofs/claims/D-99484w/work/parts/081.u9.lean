abbrev PTR := Nat → Nat → CS → (Nat → CS → Prop) → (CS → Prop) → Prop
def MetRA (l : Launch) (D : va_G) (dA : Nat → ClassId) (ad : Nat → Nat) (Hs : Heap) (fr lo : Nat) (P : PTR) : Prop :=
  ∀ (mc ms : Nat) (σ : CS) (K : Nat → CS → Prop) (E : CS → Prop), P mc ms σ K E → vq_Met l yX2_atom (ws_ yX2_atom cX2_atom 3 (some (.object "MendedThings$Value"))) ({ frames := fr, cells := mc, slots := ms, locals := lo }) (va_Pc [.ref (ad 9)] (cU D dA ad 1296 Hs σ)) (xQ (rvR ad) K (cU D dA ad 1296 Hs) (cA ad)) (xX D dA ad 1296 Hs E) mc ms (cA ad)
def MetRF (l : Launch) (D : va_G) (dA : Nat → ClassId) (ad : Nat → Nat) (Hs : Heap) (fr lo : Nat) (P : PTR) : Prop :=
  ∀ (mc ms : Nat) (σ : CS) (K : Nat → CS → Prop) (E : CS → Prop), P mc ms σ K E → vq_Met l yX2_fact (ws_ yX2_fact cX2_fact 3 (some (.object "MendedThings$Test"))) ({ frames := fr, cells := mc, slots := ms, locals := lo }) (va_Pc [.ref (ad 9)] (cU D dA ad 1296 Hs σ)) (xQ (rvR ad) K (cU D dA ad 1296 Hs) (cA ad)) (xX D dA ad 1296 Hs E) mc ms (cA ad)
def U_X2_product_20 (PA : PTR) (PF : PTR) (mc ms : Nat) (K : Nat → CS → Prop) (E : CS → Prop) (x1 : Nat) : Nat → Int32 → Nat → Nat → CS → Prop
  | 0 => fun _ _ _ _ => False
  | n + 1 => fun x2 cx zx σ => ((x2 = 0 → (K x1 σ)) ∧ (¬ x2 = 0 → (U_X2_takes σ 42 (fun r2 σ1 => (((r2 = 0 → (U_X2_takes σ1 47 (fun r4 σ3 => (((r4 = 0 → (U_X2_product_20 PA PF mc ms K E x1 n 0 cx zx σ3)) ∧ (¬ r4 = 0 → (∃ mc7 ms8 : Nat, (cx + mc7 ≤ mc ∧ zx + ms8 ≤ ms) ∧ (PA mc7 ms8 σ3 (fun r6 σ5 => (∃ q9, x1 = q9 + 1 ∧ (∃ q10, r6 = q10 + 1 ∧ (gK σ5 q9 = some kO13 ∧ (∃ mc13 ms14 : Nat, (cx + mc7 + mc13 ≤ mc ∧ zx + ms8 + ms14 ≤ ms) ∧ (U_X16_add mc13 ms14 σ5 q9 47 q10 (fun _ σ11 => (U_X2_product_20 PA PF mc ms K E x1 n x2 (cx + mc7 + mc13) (zx + ms8 + ms14) σ11)))))))) E)))))))) ∧ (¬ r2 = 0 → (∃ mc17 ms18 : Nat, (cx + mc17 ≤ mc ∧ zx + ms18 ≤ ms) ∧ (PA mc17 ms18 σ1 (fun r16 σ15 => (∃ q19, x1 = q19 + 1 ∧ (∃ q20, r16 = q20 + 1 ∧ (gK σ15 q19 = some kO13 ∧ (∃ mc23 ms24 : Nat, (cx + mc17 + mc23 ≤ mc ∧ zx + ms18 + ms24 ≤ ms) ∧ (U_X16_add mc23 ms24 σ15 q19 42 q20 (fun _ σ21 => (U_X2_product_20 PA PF mc ms K E x1 n x2 (cx + mc17 + mc23) (zx + ms18 + ms24) σ21)))))))) E)))))))))
def U_X2_product (PA : PTR) (PF : PTR) (mc ms : Nat) (σ : CS) (K : Nat → CS → Prop) (E : CS → Prop) : Prop := (1 ≤ mc ∧ 2 ≤ ms) ∧ (σ.1 < CB ∧ (∀ σ25 : CS, σ25 = nC σ kO13 → (∃ mc28 ms29 : Nat, (1 + mc28 ≤ mc ∧ 2 + ms29 ≤ ms) ∧ (U_X16_init mc28 ms29 σ25 (σ.1) (fun _ σ26 => (∃ mc32 ms33 : Nat, (1 + mc28 + mc32 ≤ mc ∧ 2 + ms29 + ms33 ≤ ms) ∧ (PA mc32 ms33 σ26 (fun r31 σ30 => (∃ q34, r31 = q34 + 1 ∧ (gK σ30 (σ.1) = some kO13 ∧ (∃ mc37 ms38 : Nat, (1 + mc28 + mc32 + mc37 ≤ mc ∧ 2 + ms29 + ms33 + ms38 ≤ ms) ∧ (U_X16_add mc37 ms38 σ30 (σ.1) 42 q34 (fun _ σ35 => (∃ n20, U_X2_product_20 PA PF mc ms K E ((σ.1) + 1) n20 1 (1 + mc28 + mc32 + mc37) (2 + ms29 + ms33 + ms38) σ35))))))) E)))))))
def U_X2_sum_20 (PA : PTR) (PF : PTR) (mc ms : Nat) (K : Nat → CS → Prop) (E : CS → Prop) (x1 : Nat) : Nat → Int32 → Nat → Nat → CS → Prop
  | 0 => fun _ _ _ _ => False
  | n + 1 => fun x2 cx zx σ => ((x2 = 0 → (K x1 σ)) ∧ (¬ x2 = 0 → (U_X2_takes σ 43 (fun r2 σ1 => (((r2 = 0 → (U_X2_takes σ1 45 (fun r4 σ3 => (((r4 = 0 → (U_X2_sum_20 PA PF mc ms K E x1 n 0 cx zx σ3)) ∧ (¬ r4 = 0 → (∃ mc7 ms8 : Nat, (cx + mc7 ≤ mc ∧ zx + ms8 ≤ ms) ∧ (U_X2_product PA PF mc7 ms8 σ3 (fun r6 σ5 => (∃ q9, x1 = q9 + 1 ∧ (∃ q10, r6 = q10 + 1 ∧ (gK σ5 q9 = some kO13 ∧ (∃ mc13 ms14 : Nat, (cx + mc7 + mc13 ≤ mc ∧ zx + ms8 + ms14 ≤ ms) ∧ (U_X16_add mc13 ms14 σ5 q9 45 q10 (fun _ σ11 => (U_X2_sum_20 PA PF mc ms K E x1 n x2 (cx + mc7 + mc13) (zx + ms8 + ms14) σ11)))))))) E)))))))) ∧ (¬ r2 = 0 → (∃ mc17 ms18 : Nat, (cx + mc17 ≤ mc ∧ zx + ms18 ≤ ms) ∧ (U_X2_product PA PF mc17 ms18 σ1 (fun r16 σ15 => (∃ q19, x1 = q19 + 1 ∧ (∃ q20, r16 = q20 + 1 ∧ (gK σ15 q19 = some kO13 ∧ (∃ mc23 ms24 : Nat, (cx + mc17 + mc23 ≤ mc ∧ zx + ms18 + ms24 ≤ ms) ∧ (U_X16_add mc23 ms24 σ15 q19 43 q20 (fun _ σ21 => (U_X2_sum_20 PA PF mc ms K E x1 n x2 (cx + mc17 + mc23) (zx + ms18 + ms24) σ21)))))))) E)))))))))
def U_X2_sum (PA : PTR) (PF : PTR) (mc ms : Nat) (σ : CS) (K : Nat → CS → Prop) (E : CS → Prop) : Prop := (1 ≤ mc ∧ 2 ≤ ms) ∧ (σ.1 < CB ∧ (∀ σ25 : CS, σ25 = nC σ kO13 → (∃ mc28 ms29 : Nat, (1 + mc28 ≤ mc ∧ 2 + ms29 ≤ ms) ∧ (U_X16_init mc28 ms29 σ25 (σ.1) (fun _ σ26 => (∃ mc32 ms33 : Nat, (1 + mc28 + mc32 ≤ mc ∧ 2 + ms29 + ms33 ≤ ms) ∧ (U_X2_product PA PF mc32 ms33 σ26 (fun r31 σ30 => (∃ q34, r31 = q34 + 1 ∧ (gK σ30 (σ.1) = some kO13 ∧ (∃ mc37 ms38 : Nat, (1 + mc28 + mc32 + mc37 ≤ mc ∧ 2 + ms29 + ms33 + ms38 ≤ ms) ∧ (U_X16_add mc37 ms38 σ30 (σ.1) 43 q34 (fun _ σ35 => (∃ n20, U_X2_sum_20 PA PF mc ms K E ((σ.1) + 1) n20 1 (1 + mc28 + mc32 + mc37) (2 + ms29 + ms33 + ms38) σ35))))))) E)))))))
def U_X2_within_77 (PA : PTR) (PF : PTR) (mc ms : Nat) (K : Nat → CS → Prop) (E : CS → Prop) (x3 : Nat) (cx : Nat) (zx : Nat) (σ : CS) : Prop := U_X2_must σ 41 (fun _ σ1 => (∀ σ3 : CS, σ3 = wI σ1 9 4 ((gI σ1 9 4) - 1) → (K x3 σ3))) E
def U_X2_within_68 (PA : PTR) (PF : PTR) (mc ms : Nat) (K : Nat → CS → Prop) (E : CS → Prop) (x2 : Nat) (s0 : Int32) (s1 : Nat) (s2 : Nat) (cx : Nat) (zx : Nat) (σ : CS) : Prop := ∃ mc6 ms7 : Nat, (cx + mc6 ≤ mc ∧ zx + ms7 ≤ ms) ∧ (U_X2_sum PA PF mc6 ms7 σ (fun r5 σ4 => (∃ q8, s1 = q8 + 1 ∧ (∃ q9, x2 = q9 + 1 ∧ (∃ q10, r5 = q10 + 1 ∧ (U_X17_init σ4 q8 s0 q9 q10 (fun _ σ11 => (U_X2_within_77 PA PF mc ms K E s2 (cx + mc6) (zx + ms7) σ11))))))) E)
def U_X2_within (PA : PTR) (PF : PTR) (mc ms : Nat) (σ : CS) (x1 : Int32) (K : Nat → CS → Prop) (E : CS → Prop) : Prop := U_X2_here σ (fun r14 σ13 => (((r14 = 40 → (U_X2_opens σ13 (gI σ13 9 2) (fun _ σ15 => (∀ σ17 : CS, σ17 = wI σ15 9 2 ((gI σ15 9 2) + 1) → (∃ mc20 ms21 : Nat, (0 + mc20 ≤ mc ∧ 0 + ms21 ≤ ms) ∧ (U_X2_sum PA PF mc20 ms21 σ17 (fun r19 σ18 => (((x1 ≤ 0 → (U_X2_within_77 PA PF mc ms K E r19 (0 + mc20) (0 + ms21) σ18)) ∧ (¬ x1 ≤ 0 → (U_X2_must σ18 44 (fun _ σ22 => ((0 + mc20 + 1 ≤ mc ∧ 0 + ms21 + 3 ≤ ms) ∧ (σ22.1 < CB ∧ (∀ σ24 : CS, σ24 = nC σ22 kO14 → (((¬ x1 = 2 → (U_X2_within_68 PA PF mc ms K E r19 0 ((σ22.1) + 1) ((σ22.1) + 1) (0 + mc20 + 1) (0 + ms21 + 3) σ24)) ∧ (x1 = 2 → (U_X2_within_68 PA PF mc ms K E r19 1 ((σ22.1) + 1) ((σ22.1) + 1) (0 + mc20 + 1) (0 + ms21 + 3) σ24)))))))) E))))) E)))) E)) ∧ (¬ r14 = 40 → (U_X2_wrong σ13 1 (gI σ13 9 2) (fun r26 σ25 => (r26 = 11 ∧ E σ25)))))))
def U_X2_looked (PA : PTR) (PF : PTR) (mc ms : Nat) (σ : CS) (x1 : Int32) (K : Nat → CS → Prop) (E : CS → Prop) : Prop := U_X2_opens σ (gI σ 9 3) (fun _ σ1 => ((1 ≤ mc ∧ 3 ≤ ms) ∧ (σ1.1 < CB ∧ (∀ σ3 : CS, σ3 = nC σ1 kO17 → (∃ mc6 ms7 : Nat, (1 + mc6 ≤ mc ∧ 3 + ms7 ≤ ms) ∧ (PA mc6 ms7 σ3 (fun r5 σ4 => (∃ q8, r5 = q8 + 1 ∧ (U_X20_init σ4 (σ1.1) 0 x1 q8 (fun _ σ9 => (∀ σ11 : CS, σ11 = wI σ9 9 4 ((gI σ9 9 4) - 1) → (K ((σ1.1) + 1) σ11)))))) E)))))) E
def U_X2_atom_143 (PA : PTR) (PF : PTR) (mc ms : Nat) (K : Nat → CS → Prop) (E : CS → Prop) (x1 : Nat) (cx : Nat) (zx : Nat) (σ : CS) : Prop := ∃ q1, x1 = q1 + 1 ∧ (gK σ q1 = some kO21 ∧ (U_J6_equals σ q1 1048652 (fun r3 σ2 => (((r3 = 0 → (∃ mc6 ms7 : Nat, (cx + mc6 ≤ mc ∧ zx + ms7 ≤ ms) ∧ (U_X2_within PA PF mc6 ms7 σ2 2 (fun r5 σ4 => (K r5 σ4)) E))) ∧ (¬ r3 = 0 → (∃ mc10 ms11 : Nat, (cx + mc10 ≤ mc ∧ zx + ms11 ≤ ms) ∧ (U_X2_within PA PF mc10 ms11 σ2 1 (fun r9 σ8 => (K r9 σ8)) E))))))))
def U_X2_atom_101 (PA : PTR) (PF : PTR) (mc ms : Nat) (K : Nat → CS → Prop) (E : CS → Prop) (x1 : Nat) (s0 : Int32) (cx : Nat) (zx : Nat) (σ : CS) : Prop := ((s0 = (-1) → (∃ q12, x1 = q12 + 1 ∧ (gK σ q12 = some kO21 ∧ (U_J6_equals σ q12 1048652 (fun r14 σ13 => (((¬ r14 = 0 → (U_X2_atom_143 PA PF mc ms K E (q12 + 1) cx zx σ13)) ∧ (r14 = 0 → (gK σ13 q12 = some kO21 ∧ (U_J6_equals σ13 q12 1048654 (fun r16 σ15 => (((¬ r16 = 0 → (U_X2_atom_143 PA PF mc ms K E (q12 + 1) cx zx σ15)) ∧ (r16 = 0 → (U_X2_wrong σ15 1 (gI σ15 9 3) (fun r18 σ17 => (r18 = 11 ∧ E σ17))))))))))))))))) ∧ (¬ s0 = (-1) → (∃ mc21 ms22 : Nat, (cx + mc21 ≤ mc ∧ zx + ms22 ≤ ms) ∧ (U_X2_looked PA PF mc21 ms22 σ s0 (fun r20 σ19 => (K r20 σ19)) E))))
def U_X2_atom_80 (PA : PTR) (PF : PTR) (mc ms : Nat) (K : Nat → CS → Prop) (E : CS → Prop) (x1 : Nat) (cx : Nat) (zx : Nat) (σ : CS) : Prop := ((¬ (gI σ 9 5) = (895 : Int32) → (U_X2_atom_101 PA PF mc ms K E x1 (-1) cx zx σ)) ∧ ((gI σ 9 5) = (895 : Int32) → (∃ q23, x1 = q23 + 1 ∧ (U_X0_find σ q23 1048578 (fun r25 σ24 => (U_X2_atom_101 PA PF mc ms K E (q23 + 1) r25 cx zx σ24))))))
def U_X2_atom (PA : PTR) (PF : PTR) (mc ms : Nat) (σ : CS) (K : Nat → CS → Prop) (E : CS → Prop) : Prop := U_X2_here σ (fun r27 σ26 => (((¬ r27 = 40 → (U_X2_here σ26 (fun r29 σ28 => (U_X0_isDigit σ28 r29 (fun r31 σ30 => (((r31 = 0 → (∃ mc34 ms35 : Nat, (0 + mc34 ≤ mc ∧ 0 + ms35 ≤ ms) ∧ (U_X2_word mc34 ms35 σ30 (fun r33 σ32 => (∃ q36, r33 = q36 + 1 ∧ (U_X0_find σ32 q36 1048577 (fun r38 σ37 => (((r38 = (-1) → (U_X2_atom_80 PA PF mc ms K E (q36 + 1) (0 + mc34) (0 + ms35) σ37)) ∧ (¬ r38 = (-1) → (U_X0_has σ37 (gI σ37 9 5) r38 (fun r40 σ39 => (((r40 = 0 → (U_X2_atom_80 PA PF mc ms K E (q36 + 1) (0 + mc34) (0 + ms35) σ39)) ∧ (¬ r40 = 0 → ((0 + mc34 + 1 ≤ mc ∧ 0 + ms35 + 1 ≤ ms) ∧ (σ39.1 < CB ∧ (∀ σ41 : CS, σ41 = nC σ39 kO16 → (U_X19_init σ41 (σ39.1) r38 (fun _ σ42 => (K ((σ39.1) + 1) σ42)))))))))))))))))) E))) ∧ (¬ r31 = 0 → ((1 ≤ mc ∧ 1 ≤ ms) ∧ (σ30.1 < CB ∧ (∀ σ44 : CS, σ44 = nC σ30 kO15 → (U_X2_number_2 σ44 0 9999 (fun r46 σ45 => (U_X18_init σ45 (σ30.1) (Int32.toInt64 r46) (fun _ σ47 => (K ((σ30.1) + 1) σ47)))) E)))))))))))) ∧ (r27 = 40 → (∃ mc51 ms52 : Nat, (0 + mc51 ≤ mc ∧ 0 + ms52 ≤ ms) ∧ (U_X2_within PA PF mc51 ms52 σ26 0 (fun r50 σ49 => (K r50 σ49)) E))))))
def U_X2_both_23 (PA : PTR) (PF : PTR) (mc ms : Nat) (K : Nat → CS → Prop) (E : CS → Prop) (x1 : Nat) : Nat → Nat → Nat → CS → Prop
  | 0 => fun _ _ _ => False
  | n + 1 => fun cx zx σ => ∃ mc3 ms4 : Nat, (cx + mc3 ≤ mc ∧ zx + ms4 ≤ ms) ∧ (U_X2_passes mc3 ms4 σ 1048646 (fun r2 σ1 => (((r2 = 0 → (K x1 σ1)) ∧ (¬ r2 = 0 → (∃ q5, x1 = q5 + 1 ∧ (gK σ1 q5 = some kO10 ∧ (∃ mc8 ms9 : Nat, (cx + mc3 + mc8 ≤ mc ∧ zx + ms4 + ms9 ≤ ms) ∧ (PF mc8 ms9 σ1 (fun r7 σ6 => (∃ q10, (gR σ1 q5 0) = q10 + 1 ∧ (∃ q12, r7 = q12 + 1 ∧ (gK σ6 q10 = some kO20 ∧ (∃ mc15 ms16 : Nat, (cx + mc3 + mc8 + mc15 ≤ mc ∧ zx + ms4 + ms9 + ms16 ≤ ms) ∧ (U_J2_add mc15 ms16 σ6 q10 q12 (fun r14 σ13 => (U_X2_both_23 PA PF mc ms K E x1 n (cx + mc3 + mc8 + mc15) (zx + ms4 + ms9 + ms16) σ13)))))))) E)))))))) E)
def U_X2_both (PA : PTR) (PF : PTR) (mc ms : Nat) (σ : CS) (K : Nat → CS → Prop) (E : CS → Prop) : Prop := (1 ≤ mc ∧ 2 ≤ ms) ∧ (σ.1 < CB ∧ (∀ σ17 : CS, σ17 = nC σ kO10 → (∃ mc20 ms21 : Nat, (1 + mc20 ≤ mc ∧ 2 + ms21 ≤ ms) ∧ (U_X12_init mc20 ms21 σ17 (σ.1) 1 (fun _ σ18 => (gK σ18 (σ.1) = some kO10 ∧ (∃ mc24 ms25 : Nat, (1 + mc20 + mc24 ≤ mc ∧ 2 + ms21 + ms25 ≤ ms) ∧ (PF mc24 ms25 σ18 (fun r23 σ22 => (∃ q26, (gR σ18 (σ.1) 0) = q26 + 1 ∧ (∃ q28, r23 = q28 + 1 ∧ (gK σ22 q26 = some kO20 ∧ (∃ mc31 ms32 : Nat, (1 + mc20 + mc24 + mc31 ≤ mc ∧ 2 + ms21 + ms25 + ms32 ≤ ms) ∧ (U_J2_add mc31 ms32 σ22 q26 q28 (fun r30 σ29 => (∃ n23, U_X2_both_23 PA PF mc ms K E ((σ.1) + 1) n23 (1 + mc20 + mc24 + mc31) (2 + ms21 + ms25 + ms32) σ29)))))))) E))))))))
def U_X2_test_23 (PA : PTR) (PF : PTR) (mc ms : Nat) (K : Nat → CS → Prop) (E : CS → Prop) (x1 : Nat) : Nat → Nat → Nat → CS → Prop
  | 0 => fun _ _ _ => False
  | n + 1 => fun cx zx σ => ∃ mc3 ms4 : Nat, (cx + mc3 ≤ mc ∧ zx + ms4 ≤ ms) ∧ (U_X2_passes mc3 ms4 σ 1048644 (fun r2 σ1 => (((r2 = 0 → (K x1 σ1)) ∧ (¬ r2 = 0 → (∃ q5, x1 = q5 + 1 ∧ (gK σ1 q5 = some kO10 ∧ (∃ mc8 ms9 : Nat, (cx + mc3 + mc8 ≤ mc ∧ zx + ms4 + ms9 ≤ ms) ∧ (U_X2_both PA PF mc8 ms9 σ1 (fun r7 σ6 => (∃ q10, (gR σ1 q5 0) = q10 + 1 ∧ (∃ q12, r7 = q12 + 1 ∧ (gK σ6 q10 = some kO20 ∧ (∃ mc15 ms16 : Nat, (cx + mc3 + mc8 + mc15 ≤ mc ∧ zx + ms4 + ms9 + ms16 ≤ ms) ∧ (U_J2_add mc15 ms16 σ6 q10 q12 (fun r14 σ13 => (U_X2_test_23 PA PF mc ms K E x1 n (cx + mc3 + mc8 + mc15) (zx + ms4 + ms9 + ms16) σ13)))))))) E)))))))) E)
def U_X2_test (PA : PTR) (PF : PTR) (mc ms : Nat) (σ : CS) (K : Nat → CS → Prop) (E : CS → Prop) : Prop := (1 ≤ mc ∧ 2 ≤ ms) ∧ (σ.1 < CB ∧ (∀ σ17 : CS, σ17 = nC σ kO10 → (∃ mc20 ms21 : Nat, (1 + mc20 ≤ mc ∧ 2 + ms21 ≤ ms) ∧ (U_X12_init mc20 ms21 σ17 (σ.1) 0 (fun _ σ18 => (gK σ18 (σ.1) = some kO10 ∧ (∃ mc24 ms25 : Nat, (1 + mc20 + mc24 ≤ mc ∧ 2 + ms21 + ms25 ≤ ms) ∧ (U_X2_both PA PF mc24 ms25 σ18 (fun r23 σ22 => (∃ q26, (gR σ18 (σ.1) 0) = q26 + 1 ∧ (∃ q28, r23 = q28 + 1 ∧ (gK σ22 q26 = some kO20 ∧ (∃ mc31 ms32 : Nat, (1 + mc20 + mc24 + mc31 ≤ mc ∧ 2 + ms21 + ms25 + ms32 ≤ ms) ∧ (U_J2_add mc31 ms32 σ22 q26 q28 (fun r30 σ29 => (∃ n23, U_X2_test_23 PA PF mc ms K E ((σ.1) + 1) n23 (1 + mc20 + mc24 + mc31) (2 + ms21 + ms25 + ms32) σ29)))))))) E))))))))
def U_X2_fact_148 (PA : PTR) (PF : PTR) (mc ms : Nat) (K : Nat → CS → Prop) (E : CS → Prop) (x1 : Nat) (x2 : Int32) (cx : Nat) (zx : Nat) (σ : CS) : Prop := ∀ σ1 : CS, σ1 = wI σ 9 2 ((gI σ 9 2) + 1) → ((cx + 1 ≤ mc ∧ zx + 3 ≤ ms) ∧ (σ1.1 < CB ∧ (∀ σ2 : CS, σ2 = nC σ1 kO18 → (∃ mc5 ms6 : Nat, (cx + 1 + mc5 ≤ mc ∧ zx + 3 + ms6 ≤ ms) ∧ (U_X2_sum PA PF mc5 ms6 σ2 (fun r4 σ3 => (∃ q7, x1 = q7 + 1 ∧ (∃ q8, r4 = q8 + 1 ∧ (U_X21_init σ3 (σ1.1) q7 x2 q8 (fun _ σ9 => (K ((σ1.1) + 1) σ9)))))) E)))))
def U_X2_fact (PA : PTR) (PF : PTR) (mc ms : Nat) (σ : CS) (K : Nat → CS → Prop) (E : CS → Prop) : Prop := U_X2_here σ (fun r12 σ11 => (((¬ r12 = 91 → (∃ mc15 ms16 : Nat, (0 + mc15 ≤ mc ∧ 0 + ms16 ≤ ms) ∧ (U_X2_passes mc15 ms16 σ11 1048648 (fun r14 σ13 => (((r14 = 0 → (∃ mc19 ms20 : Nat, (0 + mc15 + mc19 ≤ mc ∧ 0 + ms16 + ms20 ≤ ms) ∧ (U_X2_passes mc19 ms20 σ13 1048650 (fun r18 σ17 => (((r18 = 0 → (∃ mc23 ms24 : Nat, (0 + mc15 + mc19 + mc23 ≤ mc ∧ 0 + ms16 + ms20 + ms24 ≤ ms) ∧ (U_X2_sum PA PF mc23 ms24 σ17 (fun r22 σ21 => (U_X2_here σ21 (fun r26 σ25 => (((r26 = 60 → (U_X2_fact_148 PA PF mc ms K E r22 r26 (0 + mc15 + mc19 + mc23) (0 + ms16 + ms20 + ms24) σ25)) ∧ (¬ r26 = 60 → (((r26 = 62 → (U_X2_fact_148 PA PF mc ms K E r22 r26 (0 + mc15 + mc19 + mc23) (0 + ms16 + ms20 + ms24) σ25)) ∧ (¬ r26 = 62 → (((r26 = 61 → (U_X2_fact_148 PA PF mc ms K E r22 r26 (0 + mc15 + mc19 + mc23) (0 + ms16 + ms20 + ms24) σ25)) ∧ (¬ r26 = 61 → (U_X2_wrong σ25 1 (gI σ25 9 2) (fun r28 σ27 => (r28 = 11 ∧ E σ27))))))))))))))) E))) ∧ (¬ r18 = 0 → ((0 + mc15 + mc19 + 1 ≤ mc ∧ 0 + ms16 + ms20 ≤ ms) ∧ (σ17.1 < CB ∧ (∀ σ29 : CS, σ29 = nC σ17 kO12 → (U_X14_init σ29 (σ17.1) (fun _ σ30 => (K ((σ17.1) + 1) σ30)))))))))) E))) ∧ (¬ r14 = 0 → (U_X2_opens σ13 (gI σ13 9 3) (fun _ σ32 => ((0 + mc15 + 1 ≤ mc ∧ 0 + ms16 + 1 ≤ ms) ∧ (σ32.1 < CB ∧ (∀ σ34 : CS, σ34 = nC σ32 kO11 → (∃ mc37 ms38 : Nat, (0 + mc15 + 1 + mc37 ≤ mc ∧ 0 + ms16 + 1 + ms38 ≤ ms) ∧ (PF mc37 ms38 σ34 (fun r36 σ35 => (∃ q39, r36 = q39 + 1 ∧ (U_X13_init σ35 (σ32.1) q39 (fun _ σ40 => (∀ σ42 : CS, σ42 = wI σ40 9 4 ((gI σ40 9 4) - 1) → (K ((σ32.1) + 1) σ42)))))) E)))))) E))))) E))) ∧ (r12 = 91 → (U_X2_opens σ11 (gI σ11 9 2) (fun _ σ43 => (∀ σ45 : CS, σ45 = wI σ43 9 2 ((gI σ43 9 2) + 1) → (∃ mc48 ms49 : Nat, (0 + mc48 ≤ mc ∧ 0 + ms49 ≤ ms) ∧ (U_X2_test PA PF mc48 ms49 σ45 (fun r47 σ46 => (U_X2_must σ46 93 (fun _ σ50 => (∀ σ52 : CS, σ52 = wI σ50 9 4 ((gI σ50 9 4) - 1) → (K r47 σ52))) E)) E)))) E)))))
theorem hdS_X12_init : yX12_init.cls ≠ "java/lang/invoke/MethodHandle" ∧ yX12_init.cls ≠ "java/lang/invoke/VarHandle" ∧ (parseMethodDescriptor yX12_init.desc).map (fun d => d.parameters.length) = some 1 := by decide +kernel
theorem hdS_X13_init : yX13_init.cls ≠ "java/lang/invoke/MethodHandle" ∧ yX13_init.cls ≠ "java/lang/invoke/VarHandle" ∧ (parseMethodDescriptor yX13_init.desc).map (fun d => d.parameters.length) = some 1 := by decide +kernel
theorem hdS_X14_init : yX14_init.cls ≠ "java/lang/invoke/MethodHandle" ∧ yX14_init.cls ≠ "java/lang/invoke/VarHandle" ∧ (parseMethodDescriptor yX14_init.desc).map (fun d => d.parameters.length) = some 0 := by decide +kernel
theorem hdS_X16_init : yX16_init.cls ≠ "java/lang/invoke/MethodHandle" ∧ yX16_init.cls ≠ "java/lang/invoke/VarHandle" ∧ (parseMethodDescriptor yX16_init.desc).map (fun d => d.parameters.length) = some 0 := by decide +kernel
theorem hdS_X17_init : yX17_init.cls ≠ "java/lang/invoke/MethodHandle" ∧ yX17_init.cls ≠ "java/lang/invoke/VarHandle" ∧ (parseMethodDescriptor yX17_init.desc).map (fun d => d.parameters.length) = some 3 := by decide +kernel
theorem hdS_X18_init : yX18_init.cls ≠ "java/lang/invoke/MethodHandle" ∧ yX18_init.cls ≠ "java/lang/invoke/VarHandle" ∧ (parseMethodDescriptor yX18_init.desc).map (fun d => d.parameters.length) = some 1 := by decide +kernel
theorem hdS_X19_init : yX19_init.cls ≠ "java/lang/invoke/MethodHandle" ∧ yX19_init.cls ≠ "java/lang/invoke/VarHandle" ∧ (parseMethodDescriptor yX19_init.desc).map (fun d => d.parameters.length) = some 1 := by decide +kernel
theorem hdS_X20_init : yX20_init.cls ≠ "java/lang/invoke/MethodHandle" ∧ yX20_init.cls ≠ "java/lang/invoke/VarHandle" ∧ (parseMethodDescriptor yX20_init.desc).map (fun d => d.parameters.length) = some 3 := by decide +kernel
theorem hdS_X21_init : yX21_init.cls ≠ "java/lang/invoke/MethodHandle" ∧ yX21_init.cls ≠ "java/lang/invoke/VarHandle" ∧ (parseMethodDescriptor yX21_init.desc).map (fun d => d.parameters.length) = some 3 := by decide +kernel
theorem hdV_X16_add : yX16_add.cls = RX16 ∧ yX16_add.cls ≠ "java/lang/invoke/MethodHandle" ∧ yX16_add.cls ≠ "java/lang/invoke/VarHandle" ∧ (parseMethodDescriptor yX16_add.desc).map (fun d => d.parameters.length) = some 2 := by decide +kernel
theorem hdV_X2_atom : yX2_atom.cls = RX2 ∧ yX2_atom.cls ≠ "java/lang/invoke/MethodHandle" ∧ yX2_atom.cls ≠ "java/lang/invoke/VarHandle" ∧ (parseMethodDescriptor yX2_atom.desc).map (fun d => d.parameters.length) = some 0 := by decide +kernel
theorem hdV_X2_both : yX2_both.cls = RX2 ∧ yX2_both.cls ≠ "java/lang/invoke/MethodHandle" ∧ yX2_both.cls ≠ "java/lang/invoke/VarHandle" ∧ (parseMethodDescriptor yX2_both.desc).map (fun d => d.parameters.length) = some 0 := by decide +kernel
theorem hdV_X2_fact : yX2_fact.cls = RX2 ∧ yX2_fact.cls ≠ "java/lang/invoke/MethodHandle" ∧ yX2_fact.cls ≠ "java/lang/invoke/VarHandle" ∧ (parseMethodDescriptor yX2_fact.desc).map (fun d => d.parameters.length) = some 0 := by decide +kernel
theorem hdV_X2_looked : yX2_looked.cls = RX2 ∧ yX2_looked.cls ≠ "java/lang/invoke/MethodHandle" ∧ yX2_looked.cls ≠ "java/lang/invoke/VarHandle" ∧ (parseMethodDescriptor yX2_looked.desc).map (fun d => d.parameters.length) = some 1 := by decide +kernel
theorem hdV_X2_must : yX2_must.cls = RX2 ∧ yX2_must.cls ≠ "java/lang/invoke/MethodHandle" ∧ yX2_must.cls ≠ "java/lang/invoke/VarHandle" ∧ (parseMethodDescriptor yX2_must.desc).map (fun d => d.parameters.length) = some 1 := by decide +kernel
theorem hdV_X2_opens : yX2_opens.cls = RX2 ∧ yX2_opens.cls ≠ "java/lang/invoke/MethodHandle" ∧ yX2_opens.cls ≠ "java/lang/invoke/VarHandle" ∧ (parseMethodDescriptor yX2_opens.desc).map (fun d => d.parameters.length) = some 1 := by decide +kernel
theorem hdV_X2_passes : yX2_passes.cls = RX2 ∧ yX2_passes.cls ≠ "java/lang/invoke/MethodHandle" ∧ yX2_passes.cls ≠ "java/lang/invoke/VarHandle" ∧ (parseMethodDescriptor yX2_passes.desc).map (fun d => d.parameters.length) = some 1 := by decide +kernel
theorem hdV_X2_product : yX2_product.cls = RX2 ∧ yX2_product.cls ≠ "java/lang/invoke/MethodHandle" ∧ yX2_product.cls ≠ "java/lang/invoke/VarHandle" ∧ (parseMethodDescriptor yX2_product.desc).map (fun d => d.parameters.length) = some 0 := by decide +kernel
theorem hdV_X2_sum : yX2_sum.cls = RX2 ∧ yX2_sum.cls ≠ "java/lang/invoke/MethodHandle" ∧ yX2_sum.cls ≠ "java/lang/invoke/VarHandle" ∧ (parseMethodDescriptor yX2_sum.desc).map (fun d => d.parameters.length) = some 0 := by decide +kernel
theorem hdV_X2_takes : yX2_takes.cls = RX2 ∧ yX2_takes.cls ≠ "java/lang/invoke/MethodHandle" ∧ yX2_takes.cls ≠ "java/lang/invoke/VarHandle" ∧ (parseMethodDescriptor yX2_takes.desc).map (fun d => d.parameters.length) = some 1 := by decide +kernel
theorem hdV_X2_test : yX2_test.cls = RX2 ∧ yX2_test.cls ≠ "java/lang/invoke/MethodHandle" ∧ yX2_test.cls ≠ "java/lang/invoke/VarHandle" ∧ (parseMethodDescriptor yX2_test.desc).map (fun d => d.parameters.length) = some 0 := by decide +kernel
theorem hdV_X2_within : yX2_within.cls = RX2 ∧ yX2_within.cls ≠ "java/lang/invoke/MethodHandle" ∧ yX2_within.cls ≠ "java/lang/invoke/VarHandle" ∧ (parseMethodDescriptor yX2_within.desc).map (fun d => d.parameters.length) = some 1 := by decide +kernel
set_option maxHeartbeats 4000000 in
set_option maxRecDepth 100000 in
theorem um_X2_product (l : Launch) (D : va_G) (dA : Nat → ClassId) (ad : Nat → Nat) (Hs : Heap) (hA : cAd ad 1296 Hs.size) (fr lo : Nat) (PA : PTR) (PF : PTR) (hPA : MetRA l D dA ad Hs fr lo PA) (hPF : MetRF l D dA ad Hs fr lo PF) (mc ms : Nat) (σ : CS) (K : Nat → CS → Prop) (E : CS → Prop) (hT : U_X2_product PA PF mc ms σ K E) : vq_Met l yX2_product (ws_ yX2_product cX2_product 3 (some (.object "MendedThings$Value"))) ({ frames := 9 + fr, cells := mc, slots := ms, locals := 193 + lo }) (va_Pc [.ref (ad 9)] (cU D dA ad 1296 Hs σ)) (xQ (rvR ad) K (cU D dA ad 1296 Hs) (cA ad)) (xX D dA ad 1296 Hs E) mc ms (cA ad) := by
  refine xt_r (Or.inl ⟨_, rfl⟩) hA (by decide) rfl (Nat.le_of_ble_eq_true rfl) ?_
  intro p e s m args below meth c Q hC hN hret hthr hI ls hl
  have hx := hC.1.1
  have hb := hC.1.2.1
  have hB : 0 ≤ mc ∧ 0 ≤ ms := ⟨Nat.zero_le _, Nat.zero_le _⟩
  have hl : lv_has ls 3 [(0, .ref (ad 9))] := hl
  have w_20 : ∀ (x1 : Nat) (n : Nat) (x2 : Int32) (cx : Nat) (zx : Nat) (σ : CS) (H : Heap) (locs : List Loc) (ls : Array Slot), U_X2_product_20 PA PF mc ms K E x1 n x2 cx zx σ → xI D dA ad 1296 Hs s.heap σ H locs → (cx ≤ mc ∧ zx ≤ ms) → lv_has ls 3 [(0, .ref (ad 9)), (1, va_rf (rgR ad x1)), (2, .int x2)] → W p l e ({ frames := 9 + fr, cells := mc, slots := ms, locals := 193 + lo }) s m args below meth c H locs cx zx Q (F0 m 20 ls []) := by
    intro x1 n
    induction n with
    | zero => intro x2 cx zx σ H locs ls hT; exact hT.elim
    | succ n ih =>
      intro x2 cx zx σ H locs ls hT hI hB hl
      unfold U_X2_product_20 at hT
      refine lv_iload_n hx hb dX2_product_20 rfl (lv_at hl 2 rfl) ?_
      refine lv_if_eq (tgt := 73) hx hb dX2_product_21 (by decide) (fun hc => ?_) (fun hc => ?_)
      · replace hT := hT.1 hc
        refine x_aload_n hx hb dX2_product_73 rfl (lv_at hl 1 rfl) ?_
        exact hret x1 _ _ _ _ _ _ _ hT hI hB dX2_product_74
      · replace hT := hT.2 hc
        refine lv_aload_n hx hb dX2_product_24 rfl (lv_at hl 0 rfl) ?_
        refine lv_bipush (v := 42) hx hb dX2_product_25 (by decide) ?_
        refine x_call (x_runV (i := 9) hC hI (xst hI (Nat.le_of_ble_eq_true rfl) sl_9) rfl (um_X2_takes l D dA ad Hs hC.2.2 σ 42 _ hT) (lw_V q1191 q1193 qs30 q163 q1194) 1 hdV_X2_takes ⟨rfl, rfl⟩ (by constructor <;> (dsimp only; omega)) rfl hl.1 rfl (Nat.le_of_ble_eq_true rfl) hB dX2_product_27) hI (fun r2 σ1 H locs hT hI => ?_)
        refine W.eq (g2 := F0 m 30 ls [.int r2]) rfl ?_
        refine lv_if_eq (tgt := 46) hx hb dX2_product_30 (by decide) (fun hc => ?_) (fun hc => ?_)
        · replace hT := hT.1 hc
          refine lv_aload_n hx hb dX2_product_46 rfl (lv_at hl 0 rfl) ?_
          refine lv_bipush (v := 47) hx hb dX2_product_47 (by decide) ?_
          refine x_call (x_runV (i := 9) hC hI (xst hI (Nat.le_of_ble_eq_true rfl) sl_9) rfl (um_X2_takes l D dA ad Hs hC.2.2 σ1 47 _ hT) (lw_V q1191 q1193 qs30 q163 q1194) 1 hdV_X2_takes ⟨rfl, rfl⟩ (by constructor <;> (dsimp only; omega)) rfl hl.1 rfl (Nat.le_of_ble_eq_true rfl) hB dX2_product_49) hI (fun r4 σ3 H locs hT hI => ?_)
          refine W.eq (g2 := F0 m 52 ls [.int r4]) rfl ?_
          refine lv_if_eq (tgt := 68) hx hb dX2_product_52 (by decide) (fun hc => ?_) (fun hc => ?_)
          · replace hT := hT.1 hc
            refine lv_iconst (v := 0) hx hb dX2_product_68 (by decide) ?_
            refine lv_istore_n (i := 2) (lv' := [(2, .int 0), (0, .ref (ad 9)), (1, va_rf (rgR ad x1))]) hx hb dX2_product_69 rfl hl (Nat.le_of_ble_eq_true rfl) (by simp [va_rf_cat, vc_int, vc_long, vc_ref, vc_null]) (fun ls hl => ?_)
            refine lv_goto (tgt := 20) hx hb dX2_product_70 (by decide) ?_
            exact ih 0 cx zx σ3 _ _ _ hT hI hB (lv_sub hl [1, 2, 0] rfl)
          · replace hT := hT.2 hc
            refine x_aload_n hx hb dX2_product_55 rfl (lv_at hl 1 rfl) ?_
            refine lv_bipush (v := 47) hx hb dX2_product_56 (by decide) ?_
            refine lv_aload_n hx hb dX2_product_58 rfl (lv_at hl 0 rfl) ?_
            obtain ⟨mc7, ms8, hB, hT⟩ := hT
            refine t_call (t_runV (i := 9) hC hI (xst hI (Nat.le_of_ble_eq_true rfl) sl_9) rfl (hPA mc7 ms8 σ3 _ _ hT) (lw_V q1057 q1059 qs27 q163 q1060) 0 hdV_X2_atom ⟨rfl, rfl⟩ (by constructor <;> (dsimp only; omega)) rfl hl.1 rfl (by simp only [List.map_cons, List.map_nil, List.sum_cons, List.sum_nil, va_rf_cat, vc_int, vc_long, vc_ref, vc_null]; decide) hB dX2_product_59) hI (fun σ1 H1 locs1 hE h10 hI => hthr _ _ _ _ _ _ _ _ hE hI h10 hB) (fun r6 σ5 H locs hT hI => ?_)
            refine W.eq (g2 := F0 m 62 ls [va_rf (rgR ad r6), .int 47, va_rf (rgR ad x1)]) rfl ?_
            obtain ⟨q9, hqe_q9, hT_q9⟩ := hT
            have hl_q9 := hl
            subst hqe_q9
            replace hT := hT_q9
            refine W.eq (g2 := F0 m 62 ls [va_rf (rgR ad r6), .int 47, .ref (ad q9)]) rfl ?_
            have hl : lv_has ls 3 [(0, .ref (ad 9)), (1, .ref (ad q9)), (2, .int x2)] := hl_q9
            obtain ⟨q10, hqe_q10, hT_q10⟩ := hT
            have hl_q10 := hl
            subst hqe_q10
            replace hT := hT_q10
            refine W.eq (g2 := F0 m 62 ls [.ref (ad q10), .int 47, .ref (ad q9)]) rfl ?_
            have hl : lv_has ls 3 [(0, .ref (ad 9)), (1, .ref (ad q9)), (2, .int x2)] := hl_q10
            obtain ⟨hL, hT⟩ := hT
            obtain ⟨mc13, ms14, hB, hT⟩ := hT
            refine x_call (x_runV (i := q9) hC hI hL rfl (um_X16_add l D dA ad 1296 Hs hC.2.2 mc13 ms14 σ5 q9 47 q10 _ hT) (lw_V q1130 q1131 q1132 q189 q1133) 2 hdV_X16_add ⟨rfl, rfl⟩ (by constructor <;> (dsimp only; omega)) rfl hl.1 rfl (Nat.le_of_ble_eq_true rfl) hB dX2_product_62) hI (fun _ σ11 H locs hT hI => ?_)
            refine W.eq (g2 := F0 m 65 ls []) rfl ?_
            refine lv_goto (tgt := 20) hx hb dX2_product_65 (by decide) ?_
            exact ih x2 (cx + mc7 + mc13) (zx + ms8 + ms14) σ11 _ _ _ hT hI hB (lv_sub hl [0, 1, 2] rfl)
        · replace hT := hT.2 hc
          refine x_aload_n hx hb dX2_product_33 rfl (lv_at hl 1 rfl) ?_
          refine lv_bipush (v := 42) hx hb dX2_product_34 (by decide) ?_
          refine lv_aload_n hx hb dX2_product_36 rfl (lv_at hl 0 rfl) ?_
          obtain ⟨mc17, ms18, hB, hT⟩ := hT
          refine t_call (t_runV (i := 9) hC hI (xst hI (Nat.le_of_ble_eq_true rfl) sl_9) rfl (hPA mc17 ms18 σ1 _ _ hT) (lw_V q1057 q1059 qs27 q163 q1060) 0 hdV_X2_atom ⟨rfl, rfl⟩ (by constructor <;> (dsimp only; omega)) rfl hl.1 rfl (by simp only [List.map_cons, List.map_nil, List.sum_cons, List.sum_nil, va_rf_cat, vc_int, vc_long, vc_ref, vc_null]; decide) hB dX2_product_37) hI (fun σ1 H1 locs1 hE h10 hI => hthr _ _ _ _ _ _ _ _ hE hI h10 hB) (fun r16 σ15 H locs hT hI => ?_)
          refine W.eq (g2 := F0 m 40 ls [va_rf (rgR ad r16), .int 42, va_rf (rgR ad x1)]) rfl ?_
          obtain ⟨q19, hqe_q19, hT_q19⟩ := hT
          have hl_q19 := hl
          subst hqe_q19
          replace hT := hT_q19
          refine W.eq (g2 := F0 m 40 ls [va_rf (rgR ad r16), .int 42, .ref (ad q19)]) rfl ?_
          have hl : lv_has ls 3 [(0, .ref (ad 9)), (1, .ref (ad q19)), (2, .int x2)] := hl_q19
          obtain ⟨q20, hqe_q20, hT_q20⟩ := hT
          have hl_q20 := hl
          subst hqe_q20
          replace hT := hT_q20
          refine W.eq (g2 := F0 m 40 ls [.ref (ad q20), .int 42, .ref (ad q19)]) rfl ?_
          have hl : lv_has ls 3 [(0, .ref (ad 9)), (1, .ref (ad q19)), (2, .int x2)] := hl_q20
          obtain ⟨hL, hT⟩ := hT
          obtain ⟨mc23, ms24, hB, hT⟩ := hT
          refine x_call (x_runV (i := q19) hC hI hL rfl (um_X16_add l D dA ad 1296 Hs hC.2.2 mc23 ms24 σ15 q19 42 q20 _ hT) (lw_V q1130 q1131 q1132 q189 q1133) 2 hdV_X16_add ⟨rfl, rfl⟩ (by constructor <;> (dsimp only; omega)) rfl hl.1 rfl (Nat.le_of_ble_eq_true rfl) hB dX2_product_40) hI (fun _ σ21 H locs hT hI => ?_)
          refine W.eq (g2 := F0 m 43 ls []) rfl ?_
          refine lv_goto (tgt := 20) hx hb dX2_product_43 (by decide) ?_
          exact ih x2 (cx + mc17 + mc23) (zx + ms18 + ms24) σ21 _ _ _ hT hI hB (lv_sub hl [0, 1, 2] rfl)
  unfold U_X2_product at hT
  have hB := hT.1
  refine xnew13 hC hI q1012 hT dX2_product_0 (fun σ25 H hT hI => ?_)
  refine lv_dup hx hb dX2_product_3 rfl ?_
  obtain ⟨mc28, ms29, hB, hT⟩ := hT
  refine x_call (x_runIN (i := σ.1) hC hI (um_X16_init l D dA ad 1296 Hs hC.2.2 mc28 ms29 σ25 (σ.1) _ hT) q1016 q189 q1014 q1015 rfl 0 hdS_X16_init ⟨rfl, rfl⟩ (by constructor <;> (dsimp only; omega)) rfl hl.1 rfl (Nat.le_of_ble_eq_true rfl) hB dX2_product_4) hI (fun _ σ26 H locs hT hI => ?_)
  refine W.eq (g2 := F0 m 7 ls [.ref (ad (σ.1))]) rfl ?_
  refine lv_astore_n (lv' := [(1, .ref (ad (σ.1))), (0, .ref (ad 9))]) hx hb dX2_product_7 rfl hl (Nat.le_of_ble_eq_true rfl) rfl (fun ls hl => ?_)
  refine lv_aload_n hx hb dX2_product_8 rfl (lv_at hl 0 rfl) ?_
  refine lv_bipush (v := 42) hx hb dX2_product_9 (by decide) ?_
  refine lv_aload_n hx hb dX2_product_11 rfl (lv_at hl 1 rfl) ?_
  obtain ⟨mc32, ms33, hB, hT⟩ := hT
  refine t_call (t_runV (i := 9) hC hI (xst hI (Nat.le_of_ble_eq_true rfl) sl_9) rfl (hPA mc32 ms33 σ26 _ _ hT) (lw_V q1057 q1059 qs27 q163 q1060) 0 hdV_X2_atom ⟨rfl, rfl⟩ (by constructor <;> (dsimp only; omega)) rfl hl.1 rfl (Nat.le_of_ble_eq_true rfl) hB dX2_product_12) hI (fun σ1 H1 locs1 hE h10 hI => hthr _ _ _ _ _ _ _ _ hE hI h10 hB) (fun r31 σ30 H locs hT hI => ?_)
  refine W.eq (g2 := F0 m 15 ls [va_rf (rgR ad r31), .int 42, .ref (ad (σ.1))]) rfl ?_
  obtain ⟨q34, hqe_q34, hT_q34⟩ := hT
  have hl_q34 := hl
  subst hqe_q34
  replace hT := hT_q34
  refine W.eq (g2 := F0 m 15 ls [.ref (ad q34), .int 42, .ref (ad (σ.1))]) rfl ?_
  have hl : lv_has ls 3 [(1, .ref (ad (σ.1))), (0, .ref (ad 9))] := hl_q34
  obtain ⟨hL, hT⟩ := hT
  obtain ⟨mc37, ms38, hB, hT⟩ := hT
  refine x_call (x_runV (i := σ.1) hC hI hL rfl (um_X16_add l D dA ad 1296 Hs hC.2.2 mc37 ms38 σ30 (σ.1) 42 q34 _ hT) (lw_V q1130 q1131 q1132 q189 q1133) 2 hdV_X16_add ⟨rfl, rfl⟩ (by constructor <;> (dsimp only; omega)) rfl hl.1 rfl (Nat.le_of_ble_eq_true rfl) hB dX2_product_15) hI (fun _ σ35 H locs hT hI => ?_)
  refine W.eq (g2 := F0 m 18 ls []) rfl ?_
  refine lv_iconst (v := 1) hx hb dX2_product_18 (by decide) ?_
  refine lv_istore_n (lv' := [(2, .int 1), (1, .ref (ad (σ.1))), (0, .ref (ad 9))]) hx hb dX2_product_19 rfl hl (Nat.le_of_ble_eq_true rfl) rfl (fun ls hl => ?_)
  obtain ⟨n20, hT⟩ := hT
  exact w_20 ((σ.1) + 1) n20 1 (1 + mc28 + mc32 + mc37) (2 + ms29 + ms33 + ms38) σ35 _ _ _ hT hI hB (lv_sub hl [2, 1, 0] rfl)
set_option maxHeartbeats 4000000 in
set_option maxRecDepth 100000 in
theorem um_X2_sum (l : Launch) (D : va_G) (dA : Nat → ClassId) (ad : Nat → Nat) (Hs : Heap) (hA : cAd ad 1296 Hs.size) (fr lo : Nat) (PA : PTR) (PF : PTR) (hPA : MetRA l D dA ad Hs fr lo PA) (hPF : MetRF l D dA ad Hs fr lo PF) (mc ms : Nat) (σ : CS) (K : Nat → CS → Prop) (E : CS → Prop) (hT : U_X2_sum PA PF mc ms σ K E) : vq_Met l yX2_sum (ws_ yX2_sum cX2_sum 3 (some (.object "MendedThings$Value"))) ({ frames := 10 + fr, cells := mc, slots := ms, locals := 215 + lo }) (va_Pc [.ref (ad 9)] (cU D dA ad 1296 Hs σ)) (xQ (rvR ad) K (cU D dA ad 1296 Hs) (cA ad)) (xX D dA ad 1296 Hs E) mc ms (cA ad) := by
  refine xt_r (Or.inl ⟨_, rfl⟩) hA (by decide) rfl (Nat.le_of_ble_eq_true rfl) ?_
  intro p e s m args below meth c Q hC hN hret hthr hI ls hl
  have hx := hC.1.1
  have hb := hC.1.2.1
  have hB : 0 ≤ mc ∧ 0 ≤ ms := ⟨Nat.zero_le _, Nat.zero_le _⟩
  have hl : lv_has ls 3 [(0, .ref (ad 9))] := hl
  have w_20 : ∀ (x1 : Nat) (n : Nat) (x2 : Int32) (cx : Nat) (zx : Nat) (σ : CS) (H : Heap) (locs : List Loc) (ls : Array Slot), U_X2_sum_20 PA PF mc ms K E x1 n x2 cx zx σ → xI D dA ad 1296 Hs s.heap σ H locs → (cx ≤ mc ∧ zx ≤ ms) → lv_has ls 3 [(0, .ref (ad 9)), (1, va_rf (rgR ad x1)), (2, .int x2)] → W p l e ({ frames := 10 + fr, cells := mc, slots := ms, locals := 215 + lo }) s m args below meth c H locs cx zx Q (F0 m 20 ls []) := by
    intro x1 n
    induction n with
    | zero => intro x2 cx zx σ H locs ls hT; exact hT.elim
    | succ n ih =>
      intro x2 cx zx σ H locs ls hT hI hB hl
      unfold U_X2_sum_20 at hT
      refine lv_iload_n hx hb dX2_sum_20 rfl (lv_at hl 2 rfl) ?_
      refine lv_if_eq (tgt := 73) hx hb dX2_sum_21 (by decide) (fun hc => ?_) (fun hc => ?_)
      · replace hT := hT.1 hc
        refine x_aload_n hx hb dX2_sum_73 rfl (lv_at hl 1 rfl) ?_
        exact hret x1 _ _ _ _ _ _ _ hT hI hB dX2_sum_74
      · replace hT := hT.2 hc
        refine lv_aload_n hx hb dX2_sum_24 rfl (lv_at hl 0 rfl) ?_
        refine lv_bipush (v := 43) hx hb dX2_sum_25 (by decide) ?_
        refine x_call (x_runV (i := 9) hC hI (xst hI (Nat.le_of_ble_eq_true rfl) sl_9) rfl (um_X2_takes l D dA ad Hs hC.2.2 σ 43 _ hT) (lw_V q1191 q1193 qs30 q163 q1194) 1 hdV_X2_takes ⟨rfl, rfl⟩ (by constructor <;> (dsimp only; omega)) rfl hl.1 rfl (Nat.le_of_ble_eq_true rfl) hB dX2_sum_27) hI (fun r2 σ1 H locs hT hI => ?_)
        refine W.eq (g2 := F0 m 30 ls [.int r2]) rfl ?_
        refine lv_if_eq (tgt := 46) hx hb dX2_sum_30 (by decide) (fun hc => ?_) (fun hc => ?_)
        · replace hT := hT.1 hc
          refine lv_aload_n hx hb dX2_sum_46 rfl (lv_at hl 0 rfl) ?_
          refine lv_bipush (v := 45) hx hb dX2_sum_47 (by decide) ?_
          refine x_call (x_runV (i := 9) hC hI (xst hI (Nat.le_of_ble_eq_true rfl) sl_9) rfl (um_X2_takes l D dA ad Hs hC.2.2 σ1 45 _ hT) (lw_V q1191 q1193 qs30 q163 q1194) 1 hdV_X2_takes ⟨rfl, rfl⟩ (by constructor <;> (dsimp only; omega)) rfl hl.1 rfl (Nat.le_of_ble_eq_true rfl) hB dX2_sum_49) hI (fun r4 σ3 H locs hT hI => ?_)
          refine W.eq (g2 := F0 m 52 ls [.int r4]) rfl ?_
          refine lv_if_eq (tgt := 68) hx hb dX2_sum_52 (by decide) (fun hc => ?_) (fun hc => ?_)
          · replace hT := hT.1 hc
            refine lv_iconst (v := 0) hx hb dX2_sum_68 (by decide) ?_
            refine lv_istore_n (i := 2) (lv' := [(2, .int 0), (0, .ref (ad 9)), (1, va_rf (rgR ad x1))]) hx hb dX2_sum_69 rfl hl (Nat.le_of_ble_eq_true rfl) (by simp [va_rf_cat, vc_int, vc_long, vc_ref, vc_null]) (fun ls hl => ?_)
            refine lv_goto (tgt := 20) hx hb dX2_sum_70 (by decide) ?_
            exact ih 0 cx zx σ3 _ _ _ hT hI hB (lv_sub hl [1, 2, 0] rfl)
          · replace hT := hT.2 hc
            refine x_aload_n hx hb dX2_sum_55 rfl (lv_at hl 1 rfl) ?_
            refine lv_bipush (v := 45) hx hb dX2_sum_56 (by decide) ?_
            refine lv_aload_n hx hb dX2_sum_58 rfl (lv_at hl 0 rfl) ?_
            obtain ⟨mc7, ms8, hB, hT⟩ := hT
            refine t_call (t_runV (i := 9) hC hI (xst hI (Nat.le_of_ble_eq_true rfl) sl_9) rfl (um_X2_product l D dA ad Hs hC.2.2 fr lo PA PF hPA hPF mc7 ms8 σ3 _ _ hT) (lw_V q1053 q1055 qs26 q163 q1056) 0 hdV_X2_product ⟨rfl, rfl⟩ (by constructor <;> (dsimp only; omega)) rfl hl.1 rfl (by simp only [List.map_cons, List.map_nil, List.sum_cons, List.sum_nil, va_rf_cat, vc_int, vc_long, vc_ref, vc_null]; decide) hB dX2_sum_59) hI (fun σ1 H1 locs1 hE h10 hI => hthr _ _ _ _ _ _ _ _ hE hI h10 hB) (fun r6 σ5 H locs hT hI => ?_)
            refine W.eq (g2 := F0 m 62 ls [va_rf (rgR ad r6), .int 45, va_rf (rgR ad x1)]) rfl ?_
            obtain ⟨q9, hqe_q9, hT_q9⟩ := hT
            have hl_q9 := hl
            subst hqe_q9
            replace hT := hT_q9
            refine W.eq (g2 := F0 m 62 ls [va_rf (rgR ad r6), .int 45, .ref (ad q9)]) rfl ?_
            have hl : lv_has ls 3 [(0, .ref (ad 9)), (1, .ref (ad q9)), (2, .int x2)] := hl_q9
            obtain ⟨q10, hqe_q10, hT_q10⟩ := hT
            have hl_q10 := hl
            subst hqe_q10
            replace hT := hT_q10
            refine W.eq (g2 := F0 m 62 ls [.ref (ad q10), .int 45, .ref (ad q9)]) rfl ?_
            have hl : lv_has ls 3 [(0, .ref (ad 9)), (1, .ref (ad q9)), (2, .int x2)] := hl_q10
            obtain ⟨hL, hT⟩ := hT
            obtain ⟨mc13, ms14, hB, hT⟩ := hT
            refine x_call (x_runV (i := q9) hC hI hL rfl (um_X16_add l D dA ad 1296 Hs hC.2.2 mc13 ms14 σ5 q9 45 q10 _ hT) (lw_V q1130 q1131 q1132 q189 q1133) 2 hdV_X16_add ⟨rfl, rfl⟩ (by constructor <;> (dsimp only; omega)) rfl hl.1 rfl (Nat.le_of_ble_eq_true rfl) hB dX2_sum_62) hI (fun _ σ11 H locs hT hI => ?_)
            refine W.eq (g2 := F0 m 65 ls []) rfl ?_
            refine lv_goto (tgt := 20) hx hb dX2_sum_65 (by decide) ?_
            exact ih x2 (cx + mc7 + mc13) (zx + ms8 + ms14) σ11 _ _ _ hT hI hB (lv_sub hl [0, 1, 2] rfl)
        · replace hT := hT.2 hc
          refine x_aload_n hx hb dX2_sum_33 rfl (lv_at hl 1 rfl) ?_
          refine lv_bipush (v := 43) hx hb dX2_sum_34 (by decide) ?_
          refine lv_aload_n hx hb dX2_sum_36 rfl (lv_at hl 0 rfl) ?_
          obtain ⟨mc17, ms18, hB, hT⟩ := hT
          refine t_call (t_runV (i := 9) hC hI (xst hI (Nat.le_of_ble_eq_true rfl) sl_9) rfl (um_X2_product l D dA ad Hs hC.2.2 fr lo PA PF hPA hPF mc17 ms18 σ1 _ _ hT) (lw_V q1053 q1055 qs26 q163 q1056) 0 hdV_X2_product ⟨rfl, rfl⟩ (by constructor <;> (dsimp only; omega)) rfl hl.1 rfl (by simp only [List.map_cons, List.map_nil, List.sum_cons, List.sum_nil, va_rf_cat, vc_int, vc_long, vc_ref, vc_null]; decide) hB dX2_sum_37) hI (fun σ1 H1 locs1 hE h10 hI => hthr _ _ _ _ _ _ _ _ hE hI h10 hB) (fun r16 σ15 H locs hT hI => ?_)
          refine W.eq (g2 := F0 m 40 ls [va_rf (rgR ad r16), .int 43, va_rf (rgR ad x1)]) rfl ?_
          obtain ⟨q19, hqe_q19, hT_q19⟩ := hT
          have hl_q19 := hl
          subst hqe_q19
          replace hT := hT_q19
          refine W.eq (g2 := F0 m 40 ls [va_rf (rgR ad r16), .int 43, .ref (ad q19)]) rfl ?_
          have hl : lv_has ls 3 [(0, .ref (ad 9)), (1, .ref (ad q19)), (2, .int x2)] := hl_q19
          obtain ⟨q20, hqe_q20, hT_q20⟩ := hT
          have hl_q20 := hl
          subst hqe_q20
          replace hT := hT_q20
          refine W.eq (g2 := F0 m 40 ls [.ref (ad q20), .int 43, .ref (ad q19)]) rfl ?_
          have hl : lv_has ls 3 [(0, .ref (ad 9)), (1, .ref (ad q19)), (2, .int x2)] := hl_q20
          obtain ⟨hL, hT⟩ := hT
          obtain ⟨mc23, ms24, hB, hT⟩ := hT
          refine x_call (x_runV (i := q19) hC hI hL rfl (um_X16_add l D dA ad 1296 Hs hC.2.2 mc23 ms24 σ15 q19 43 q20 _ hT) (lw_V q1130 q1131 q1132 q189 q1133) 2 hdV_X16_add ⟨rfl, rfl⟩ (by constructor <;> (dsimp only; omega)) rfl hl.1 rfl (Nat.le_of_ble_eq_true rfl) hB dX2_sum_40) hI (fun _ σ21 H locs hT hI => ?_)
          refine W.eq (g2 := F0 m 43 ls []) rfl ?_
          refine lv_goto (tgt := 20) hx hb dX2_sum_43 (by decide) ?_
          exact ih x2 (cx + mc17 + mc23) (zx + ms18 + ms24) σ21 _ _ _ hT hI hB (lv_sub hl [0, 1, 2] rfl)
  unfold U_X2_sum at hT
  have hB := hT.1
  refine xnew13 hC hI q1012 hT dX2_sum_0 (fun σ25 H hT hI => ?_)
  refine lv_dup hx hb dX2_sum_3 rfl ?_
  obtain ⟨mc28, ms29, hB, hT⟩ := hT
  refine x_call (x_runIN (i := σ.1) hC hI (um_X16_init l D dA ad 1296 Hs hC.2.2 mc28 ms29 σ25 (σ.1) _ hT) q1016 q189 q1014 q1015 rfl 0 hdS_X16_init ⟨rfl, rfl⟩ (by constructor <;> (dsimp only; omega)) rfl hl.1 rfl (Nat.le_of_ble_eq_true rfl) hB dX2_sum_4) hI (fun _ σ26 H locs hT hI => ?_)
  refine W.eq (g2 := F0 m 7 ls [.ref (ad (σ.1))]) rfl ?_
  refine lv_astore_n (lv' := [(1, .ref (ad (σ.1))), (0, .ref (ad 9))]) hx hb dX2_sum_7 rfl hl (Nat.le_of_ble_eq_true rfl) rfl (fun ls hl => ?_)
  refine lv_aload_n hx hb dX2_sum_8 rfl (lv_at hl 0 rfl) ?_
  refine lv_bipush (v := 43) hx hb dX2_sum_9 (by decide) ?_
  refine lv_aload_n hx hb dX2_sum_11 rfl (lv_at hl 1 rfl) ?_
  obtain ⟨mc32, ms33, hB, hT⟩ := hT
  refine t_call (t_runV (i := 9) hC hI (xst hI (Nat.le_of_ble_eq_true rfl) sl_9) rfl (um_X2_product l D dA ad Hs hC.2.2 fr lo PA PF hPA hPF mc32 ms33 σ26 _ _ hT) (lw_V q1053 q1055 qs26 q163 q1056) 0 hdV_X2_product ⟨rfl, rfl⟩ (by constructor <;> (dsimp only; omega)) rfl hl.1 rfl (Nat.le_of_ble_eq_true rfl) hB dX2_sum_12) hI (fun σ1 H1 locs1 hE h10 hI => hthr _ _ _ _ _ _ _ _ hE hI h10 hB) (fun r31 σ30 H locs hT hI => ?_)
  refine W.eq (g2 := F0 m 15 ls [va_rf (rgR ad r31), .int 43, .ref (ad (σ.1))]) rfl ?_
  obtain ⟨q34, hqe_q34, hT_q34⟩ := hT
  have hl_q34 := hl
  subst hqe_q34
  replace hT := hT_q34
  refine W.eq (g2 := F0 m 15 ls [.ref (ad q34), .int 43, .ref (ad (σ.1))]) rfl ?_
  have hl : lv_has ls 3 [(1, .ref (ad (σ.1))), (0, .ref (ad 9))] := hl_q34
  obtain ⟨hL, hT⟩ := hT
  obtain ⟨mc37, ms38, hB, hT⟩ := hT
  refine x_call (x_runV (i := σ.1) hC hI hL rfl (um_X16_add l D dA ad 1296 Hs hC.2.2 mc37 ms38 σ30 (σ.1) 43 q34 _ hT) (lw_V q1130 q1131 q1132 q189 q1133) 2 hdV_X16_add ⟨rfl, rfl⟩ (by constructor <;> (dsimp only; omega)) rfl hl.1 rfl (Nat.le_of_ble_eq_true rfl) hB dX2_sum_15) hI (fun _ σ35 H locs hT hI => ?_)
  refine W.eq (g2 := F0 m 18 ls []) rfl ?_
  refine lv_iconst (v := 1) hx hb dX2_sum_18 (by decide) ?_
  refine lv_istore_n (lv' := [(2, .int 1), (1, .ref (ad (σ.1))), (0, .ref (ad 9))]) hx hb dX2_sum_19 rfl hl (Nat.le_of_ble_eq_true rfl) rfl (fun ls hl => ?_)
  obtain ⟨n20, hT⟩ := hT
  exact w_20 ((σ.1) + 1) n20 1 (1 + mc28 + mc32 + mc37) (2 + ms29 + ms33 + ms38) σ35 _ _ _ hT hI hB (lv_sub hl [2, 1, 0] rfl)
set_option maxHeartbeats 4000000 in
set_option maxRecDepth 100000 in
theorem um_X2_within (l : Launch) (D : va_G) (dA : Nat → ClassId) (ad : Nat → Nat) (Hs : Heap) (hA : cAd ad 1296 Hs.size) (fr lo : Nat) (PA : PTR) (PF : PTR) (hPA : MetRA l D dA ad Hs fr lo PA) (hPF : MetRF l D dA ad Hs fr lo PF) (mc ms : Nat) (σ : CS) (x1 : Int32) (K : Nat → CS → Prop) (E : CS → Prop) (hT : U_X2_within PA PF mc ms σ x1 K E) : vq_Met l yX2_within (ws_ yX2_within cX2_within 4 (some (.object "MendedThings$Value"))) ({ frames := 11 + fr, cells := mc, slots := ms, locals := 237 + lo }) (va_Pc [.ref (ad 9), .int x1] (cU D dA ad 1296 Hs σ)) (xQ (rvR ad) K (cU D dA ad 1296 Hs) (cA ad)) (xX D dA ad 1296 Hs E) mc ms (cA ad) := by
  refine xt_r (Or.inl ⟨_, rfl⟩) hA (by decide) rfl (Nat.le_of_ble_eq_true rfl) ?_
  intro p e s m args below meth c Q hC hN hret hthr hI ls hl
  have hx := hC.1.1
  have hb := hC.1.2.1
  have hB : 0 ≤ mc ∧ 0 ≤ ms := ⟨Nat.zero_le _, Nat.zero_le _⟩
  have hl : lv_has ls 4 [(0, .ref (ad 9)), (1, .int x1)] := hl
  have w_77 : ∀ (x3 : Nat) (cx : Nat) (zx : Nat) (σ : CS) (H : Heap) (locs : List Loc) (ls : Array Slot), U_X2_within_77 PA PF mc ms K E x3 cx zx σ → xI D dA ad 1296 Hs s.heap σ H locs → (cx ≤ mc ∧ zx ≤ ms) → lv_has ls 4 [(0, .ref (ad 9)), (3, va_rf (rgR ad x3))] → W p l e ({ frames := 11 + fr, cells := mc, slots := ms, locals := 237 + lo }) s m args below meth c H locs cx zx Q (F0 m 77 ls []) := by
    intro x3 cx zx σ H locs ls hT hI hB hl
    unfold U_X2_within_77 at hT
    refine lv_aload_n hx hb dX2_within_77 rfl (lv_at hl 0 rfl) ?_
    refine lv_bipush (v := 41) hx hb dX2_within_78 (by decide) ?_
    refine t_call (t_runV (i := 9) hC hI (xst hI (Nat.le_of_ble_eq_true rfl) sl_9) rfl (um_X2_must l D dA ad Hs hC.2.2 σ 41 _ _ hT) (lw_V q981 q983 qs23 q163 q984) 1 hdV_X2_must ⟨rfl, rfl⟩ (by constructor <;> (dsimp only; omega)) rfl hl.1 rfl (Nat.le_of_ble_eq_true rfl) hB dX2_within_80) hI (fun σ1 H1 locs1 hE h10 hI => hthr _ _ _ _ _ _ _ _ hE hI h10 hB) (fun _ σ1 H locs hT hI => ?_)
    refine W.eq (g2 := F0 m 83 ls []) rfl ?_
    refine lv_aload_n hx hb dX2_within_83 rfl (lv_at hl 0 rfl) ?_
    refine lv_dup hx hb dX2_within_84 rfl ?_
    refine xg2_4 (i := 9) hC hI (xst hI (Nat.le_of_ble_eq_true rfl) sl_9) q368 (fun _ h => h) dX2_within_85 ?_
    refine lv_iconst (v := 1) hx hb dX2_within_88 (by decide) ?_
    refine lv_isub hx hb dX2_within_89 ?_
    refine xp2_4 (i := 9) (v := (gI σ1 9 4) - 1) hC hI (Nat.lt_of_lt_of_le (show _ < 1296 from (Nat.le_of_ble_eq_true rfl)) (by decide)) (xst hI (Nat.le_of_ble_eq_true rfl) sl_9) hT q368 (fun _ h => h) dX2_within_90 (fun σ3 H locs hT hI => ?_)
    refine x_aload_n hx hb dX2_within_93 rfl (lv_at hl 1 rfl) ?_
    exact hret x3 _ _ _ _ _ _ _ hT hI hB dX2_within_94
  have w_68 : ∀ (x2 : Nat) (s0 : Int32) (s1 : Nat) (s2 : Nat) (cx : Nat) (zx : Nat) (σ : CS) (H : Heap) (locs : List Loc) (ls : Array Slot), U_X2_within_68 PA PF mc ms K E x2 s0 s1 s2 cx zx σ → xI D dA ad 1296 Hs s.heap σ H locs → (cx ≤ mc ∧ zx ≤ ms) → lv_has ls 4 [(0, .ref (ad 9)), (2, va_rf (rgR ad x2))] → W p l e ({ frames := 11 + fr, cells := mc, slots := ms, locals := 237 + lo }) s m args below meth c H locs cx zx Q (F0 m 68 ls [.int s0, va_rf (rgR ad s1), va_rf (rgR ad s2)]) := by
    intro x2 s0 s1 s2 cx zx σ H locs ls hT hI hB hl
    unfold U_X2_within_68 at hT
    refine x_aload_n hx hb dX2_within_68 rfl (lv_at hl 1 rfl) ?_
    refine lv_aload_n hx hb dX2_within_69 rfl (lv_at hl 0 rfl) ?_
    obtain ⟨mc6, ms7, hB, hT⟩ := hT
    refine t_call (t_runV (i := 9) hC hI (xst hI (Nat.le_of_ble_eq_true rfl) sl_9) rfl (um_X2_sum l D dA ad Hs hC.2.2 fr lo PA PF hPA hPF mc6 ms7 σ _ _ hT) (lw_V q1008 q1010 qs25 q163 q1011) 0 hdV_X2_sum ⟨rfl, rfl⟩ (by constructor <;> (dsimp only; omega)) rfl hl.1 rfl (by simp only [List.map_cons, List.map_nil, List.sum_cons, List.sum_nil, va_rf_cat, vc_int, vc_long, vc_ref, vc_null]; decide) hB dX2_within_70) hI (fun σ1 H1 locs1 hE h10 hI => hthr _ _ _ _ _ _ _ _ hE hI h10 hB) (fun r5 σ4 H locs hT hI => ?_)
    refine W.eq (g2 := F0 m 73 ls [va_rf (rgR ad r5), va_rf (rgR ad x2), .int s0, va_rf (rgR ad s1), va_rf (rgR ad s2)]) rfl ?_
    obtain ⟨q8, hqe_q8, hT_q8⟩ := hT
    have hl_q8 := hl
    subst hqe_q8
    replace hT := hT_q8
    refine W.eq (g2 := F0 m 73 ls [va_rf (rgR ad r5), va_rf (rgR ad x2), .int s0, .ref (ad q8), va_rf (rgR ad s2)]) rfl ?_
    have hl : lv_has ls 4 [(0, .ref (ad 9)), (2, va_rf (rgR ad x2))] := hl_q8
    obtain ⟨q9, hqe_q9, hT_q9⟩ := hT
    have hl_q9 := hl
    subst hqe_q9
    replace hT := hT_q9
    refine W.eq (g2 := F0 m 73 ls [va_rf (rgR ad r5), .ref (ad q9), .int s0, .ref (ad q8), va_rf (rgR ad s2)]) rfl ?_
    have hl : lv_has ls 4 [(0, .ref (ad 9)), (2, .ref (ad q9))] := hl_q9
    obtain ⟨q10, hqe_q10, hT_q10⟩ := hT
    have hl_q10 := hl
    subst hqe_q10
    replace hT := hT_q10
    refine W.eq (g2 := F0 m 73 ls [.ref (ad q10), .ref (ad q9), .int s0, .ref (ad q8), va_rf (rgR ad s2)]) rfl ?_
    have hl : lv_has ls 4 [(0, .ref (ad 9)), (2, .ref (ad q9))] := hl_q10
    refine x_call (x_runI (i := q8) hC hI (um_X17_init l D dA ad 1296 Hs hC.2.2 σ4 q8 s0 q9 q10 _ hT) q1069 q192 q1067 q1068 rfl 3 hdS_X17_init ⟨rfl, rfl⟩ (by constructor <;> (dsimp only; omega)) rfl hl.1 rfl (by simp only [List.map_cons, List.map_nil, List.sum_cons, List.sum_nil, va_rf_cat, vc_int, vc_long, vc_ref, vc_null]; decide) hB dX2_within_73) hI (fun _ σ11 H locs hT hI => ?_)
    refine W.eq (g2 := F0 m 76 ls [va_rf (rgR ad s2)]) rfl ?_
    refine x_astore_n (lv' := [(3, va_rf (rgR ad s2)), (0, .ref (ad 9)), (2, .ref (ad q9))]) hx hb dX2_within_76 rfl hl (Nat.le_of_ble_eq_true rfl) rfl (fun ls hl => ?_)
    exact w_77 s2 (cx + mc6) (zx + ms7) σ11 _ _ _ hT hI hB (lv_sub hl [1, 0] rfl)
  unfold U_X2_within at hT
  refine lv_aload_n hx hb dX2_within_0 rfl (lv_at hl 0 rfl) ?_
  refine x_call (x_runV (i := 9) hC hI (xst hI (Nat.le_of_ble_eq_true rfl) sl_9) rfl (um_X2_here l D dA ad Hs hC.2.2 σ _ hT) (lw_V q564 q566 qs4 q163 q567) 0 hdV_X2_here ⟨rfl, rfl⟩ (by constructor <;> (dsimp only; omega)) rfl hl.1 rfl (Nat.le_of_ble_eq_true rfl) hB dX2_within_1) hI (fun r14 σ13 H locs hT hI => ?_)
  refine W.eq (g2 := F0 m 4 ls [.int r14]) rfl ?_
  refine lv_bipush (v := 40) hx hb dX2_within_4 (by decide) ?_
  refine lv_icmp_eq (tgt := 19) hx hb dX2_within_6 (by decide) (fun hc => ?_) (fun hc => ?_)
  · replace hT := hT.1 hc
    refine lv_aload_n hx hb dX2_within_19 rfl (lv_at hl 0 rfl) ?_
    refine lv_aload_n hx hb dX2_within_20 rfl (lv_at hl 0 rfl) ?_
    refine xg2_2 (i := 9) hC hI (xst hI (Nat.le_of_ble_eq_true rfl) sl_9) q366 (fun _ h => h) dX2_within_21 ?_
    refine t_call (t_runV (i := 9) hC hI (xst hI (Nat.le_of_ble_eq_true rfl) sl_9) rfl (um_X2_opens l D dA ad Hs hC.2.2 σ13 (gI σ13 9 2) _ _ hT) (lw_V q977 q979 qs22 q163 q980) 1 hdV_X2_opens ⟨rfl, rfl⟩ (by constructor <;> (dsimp only; omega)) rfl hl.1 rfl (Nat.le_of_ble_eq_true rfl) hB dX2_within_24) hI (fun σ1 H1 locs1 hE h10 hI => hthr _ _ _ _ _ _ _ _ hE hI h10 hB) (fun _ σ15 H locs hT hI => ?_)
    refine W.eq (g2 := F0 m 27 ls []) rfl ?_
    refine lv_aload_n hx hb dX2_within_27 rfl (lv_at hl 0 rfl) ?_
    refine lv_dup hx hb dX2_within_28 rfl ?_
    refine xg2_2 (i := 9) hC hI (xst hI (Nat.le_of_ble_eq_true rfl) sl_9) q366 (fun _ h => h) dX2_within_29 ?_
    refine lv_iconst (v := 1) hx hb dX2_within_32 (by decide) ?_
    refine lv_iadd hx hb dX2_within_33 ?_
    refine xp2_2 (i := 9) (v := (gI σ15 9 2) + 1) hC hI (Nat.lt_of_lt_of_le (show _ < 1296 from (Nat.le_of_ble_eq_true rfl)) (by decide)) (xst hI (Nat.le_of_ble_eq_true rfl) sl_9) hT q366 (fun _ h => h) dX2_within_34 (fun σ17 H locs hT hI => ?_)
    refine lv_aload_n hx hb dX2_within_37 rfl (lv_at hl 0 rfl) ?_
    obtain ⟨mc20, ms21, hB, hT⟩ := hT
    refine t_call (t_runV (i := 9) hC hI (xst hI (Nat.le_of_ble_eq_true rfl) sl_9) rfl (um_X2_sum l D dA ad Hs hC.2.2 fr lo PA PF hPA hPF mc20 ms21 σ17 _ _ hT) (lw_V q1008 q1010 qs25 q163 q1011) 0 hdV_X2_sum ⟨rfl, rfl⟩ (by constructor <;> (dsimp only; omega)) rfl hl.1 rfl (Nat.le_of_ble_eq_true rfl) hB dX2_within_38) hI (fun σ1 H1 locs1 hE h10 hI => hthr _ _ _ _ _ _ _ _ hE hI h10 hB) (fun r19 σ18 H locs hT hI => ?_)
    refine W.eq (g2 := F0 m 41 ls [va_rf (rgR ad r19)]) rfl ?_
    refine x_astore_n (lv' := [(2, va_rf (rgR ad r19)), (0, .ref (ad 9)), (1, .int x1)]) hx hb dX2_within_41 rfl hl (Nat.le_of_ble_eq_true rfl) rfl (fun ls hl => ?_)
    refine x_aload_n hx hb dX2_within_42 rfl (lv_at hl 0 rfl) ?_
    refine x_astore_n (i := 3) (lv' := [(3, va_rf (rgR ad r19)), (2, va_rf (rgR ad r19)), (0, .ref (ad 9)), (1, .int x1)]) hx hb dX2_within_43 rfl hl (Nat.le_of_ble_eq_true rfl) (by simp [va_rf_cat, vc_int, vc_long, vc_ref, vc_null]) (fun ls hl => ?_)
    refine lv_iload_n hx hb dX2_within_44 rfl (lv_at hl 3 rfl) ?_
    refine lv_if_le (tgt := 77) hx hb dX2_within_45 (by decide) (fun hc => ?_) (fun hc => ?_)
    · replace hT := hT.1 hc
      exact w_77 r19 (0 + mc20) (0 + ms21) σ18 _ _ _ hT hI hB (lv_sub hl [2, 0] rfl)
    · replace hT := hT.2 hc
      refine lv_aload_n hx hb dX2_within_48 rfl (lv_at hl 2 rfl) ?_
      refine lv_bipush (v := 44) hx hb dX2_within_49 (by decide) ?_
      refine t_call (t_runV (i := 9) hC hI (xst hI (Nat.le_of_ble_eq_true rfl) sl_9) rfl (um_X2_must l D dA ad Hs hC.2.2 σ18 44 _ _ hT) (lw_V q981 q983 qs23 q163 q984) 1 hdV_X2_must ⟨rfl, rfl⟩ (by constructor <;> (dsimp only; omega)) rfl hl.1 rfl (Nat.le_of_ble_eq_true rfl) hB dX2_within_51) hI (fun σ1 H1 locs1 hE h10 hI => hthr _ _ _ _ _ _ _ _ hE hI h10 hB) (fun _ σ22 H locs hT hI => ?_)
      refine W.eq (g2 := F0 m 54 ls []) rfl ?_
      have hB := hT.1
      refine xnew14 hC hI q1065 hT dX2_within_54 (fun σ24 H hT hI => ?_)
      refine lv_dup hx hb dX2_within_57 rfl ?_
      refine lv_iload_n hx hb dX2_within_58 rfl (lv_at hl 3 rfl) ?_
      refine lv_iconst (v := 2) hx hb dX2_within_59 (by decide) ?_
      refine lv_icmp_ne (tgt := 67) hx hb dX2_within_60 (by decide) (fun hc => ?_) (fun hc => ?_)
      · replace hT := hT.1 hc
        refine lv_iconst (v := 0) hx hb dX2_within_67 (by decide) ?_
        exact w_68 r19 0 ((σ22.1) + 1) ((σ22.1) + 1) (0 + mc20 + 1) (0 + ms21 + 3) σ24 _ _ _ hT hI hB (lv_sub hl [2, 1] rfl)
      · replace hT := hT.2 hc
        refine lv_iconst (v := 1) hx hb dX2_within_63 (by decide) ?_
        refine lv_goto (tgt := 68) hx hb dX2_within_64 (by decide) ?_
        exact w_68 r19 1 ((σ22.1) + 1) ((σ22.1) + 1) (0 + mc20 + 1) (0 + ms21 + 3) σ24 _ _ _ hT hI hB (lv_sub hl [2, 1] rfl)
  · replace hT := hT.2 hc
    refine lv_aload_n hx hb dX2_within_9 rfl (lv_at hl 0 rfl) ?_
    refine lv_iconst (v := 1) hx hb dX2_within_10 (by decide) ?_
    refine lv_aload_n hx hb dX2_within_11 rfl (lv_at hl 0 rfl) ?_
    refine xg2_2 (i := 9) hC hI (xst hI (Nat.le_of_ble_eq_true rfl) sl_9) q366 (fun _ h => h) dX2_within_12 ?_
    refine x_call (x_runV (i := 9) hC hI (xst hI (Nat.le_of_ble_eq_true rfl) sl_9) rfl (um_X2_wrong l D dA ad Hs hC.2.2 σ13 1 (gI σ13 9 2) _ hT) (lw_V q576 q578 qs7 q163 q579) 2 hdV_X2_wrong ⟨rfl, rfl⟩ (by constructor <;> (dsimp only; omega)) rfl hl.1 rfl (Nat.le_of_ble_eq_true rfl) hB dX2_within_15) hI (fun r26 σ25 H locs hT hI => ?_)
    refine W.eq (g2 := F0 m 18 ls [va_rf (rgR ad r26)]) rfl ?_
    obtain ⟨h11, hT⟩ := hT
    refine W.eq (congrArg (fun z => F0 m 18 ls [z]) (xrq h11)) ?_
    exact vq_athrow hx hb dX2_within_18 (hthr _ _ _ _ _ _ _ _ hT hI (xst hI (Nat.le_of_ble_eq_true rfl) sl_10) hB)
set_option maxHeartbeats 4000000 in
set_option maxRecDepth 100000 in
theorem um_X2_looked (l : Launch) (D : va_G) (dA : Nat → ClassId) (ad : Nat → Nat) (Hs : Heap) (hA : cAd ad 1296 Hs.size) (fr lo : Nat) (PA : PTR) (PF : PTR) (hPA : MetRA l D dA ad Hs fr lo PA) (hPF : MetRF l D dA ad Hs fr lo PF) (mc ms : Nat) (σ : CS) (x1 : Int32) (K : Nat → CS → Prop) (E : CS → Prop) (hT : U_X2_looked PA PF mc ms σ x1 K E) : vq_Met l yX2_looked (ws_ yX2_looked cX2_looked 3 (some (.object "MendedThings$Value"))) ({ frames := 3 + fr, cells := mc, slots := ms, locals := 55 + lo }) (va_Pc [.ref (ad 9), .int x1] (cU D dA ad 1296 Hs σ)) (xQ (rvR ad) K (cU D dA ad 1296 Hs) (cA ad)) (xX D dA ad 1296 Hs E) mc ms (cA ad) := by
  refine xt_r (Or.inl ⟨_, rfl⟩) hA (by decide) rfl (Nat.le_of_ble_eq_true rfl) ?_
  intro p e s m args below meth c Q hC hN hret hthr hI ls hl
  have hx := hC.1.1
  have hb := hC.1.2.1
  have hB : 0 ≤ mc ∧ 0 ≤ ms := ⟨Nat.zero_le _, Nat.zero_le _⟩
  have hl : lv_has ls 3 [(0, .ref (ad 9)), (1, .int x1)] := hl
  unfold U_X2_looked at hT
  refine lv_aload_n hx hb dX2_looked_0 rfl (lv_at hl 0 rfl) ?_
  refine lv_aload_n hx hb dX2_looked_1 rfl (lv_at hl 0 rfl) ?_
  refine xg2_3 (i := 9) hC hI (xst hI (Nat.le_of_ble_eq_true rfl) sl_9) q367 (fun _ h => h) dX2_looked_2 ?_
  refine t_call (t_runV (i := 9) hC hI (xst hI (Nat.le_of_ble_eq_true rfl) sl_9) rfl (um_X2_opens l D dA ad Hs hC.2.2 σ (gI σ 9 3) _ _ hT) (lw_V q977 q979 qs22 q163 q980) 1 hdV_X2_opens ⟨rfl, rfl⟩ (by constructor <;> (dsimp only; omega)) rfl hl.1 rfl (Nat.le_of_ble_eq_true rfl) hB dX2_looked_5) hI (fun σ1 H1 locs1 hE h10 hI => hthr _ _ _ _ _ _ _ _ hE hI h10 hB) (fun _ σ1 H locs hT hI => ?_)
  refine W.eq (g2 := F0 m 8 ls []) rfl ?_
  have hB := hT.1
  refine xnew17 hC hI q1112 hT dX2_looked_8 (fun σ3 H hT hI => ?_)
  refine lv_dup hx hb dX2_looked_11 rfl ?_
  refine lv_aload_n hx hb dX2_looked_12 rfl (lv_at hl 0 rfl) ?_
  refine xg2_7 (i := 9) hC hI (xst hI (Nat.le_of_ble_eq_true rfl) sl_9) q371 (fun _ h => h) dX2_looked_13 ?_
  refine lv_iload_n hx hb dX2_looked_16 rfl (lv_at hl 1 rfl) ?_
  refine lv_aload_n hx hb dX2_looked_17 rfl (lv_at hl 0 rfl) ?_
  obtain ⟨mc6, ms7, hB, hT⟩ := hT
  refine t_call (t_runV (i := 9) hC hI (xst hI (Nat.le_of_ble_eq_true rfl) sl_9) rfl (hPA mc6 ms7 σ3 _ _ hT) (lw_V q1057 q1059 qs27 q163 q1060) 0 hdV_X2_atom ⟨rfl, rfl⟩ (by constructor <;> (dsimp only; omega)) rfl hl.1 rfl (Nat.le_of_ble_eq_true rfl) hB dX2_looked_18) hI (fun σ1 H1 locs1 hE h10 hI => hthr _ _ _ _ _ _ _ _ hE hI h10 hB) (fun r5 σ4 H locs hT hI => ?_)
  refine W.eq (g2 := F0 m 21 ls [va_rf (rgR ad r5), .int x1, .ref (ad 0), .ref (ad (σ1.1)), .ref (ad (σ1.1))]) rfl ?_
  obtain ⟨q8, hqe_q8, hT_q8⟩ := hT
  have hl_q8 := hl
  subst hqe_q8
  replace hT := hT_q8
  refine W.eq (g2 := F0 m 21 ls [.ref (ad q8), .int x1, .ref (ad 0), .ref (ad (σ1.1)), .ref (ad (σ1.1))]) rfl ?_
  have hl : lv_has ls 3 [(0, .ref (ad 9)), (1, .int x1)] := hl_q8
  refine x_call (x_runI (i := σ1.1) hC hI (um_X20_init l D dA ad 1296 Hs hC.2.2 σ4 (σ1.1) 0 x1 q8 _ hT) q1116 q195 q1114 q1115 rfl 3 hdS_X20_init ⟨rfl, rfl⟩ (by constructor <;> (dsimp only; omega)) rfl hl.1 rfl (Nat.le_of_ble_eq_true rfl) hB dX2_looked_21) hI (fun _ σ9 H locs hT hI => ?_)
  refine W.eq (g2 := F0 m 24 ls [.ref (ad (σ1.1))]) rfl ?_
  refine lv_astore_n (lv' := [(2, .ref (ad (σ1.1))), (0, .ref (ad 9)), (1, .int x1)]) hx hb dX2_looked_24 rfl hl (Nat.le_of_ble_eq_true rfl) rfl (fun ls hl => ?_)
  refine lv_aload_n hx hb dX2_looked_25 rfl (lv_at hl 1 rfl) ?_
  refine lv_dup hx hb dX2_looked_26 rfl ?_
  refine xg2_4 (i := 9) hC hI (xst hI (Nat.le_of_ble_eq_true rfl) sl_9) q368 (fun _ h => h) dX2_looked_27 ?_
  refine lv_iconst (v := 1) hx hb dX2_looked_30 (by decide) ?_
  refine lv_isub hx hb dX2_looked_31 ?_
  refine xp2_4 (i := 9) (v := (gI σ9 9 4) - 1) hC hI (Nat.lt_of_lt_of_le (show _ < 1296 from (Nat.le_of_ble_eq_true rfl)) (by decide)) (xst hI (Nat.le_of_ble_eq_true rfl) sl_9) hT q368 (fun _ h => h) dX2_looked_32 (fun σ11 H locs hT hI => ?_)
  refine lv_aload_n hx hb dX2_looked_35 rfl (lv_at hl 0 rfl) ?_
  exact hret ((σ1.1) + 1) _ _ _ _ _ _ _ hT hI hB dX2_looked_36
set_option maxHeartbeats 4000000 in
set_option maxRecDepth 100000 in
theorem um_X2_atom (l : Launch) (D : va_G) (dA : Nat → ClassId) (ad : Nat → Nat) (Hs : Heap) (hA : cAd ad 1296 Hs.size) (fr lo : Nat) (PA : PTR) (PF : PTR) (hPA : MetRA l D dA ad Hs fr lo PA) (hPF : MetRF l D dA ad Hs fr lo PF) (mc ms : Nat) (σ : CS) (K : Nat → CS → Prop) (E : CS → Prop) (hT : U_X2_atom PA PF mc ms σ K E) : vq_Met l yX2_atom (ws_ yX2_atom cX2_atom 3 (some (.object "MendedThings$Value"))) ({ frames := 12 + fr, cells := mc, slots := ms, locals := 260 + lo }) (va_Pc [.ref (ad 9)] (cU D dA ad 1296 Hs σ)) (xQ (rvR ad) K (cU D dA ad 1296 Hs) (cA ad)) (xX D dA ad 1296 Hs E) mc ms (cA ad) := by
  refine xt_r (Or.inl ⟨_, rfl⟩) hA (by decide) rfl (Nat.le_of_ble_eq_true rfl) ?_
  intro p e s m args below meth c Q hC hN hret hthr hI ls hl
  have hx := hC.1.1
  have hb := hC.1.2.1
  have hB : 0 ≤ mc ∧ 0 ≤ ms := ⟨Nat.zero_le _, Nat.zero_le _⟩
  have hl : lv_has ls 3 [(0, .ref (ad 9))] := hl
  have w_143 : ∀ (x1 : Nat) (cx : Nat) (zx : Nat) (σ : CS) (H : Heap) (locs : List Loc) (ls : Array Slot), U_X2_atom_143 PA PF mc ms K E x1 cx zx σ → xI D dA ad 1296 Hs s.heap σ H locs → (cx ≤ mc ∧ zx ≤ ms) → lv_has ls 3 [(0, .ref (ad 9)), (1, va_rf (rgR ad x1))] → W p l e ({ frames := 12 + fr, cells := mc, slots := ms, locals := 260 + lo }) s m args below meth c H locs cx zx Q (F0 m 143 ls []) := by
    intro x1 cx zx σ H locs ls hT hI hB hl
    unfold U_X2_atom_143 at hT
    refine lv_aload_n hx hb dX2_atom_143 rfl (lv_at hl 0 rfl) ?_
    refine x_aload_n hx hb dX2_atom_144 rfl (lv_at hl 1 rfl) ?_
    refine x_ldcSw (q := 1048652) hC (List.mem_of_getElem? (i := 11) rfl) dX2_atom_145 ?_
    obtain ⟨q1, hqe_q1, hT_q1⟩ := hT
    have hl_q1 := hl
    subst hqe_q1
    replace hT := hT_q1
    refine W.eq (g2 := F0 m 148 ls [.ref (ad 1048652), .ref (ad q1), .ref (ad 9)]) rfl ?_
    have hl : lv_has ls 3 [(0, .ref (ad 9)), (1, .ref (ad q1))] := hl_q1
    obtain ⟨hL, hT⟩ := hT
    refine x_call (x_runV (i := q1) hC hI hL rfl (um_J6_equals l D dA ad 1296 Hs hC.2.2 σ q1 1048652 _ hT) (lw_V q730 q731 q732 q171 q733) 1 hdV_J6_equals ⟨rfl, rfl⟩ (by constructor <;> (dsimp only; omega)) rfl hl.1 rfl (Nat.le_of_ble_eq_true rfl) hB dX2_atom_148) hI (fun r3 σ2 H locs hT hI => ?_)
    refine W.eq (g2 := F0 m 151 ls [.int r3, .ref (ad 9)]) rfl ?_
    refine lv_if_eq (tgt := 158) hx hb dX2_atom_151 (by decide) (fun hc => ?_) (fun hc => ?_)
    · replace hT := hT.1 hc
      refine lv_iconst (v := 2) hx hb dX2_atom_158 (by decide) ?_
      obtain ⟨mc6, ms7, hB, hT⟩ := hT
      refine t_call (t_runV (i := 9) hC hI (xst hI (Nat.le_of_ble_eq_true rfl) sl_9) rfl (um_X2_within l D dA ad Hs hC.2.2 fr lo PA PF hPA hPF mc6 ms7 σ2 2 _ _ hT) (lw_V q1061 q1063 qs28 q163 q1064) 1 hdV_X2_within ⟨rfl, rfl⟩ (by constructor <;> (dsimp only; omega)) rfl hl.1 rfl (Nat.le_of_ble_eq_true rfl) hB dX2_atom_159) hI (fun σ1 H1 locs1 hE h10 hI => hthr _ _ _ _ _ _ _ _ hE hI h10 hB) (fun r5 σ4 H locs hT hI => ?_)
      refine W.eq (g2 := F0 m 162 ls [va_rf (rgR ad r5)]) rfl ?_
      exact hret r5 _ _ _ _ _ _ _ hT hI hB dX2_atom_162
    · replace hT := hT.2 hc
      refine lv_iconst (v := 1) hx hb dX2_atom_154 (by decide) ?_
      refine lv_goto (tgt := 159) hx hb dX2_atom_155 (by decide) ?_
      obtain ⟨mc10, ms11, hB, hT⟩ := hT
      refine t_call (t_runV (i := 9) hC hI (xst hI (Nat.le_of_ble_eq_true rfl) sl_9) rfl (um_X2_within l D dA ad Hs hC.2.2 fr lo PA PF hPA hPF mc10 ms11 σ2 1 _ _ hT) (lw_V q1061 q1063 qs28 q163 q1064) 1 hdV_X2_within ⟨rfl, rfl⟩ (by constructor <;> (dsimp only; omega)) rfl hl.1 rfl (Nat.le_of_ble_eq_true rfl) hB dX2_atom_159) hI (fun σ1 H1 locs1 hE h10 hI => hthr _ _ _ _ _ _ _ _ hE hI h10 hB) (fun r9 σ8 H locs hT hI => ?_)
      refine W.eq (g2 := F0 m 162 ls [va_rf (rgR ad r9)]) rfl ?_
      exact hret r9 _ _ _ _ _ _ _ hT hI hB dX2_atom_162
  have w_101 : ∀ (x1 : Nat) (s0 : Int32) (cx : Nat) (zx : Nat) (σ : CS) (H : Heap) (locs : List Loc) (ls : Array Slot), U_X2_atom_101 PA PF mc ms K E x1 s0 cx zx σ → xI D dA ad 1296 Hs s.heap σ H locs → (cx ≤ mc ∧ zx ≤ ms) → lv_has ls 3 [(0, .ref (ad 9)), (1, va_rf (rgR ad x1))] → W p l e ({ frames := 12 + fr, cells := mc, slots := ms, locals := 260 + lo }) s m args below meth c H locs cx zx Q (F0 m 101 ls [.int s0]) := by
    intro x1 s0 cx zx σ H locs ls hT hI hB hl
    unfold U_X2_atom_101 at hT
    refine lv_istore_n (i := 2) (lv' := [(2, .int s0), (0, .ref (ad 9)), (1, va_rf (rgR ad x1))]) hx hb dX2_atom_101 rfl hl (Nat.le_of_ble_eq_true rfl) (by simp [va_rf_cat, vc_int, vc_long, vc_ref, vc_null]) (fun ls hl => ?_)
    refine lv_iload_n hx hb dX2_atom_102 rfl (lv_at hl 0 rfl) ?_
    refine lv_iconst (v := -1) hx hb dX2_atom_103 (by decide) ?_
    refine lv_icmp_eq (tgt := 113) hx hb dX2_atom_104 (by decide) (fun hc => ?_) (fun hc => ?_)
    · replace hT := hT.1 hc
      refine x_aload_n hx hb dX2_atom_113 rfl (lv_at hl 2 rfl) ?_
      refine x_ldcSw (q := 1048652) hC (List.mem_of_getElem? (i := 11) rfl) dX2_atom_114 ?_
      obtain ⟨q12, hqe_q12, hT_q12⟩ := hT
      have hl_q12 := hl
      subst hqe_q12
      replace hT := hT_q12
      refine W.eq (g2 := F0 m 117 ls [.ref (ad 1048652), .ref (ad q12)]) rfl ?_
      have hl : lv_has ls 3 [(2, .int s0), (0, .ref (ad 9)), (1, .ref (ad q12))] := hl_q12
      obtain ⟨hL, hT⟩ := hT
      refine x_call (x_runV (i := q12) hC hI hL rfl (um_J6_equals l D dA ad 1296 Hs hC.2.2 σ q12 1048652 _ hT) (lw_V q730 q731 q732 q171 q733) 1 hdV_J6_equals ⟨rfl, rfl⟩ (by constructor <;> (dsimp only; omega)) rfl hl.1 rfl (Nat.le_of_ble_eq_true rfl) hB dX2_atom_117) hI (fun r14 σ13 H locs hT hI => ?_)
      refine W.eq (g2 := F0 m 120 ls [.int r14]) rfl ?_
      refine lv_if_ne (tgt := 143) hx hb dX2_atom_120 (by decide) (fun hc => ?_) (fun hc => ?_)
      · replace hT := hT.1 hc
        exact w_143 (q12 + 1) cx zx σ13 _ _ _ hT hI hB (lv_sub hl [1, 2] rfl)
      · replace hT := hT.2 hc
        refine lv_aload_n hx hb dX2_atom_123 rfl (lv_at hl 2 rfl) ?_
        refine x_ldcSw (q := 1048654) hC (List.mem_of_getElem? (i := 12) rfl) dX2_atom_124 ?_
        obtain ⟨hL, hT⟩ := hT
        refine x_call (x_runV (i := q12) hC hI hL rfl (um_J6_equals l D dA ad 1296 Hs hC.2.2 σ13 q12 1048654 _ hT) (lw_V q730 q731 q732 q171 q733) 1 hdV_J6_equals ⟨rfl, rfl⟩ (by constructor <;> (dsimp only; omega)) rfl hl.1 rfl (Nat.le_of_ble_eq_true rfl) hB dX2_atom_127) hI (fun r16 σ15 H locs hT hI => ?_)
        refine W.eq (g2 := F0 m 130 ls [.int r16]) rfl ?_
        refine lv_if_ne (tgt := 143) hx hb dX2_atom_130 (by decide) (fun hc => ?_) (fun hc => ?_)
        · replace hT := hT.1 hc
          exact w_143 (q12 + 1) cx zx σ15 _ _ _ hT hI hB (lv_sub hl [1, 2] rfl)
        · replace hT := hT.2 hc
          refine lv_aload_n hx hb dX2_atom_133 rfl (lv_at hl 1 rfl) ?_
          refine lv_iconst (v := 1) hx hb dX2_atom_134 (by decide) ?_
          refine lv_aload_n hx hb dX2_atom_135 rfl (lv_at hl 1 rfl) ?_
          refine xg2_3 (i := 9) hC hI (xst hI (Nat.le_of_ble_eq_true rfl) sl_9) q367 (fun _ h => h) dX2_atom_136 ?_
          refine x_call (x_runV (i := 9) hC hI (xst hI (Nat.le_of_ble_eq_true rfl) sl_9) rfl (um_X2_wrong l D dA ad Hs hC.2.2 σ15 1 (gI σ15 9 3) _ hT) (lw_V q576 q578 qs7 q163 q579) 2 hdV_X2_wrong ⟨rfl, rfl⟩ (by constructor <;> (dsimp only; omega)) rfl hl.1 rfl (Nat.le_of_ble_eq_true rfl) hB dX2_atom_139) hI (fun r18 σ17 H locs hT hI => ?_)
          refine W.eq (g2 := F0 m 142 ls [va_rf (rgR ad r18)]) rfl ?_
          obtain ⟨h11, hT⟩ := hT
          refine W.eq (congrArg (fun z => F0 m 142 ls [z]) (xrq h11)) ?_
          exact vq_athrow hx hb dX2_atom_142 (hthr _ _ _ _ _ _ _ _ hT hI (xst hI (Nat.le_of_ble_eq_true rfl) sl_10) hB)
    · replace hT := hT.2 hc
      refine lv_aload_n hx hb dX2_atom_107 rfl (lv_at hl 1 rfl) ?_
      refine lv_iload_n hx hb dX2_atom_108 rfl (lv_at hl 0 rfl) ?_
      obtain ⟨mc21, ms22, hB, hT⟩ := hT
      refine t_call (t_runV (i := 9) hC hI (xst hI (Nat.le_of_ble_eq_true rfl) sl_9) rfl (um_X2_looked l D dA ad Hs hC.2.2 fr lo PA PF hPA hPF mc21 ms22 σ s0 _ _ hT) (lw_V q1108 q1110 qs29 q163 q1111) 1 hdV_X2_looked ⟨rfl, rfl⟩ (by constructor <;> (dsimp only; omega)) rfl hl.1 rfl (Nat.le_of_ble_eq_true rfl) hB dX2_atom_109) hI (fun σ1 H1 locs1 hE h10 hI => hthr _ _ _ _ _ _ _ _ hE hI h10 hB) (fun r20 σ19 H locs hT hI => ?_)
      refine W.eq (g2 := F0 m 112 ls [va_rf (rgR ad r20)]) rfl ?_
      exact hret r20 _ _ _ _ _ _ _ hT hI hB dX2_atom_112
  have w_80 : ∀ (x1 : Nat) (cx : Nat) (zx : Nat) (σ : CS) (H : Heap) (locs : List Loc) (ls : Array Slot), U_X2_atom_80 PA PF mc ms K E x1 cx zx σ → xI D dA ad 1296 Hs s.heap σ H locs → (cx ≤ mc ∧ zx ≤ ms) → lv_has ls 3 [(0, .ref (ad 9)), (1, va_rf (rgR ad x1))] → W p l e ({ frames := 12 + fr, cells := mc, slots := ms, locals := 260 + lo }) s m args below meth c H locs cx zx Q (F0 m 80 ls []) := by
    intro x1 cx zx σ H locs ls hT hI hB hl
    unfold U_X2_atom_80 at hT
    refine lv_aload_n hx hb dX2_atom_80 rfl (lv_at hl 0 rfl) ?_
    refine xg2_5 (i := 9) hC hI (xst hI (Nat.le_of_ble_eq_true rfl) sl_9) q369 (fun _ h => h) dX2_atom_81 ?_
    refine lv_sipush (v := 895) hx hb dX2_atom_84 (by decide) ?_
    refine lv_icmp_ne (tgt := 100) hx hb dX2_atom_87 (by decide) (fun hc => ?_) (fun hc => ?_)
    · replace hT := hT.1 hc
      refine lv_iconst (v := -1) hx hb dX2_atom_100 (by decide) ?_
      exact w_101 x1 (-1) cx zx σ _ _ _ hT hI hB (lv_sub hl [0, 1] rfl)
    · replace hT := hT.2 hc
      refine x_aload_n hx hb dX2_atom_90 rfl (lv_at hl 1 rfl) ?_
      refine x_getsN (w := .ref (ad 1048578)) hC hI (List.mem_of_getElem? (i := 3) rfl) q1106 rfl dX2_atom_91 ?_
      obtain ⟨q23, hqe_q23, hT_q23⟩ := hT
      have hl_q23 := hl
      subst hqe_q23
      replace hT := hT_q23
      refine W.eq (g2 := F0 m 94 ls [.ref (ad 1048578), .ref (ad q23)]) rfl ?_
      have hl : lv_has ls 3 [(0, .ref (ad 9)), (1, .ref (ad q23))] := hl_q23
      refine x_call (x_runSN hC hI (um_X0_find l D dA ad 1296 Hs hC.2.2 σ q23 1048578 _ hT) q759 q760 q158 q761 2 hdS_X0_find ⟨rfl, rfl⟩ (by constructor <;> (dsimp only; omega)) rfl hl.1 rfl (Nat.le_of_ble_eq_true rfl) hB dX2_atom_94) hI (fun r25 σ24 H locs hT hI => ?_)
      refine W.eq (g2 := F0 m 97 ls [.int r25]) rfl ?_
      refine lv_goto (tgt := 101) hx hb dX2_atom_97 (by decide) ?_
      exact w_101 (q23 + 1) r25 cx zx σ24 _ _ _ hT hI hB (lv_sub hl [0, 1] rfl)
  unfold U_X2_atom at hT
  refine lv_aload_n hx hb dX2_atom_0 rfl (lv_at hl 0 rfl) ?_
  refine x_call (x_runV (i := 9) hC hI (xst hI (Nat.le_of_ble_eq_true rfl) sl_9) rfl (um_X2_here l D dA ad Hs hC.2.2 σ _ hT) (lw_V q564 q566 qs4 q163 q567) 0 hdV_X2_here ⟨rfl, rfl⟩ (by constructor <;> (dsimp only; omega)) rfl hl.1 rfl (Nat.le_of_ble_eq_true rfl) hB dX2_atom_1) hI (fun r27 σ26 H locs hT hI => ?_)
  refine W.eq (g2 := F0 m 4 ls [.int r27]) rfl ?_
  refine lv_bipush (v := 40) hx hb dX2_atom_4 (by decide) ?_
  refine lv_icmp_ne (tgt := 15) hx hb dX2_atom_6 (by decide) (fun hc => ?_) (fun hc => ?_)
  · replace hT := hT.1 hc
    refine lv_aload_n hx hb dX2_atom_15 rfl (lv_at hl 0 rfl) ?_
    refine x_call (x_runV (i := 9) hC hI (xst hI (Nat.le_of_ble_eq_true rfl) sl_9) rfl (um_X2_here l D dA ad Hs hC.2.2 σ26 _ hT) (lw_V q564 q566 qs4 q163 q567) 0 hdV_X2_here ⟨rfl, rfl⟩ (by constructor <;> (dsimp only; omega)) rfl hl.1 rfl (Nat.le_of_ble_eq_true rfl) hB dX2_atom_16) hI (fun r29 σ28 H locs hT hI => ?_)
    refine W.eq (g2 := F0 m 19 ls [.int r29]) rfl ?_
    refine x_call (x_runSN hC hI (um_X0_isDigit l D dA ad 1296 Hs hC.2.2 σ28 r29 _ hT) q591 q592 q158 q593 1 hdS_X0_isDigit ⟨rfl, rfl⟩ (by constructor <;> (dsimp only; omega)) rfl hl.1 rfl (Nat.le_of_ble_eq_true rfl) hB dX2_atom_19) hI (fun r31 σ30 H locs hT hI => ?_)
    refine W.eq (g2 := F0 m 22 ls [.int r31]) rfl ?_
    refine lv_if_eq (tgt := 42) hx hb dX2_atom_22 (by decide) (fun hc => ?_) (fun hc => ?_)
    · replace hT := hT.1 hc
      refine lv_aload_n hx hb dX2_atom_42 rfl (lv_at hl 0 rfl) ?_
      obtain ⟨mc34, ms35, hB, hT⟩ := hT
      refine t_call (t_runV (i := 9) hC hI (xst hI (Nat.le_of_ble_eq_true rfl) sl_9) rfl (um_X2_word l D dA ad Hs hC.2.2 mc34 ms35 σ30 _ _ hT) (lw_V q580 q582 qs8 q163 q583) 0 hdV_X2_word ⟨rfl, rfl⟩ (by constructor <;> (dsimp only; omega)) rfl hl.1 rfl (Nat.le_of_ble_eq_true rfl) hB dX2_atom_43) hI (fun σ1 H1 locs1 hE h10 hI => hthr _ _ _ _ _ _ _ _ hE hI h10 hB) (fun r33 σ32 H locs hT hI => ?_)
      refine W.eq (g2 := F0 m 46 ls [va_rf (rgR ad r33)]) rfl ?_
      refine x_astore_n (lv' := [(1, va_rf (rgR ad r33)), (0, .ref (ad 9))]) hx hb dX2_atom_46 rfl hl (Nat.le_of_ble_eq_true rfl) rfl (fun ls hl => ?_)
      refine x_aload_n hx hb dX2_atom_47 rfl (lv_at hl 0 rfl) ?_
      refine x_getsN (w := .ref (ad 1048577)) hC hI (List.mem_of_getElem? (i := 2) rfl) q1091 rfl dX2_atom_48 ?_
      obtain ⟨q36, hqe_q36, hT_q36⟩ := hT
      have hl_q36 := hl
      subst hqe_q36
      replace hT := hT_q36
      refine W.eq (g2 := F0 m 51 ls [.ref (ad 1048577), .ref (ad q36)]) rfl ?_
      have hl : lv_has ls 3 [(1, .ref (ad q36)), (0, .ref (ad 9))] := hl_q36
      refine x_call (x_runSN hC hI (um_X0_find l D dA ad 1296 Hs hC.2.2 σ32 q36 1048577 _ hT) q759 q760 q158 q761 2 hdS_X0_find ⟨rfl, rfl⟩ (by constructor <;> (dsimp only; omega)) rfl hl.1 rfl (Nat.le_of_ble_eq_true rfl) hB dX2_atom_51) hI (fun r38 σ37 H locs hT hI => ?_)
      refine W.eq (g2 := F0 m 54 ls [.int r38]) rfl ?_
      refine lv_istore_n (lv' := [(2, .int r38), (1, .ref (ad q36)), (0, .ref (ad 9))]) hx hb dX2_atom_54 rfl hl (Nat.le_of_ble_eq_true rfl) rfl (fun ls hl => ?_)
      refine lv_iload_n hx hb dX2_atom_55 rfl (lv_at hl 0 rfl) ?_
      refine lv_iconst (v := -1) hx hb dX2_atom_56 (by decide) ?_
      refine lv_icmp_eq (tgt := 80) hx hb dX2_atom_57 (by decide) (fun hc => ?_) (fun hc => ?_)
      · replace hT := hT.1 hc
        exact w_80 (q36 + 1) (0 + mc34) (0 + ms35) σ37 _ _ _ hT hI hB (lv_sub hl [2, 1] rfl)
      · replace hT := hT.2 hc
        refine lv_aload_n hx hb dX2_atom_60 rfl (lv_at hl 2 rfl) ?_
        refine xg2_5 (i := 9) hC hI (xst hI (Nat.le_of_ble_eq_true rfl) sl_9) q369 (fun _ h => h) dX2_atom_61 ?_
        refine lv_iload_n hx hb dX2_atom_64 rfl (lv_at hl 0 rfl) ?_
        refine x_call (x_runSN hC hI (um_X0_has l D dA ad 1296 Hs hC.2.2 σ37 (gI σ37 9 5) r38 _ hT) q1093 q1094 q158 q1095 2 hdS_X0_has ⟨rfl, rfl⟩ (by constructor <;> (dsimp only; omega)) rfl hl.1 rfl (Nat.le_of_ble_eq_true rfl) hB dX2_atom_65) hI (fun r40 σ39 H locs hT hI => ?_)
        refine W.eq (g2 := F0 m 68 ls [.int r40]) rfl ?_
        refine lv_if_eq (tgt := 80) hx hb dX2_atom_68 (by decide) (fun hc => ?_) (fun hc => ?_)
        · replace hT := hT.1 hc
          exact w_80 (q36 + 1) (0 + mc34) (0 + ms35) σ39 _ _ _ hT hI hB (lv_sub hl [2, 1] rfl)
        · replace hT := hT.2 hc
          have hB := hT.1
          refine xnew16 hC hI q1096 hT dX2_atom_71 (fun σ41 H hT hI => ?_)
          refine lv_dup hx hb dX2_atom_74 rfl ?_
          refine lv_iload_n hx hb dX2_atom_75 rfl (lv_at hl 0 rfl) ?_
          refine x_call (x_runI (i := σ39.1) hC hI (um_X19_init l D dA ad 1296 Hs hC.2.2 σ41 (σ39.1) r38 _ hT) q1100 q194 q1098 q1099 rfl 1 hdS_X19_init ⟨rfl, rfl⟩ (by constructor <;> (dsimp only; omega)) rfl hl.1 rfl (Nat.le_of_ble_eq_true rfl) hB dX2_atom_76) hI (fun _ σ42 H locs hT hI => ?_)
          refine W.eq (g2 := F0 m 79 ls [.ref (ad (σ39.1))]) rfl ?_
          exact hret ((σ39.1) + 1) _ _ _ _ _ _ _ hT hI hB dX2_atom_79
    · replace hT := hT.2 hc
      have hB := hT.1
      refine xnew15 hC hI q1081 hT dX2_atom_25 (fun σ44 H hT hI => ?_)
      refine lv_dup hx hb dX2_atom_28 rfl ?_
      refine lv_aload_n hx hb dX2_atom_29 rfl (lv_at hl 0 rfl) ?_
      refine lv_iconst (v := 0) hx hb dX2_atom_30 (by decide) ?_
      refine lv_sipush (v := 9999) hx hb dX2_atom_31 (by decide) ?_
      refine t_call (t_runV (i := 9) hC hI (xst hI (Nat.le_of_ble_eq_true rfl) sl_9) rfl (um_X2_number_2 l D dA ad Hs hC.2.2 σ44 0 9999 _ _ hT) (lw_V q810 q812 qs15 q163 q813) 2 hdV_X2_number_2 ⟨rfl, rfl⟩ (by constructor <;> (dsimp only; omega)) rfl hl.1 rfl (Nat.le_of_ble_eq_true rfl) hB dX2_atom_34) hI (fun σ1 H1 locs1 hE h10 hI => hthr _ _ _ _ _ _ _ _ hE hI h10 hB) (fun r46 σ45 H locs hT hI => ?_)
      refine W.eq (g2 := F0 m 37 ls [.int r46, .ref (ad (σ30.1)), .ref (ad (σ30.1))]) rfl ?_
      refine lv_i2l hx hb dX2_atom_37 rfl ?_
      refine x_call (x_runI (i := σ30.1) hC hI (um_X18_init l D dA ad 1296 Hs hC.2.2 σ45 (σ30.1) (Int32.toInt64 r46) _ hT) q1085 q193 q1083 q1084 rfl 1 hdS_X18_init ⟨rfl, rfl⟩ (by constructor <;> (dsimp only; omega)) rfl hl.1 rfl (Nat.le_of_ble_eq_true rfl) hB dX2_atom_38) hI (fun _ σ47 H locs hT hI => ?_)
      refine W.eq (g2 := F0 m 41 ls [.ref (ad (σ30.1))]) rfl ?_
      exact hret ((σ30.1) + 1) _ _ _ _ _ _ _ hT hI hB dX2_atom_41
  · replace hT := hT.2 hc
    refine lv_aload_n hx hb dX2_atom_9 rfl (lv_at hl 0 rfl) ?_
    refine lv_iconst (v := 0) hx hb dX2_atom_10 (by decide) ?_
    obtain ⟨mc51, ms52, hB, hT⟩ := hT
    refine t_call (t_runV (i := 9) hC hI (xst hI (Nat.le_of_ble_eq_true rfl) sl_9) rfl (um_X2_within l D dA ad Hs hC.2.2 fr lo PA PF hPA hPF mc51 ms52 σ26 0 _ _ hT) (lw_V q1061 q1063 qs28 q163 q1064) 1 hdV_X2_within ⟨rfl, rfl⟩ (by constructor <;> (dsimp only; omega)) rfl hl.1 rfl (Nat.le_of_ble_eq_true rfl) hB dX2_atom_11) hI (fun σ1 H1 locs1 hE h10 hI => hthr _ _ _ _ _ _ _ _ hE hI h10 hB) (fun r50 σ49 H locs hT hI => ?_)
    refine W.eq (g2 := F0 m 14 ls [va_rf (rgR ad r50)]) rfl ?_
    exact hret r50 _ _ _ _ _ _ _ hT hI hB dX2_atom_14
set_option maxHeartbeats 4000000 in
set_option maxRecDepth 100000 in
theorem um_X2_both (l : Launch) (D : va_G) (dA : Nat → ClassId) (ad : Nat → Nat) (Hs : Heap) (hA : cAd ad 1296 Hs.size) (fr lo : Nat) (PA : PTR) (PF : PTR) (hPA : MetRA l D dA ad Hs fr lo PA) (hPF : MetRF l D dA ad Hs fr lo PF) (mc ms : Nat) (σ : CS) (K : Nat → CS → Prop) (E : CS → Prop) (hT : U_X2_both PA PF mc ms σ K E) : vq_Met l yX2_both (ws_ yX2_both cX2_both 2 (some (.object "MendedThings$Test"))) ({ frames := 8 + fr, cells := mc, slots := ms, locals := 173 + lo }) (va_Pc [.ref (ad 9)] (cU D dA ad 1296 Hs σ)) (xQ (rvR ad) K (cU D dA ad 1296 Hs) (cA ad)) (xX D dA ad 1296 Hs E) mc ms (cA ad) := by
  refine xt_r (Or.inl ⟨_, rfl⟩) hA (by decide) rfl (Nat.le_of_ble_eq_true rfl) ?_
  intro p e s m args below meth c Q hC hN hret hthr hI ls hl
  have hx := hC.1.1
  have hb := hC.1.2.1
  have hB : 0 ≤ mc ∧ 0 ≤ ms := ⟨Nat.zero_le _, Nat.zero_le _⟩
  have hl : lv_has ls 2 [(0, .ref (ad 9))] := hl
  have w_23 : ∀ (x1 : Nat) (n : Nat) (cx : Nat) (zx : Nat) (σ : CS) (H : Heap) (locs : List Loc) (ls : Array Slot), U_X2_both_23 PA PF mc ms K E x1 n cx zx σ → xI D dA ad 1296 Hs s.heap σ H locs → (cx ≤ mc ∧ zx ≤ ms) → lv_has ls 2 [(0, .ref (ad 9)), (1, va_rf (rgR ad x1))] → W p l e ({ frames := 8 + fr, cells := mc, slots := ms, locals := 173 + lo }) s m args below meth c H locs cx zx Q (F0 m 23 ls []) := by
    intro x1 n
    induction n with
    | zero => intro cx zx σ H locs ls hT; exact hT.elim
    | succ n ih =>
      intro cx zx σ H locs ls hT hI hB hl
      unfold U_X2_both_23 at hT
      refine lv_aload_n hx hb dX2_both_23 rfl (lv_at hl 0 rfl) ?_
      refine x_ldcSw (q := 1048646) hC (List.mem_of_getElem? (i := 13) rfl) dX2_both_24 ?_
      obtain ⟨mc3, ms4, hB, hT⟩ := hT
      refine t_call (t_runV (i := 9) hC hI (xst hI (Nat.le_of_ble_eq_true rfl) sl_9) rfl (um_X2_passes l D dA ad Hs hC.2.2 mc3 ms4 σ 1048646 _ _ hT) (lw_V q986 q988 qs24 q163 q989) 1 hdV_X2_passes ⟨rfl, rfl⟩ (by constructor <;> (dsimp only; omega)) rfl hl.1 rfl (Nat.le_of_ble_eq_true rfl) hB dX2_both_27) hI (fun σ1 H1 locs1 hE h10 hI => hthr _ _ _ _ _ _ _ _ hE hI h10 hB) (fun r2 σ1 H locs hT hI => ?_)
      refine W.eq (g2 := F0 m 30 ls [.int r2]) rfl ?_
      refine lv_if_eq (tgt := 50) hx hb dX2_both_30 (by decide) (fun hc => ?_) (fun hc => ?_)
      · replace hT := hT.1 hc
        refine x_aload_n hx hb dX2_both_50 rfl (lv_at hl 1 rfl) ?_
        exact hret x1 _ _ _ _ _ _ _ hT hI hB dX2_both_51
      · replace hT := hT.2 hc
        refine x_aload_n hx hb dX2_both_33 rfl (lv_at hl 1 rfl) ?_
        obtain ⟨q5, hqe_q5, hT_q5⟩ := hT
        have hl_q5 := hl
        subst hqe_q5
        replace hT := hT_q5
        refine W.eq (g2 := F0 m 34 ls [.ref (ad q5)]) rfl ?_
        have hl : lv_has ls 2 [(0, .ref (ad 9)), (1, .ref (ad q5))] := hl_q5
        obtain ⟨hL, hT⟩ := hT
        refine xgN10_0 (i := q5) hC hI hL q962 (fun _ h => h) dX2_both_34 ?_
        refine lv_aload_n hx hb dX2_both_37 rfl (lv_at hl 0 rfl) ?_
        obtain ⟨mc8, ms9, hB, hT⟩ := hT
        refine t_call (t_runV (i := 9) hC hI (xst hI (Nat.le_of_ble_eq_true rfl) sl_9) rfl (hPF mc8 ms9 σ1 _ _ hT) (lw_V q973 q975 qs21 q163 q976) 0 hdV_X2_fact ⟨rfl, rfl⟩ (by constructor <;> (dsimp only; omega)) rfl hl.1 rfl (by simp only [List.map_cons, List.map_nil, List.sum_cons, List.sum_nil, va_rf_cat, vc_int, vc_long, vc_ref, vc_null]; decide) hB dX2_both_38) hI (fun σ1 H1 locs1 hE h10 hI => hthr _ _ _ _ _ _ _ _ hE hI h10 hB) (fun r7 σ6 H locs hT hI => ?_)
        refine W.eq (g2 := F0 m 41 ls [va_rf (rgR ad r7), va_rf (rgR ad (gR σ1 q5 0))]) rfl ?_
        obtain ⟨q10, hq11, hT⟩ := hT
        refine W.eq (congrArg (fun z => F0 m 41 ls [va_rf (rgR ad r7), z]) (xrq hq11)) ?_
        obtain ⟨q12, hqe_q12, hT_q12⟩ := hT
        have hl_q12 := hl
        subst hqe_q12
        replace hT := hT_q12
        refine W.eq (g2 := F0 m 41 ls [.ref (ad q12), .ref (ad q10)]) rfl ?_
        have hl : lv_has ls 2 [(0, .ref (ad 9)), (1, .ref (ad q5))] := hl_q12
        obtain ⟨hL, hT⟩ := hT
        obtain ⟨mc15, ms16, hB, hT⟩ := hT
        refine x_call5 (x_runF (i := q10) hC hI hL rfl (um_J2_add l D dA ad 1296 Hs hC.2.2 mc15 ms16 σ6 q10 q12 _ hT) (lw_app (a := [.methodLink _ _ _, .selects _ _ _, .instanceMethod _, .initialized _]) (lw4 q848 q851 q853 q162) (lw_meth q855)) hC.2.1.2.2.2.1.2.2 1 hdF_J2_add ⟨rfl, rfl⟩ (by constructor <;> (dsimp only; omega)) rfl hl.1 rfl (Nat.le_of_ble_eq_true rfl) hB dX2_both_41) hI (fun r14 σ13 H locs hT hI => ?_)
        refine W.eq (g2 := F0 m 46 ls [.int r14]) rfl ?_
        refine lv_pop hx hb dX2_both_46 rfl ?_
        refine lv_goto (tgt := 23) hx hb dX2_both_47 (by decide) ?_
        exact ih (cx + mc3 + mc8 + mc15) (zx + ms4 + ms9 + ms16) σ13 _ _ _ hT hI hB (lv_sub hl [0, 1] rfl)
  unfold U_X2_both at hT
  have hB := hT.1
  refine xnew10 hC hI q950 hT dX2_both_0 (fun σ17 H hT hI => ?_)
  refine lv_dup hx hb dX2_both_3 rfl ?_
  refine lv_iconst (v := 1) hx hb dX2_both_4 (by decide) ?_
  obtain ⟨mc20, ms21, hB, hT⟩ := hT
  refine x_call (x_runI (i := σ.1) hC hI (um_X12_init l D dA ad 1296 Hs hC.2.2 mc20 ms21 σ17 (σ.1) 1 _ hT) q954 q185 q952 q953 rfl 1 hdS_X12_init ⟨rfl, rfl⟩ (by constructor <;> (dsimp only; omega)) rfl hl.1 rfl (Nat.le_of_ble_eq_true rfl) hB dX2_both_5) hI (fun _ σ18 H locs hT hI => ?_)
  refine W.eq (g2 := F0 m 8 ls [.ref (ad (σ.1))]) rfl ?_
  refine lv_astore_n (lv' := [(1, .ref (ad (σ.1))), (0, .ref (ad 9))]) hx hb dX2_both_8 rfl hl (Nat.le_of_ble_eq_true rfl) rfl (fun ls hl => ?_)
  refine lv_aload_n hx hb dX2_both_9 rfl (lv_at hl 0 rfl) ?_
  obtain ⟨hL, hT⟩ := hT
  refine xgN10_0 (i := σ.1) hC hI hL q962 (fun _ h => h) dX2_both_10 ?_
  refine lv_aload_n hx hb dX2_both_13 rfl (lv_at hl 1 rfl) ?_
  obtain ⟨mc24, ms25, hB, hT⟩ := hT
  refine t_call (t_runV (i := 9) hC hI (xst hI (Nat.le_of_ble_eq_true rfl) sl_9) rfl (hPF mc24 ms25 σ18 _ _ hT) (lw_V q973 q975 qs21 q163 q976) 0 hdV_X2_fact ⟨rfl, rfl⟩ (by constructor <;> (dsimp only; omega)) rfl hl.1 rfl (by simp only [List.map_cons, List.map_nil, List.sum_cons, List.sum_nil, va_rf_cat, vc_int, vc_long, vc_ref, vc_null]; decide) hB dX2_both_14) hI (fun σ1 H1 locs1 hE h10 hI => hthr _ _ _ _ _ _ _ _ hE hI h10 hB) (fun r23 σ22 H locs hT hI => ?_)
  refine W.eq (g2 := F0 m 17 ls [va_rf (rgR ad r23), va_rf (rgR ad (gR σ18 (σ.1) 0))]) rfl ?_
  obtain ⟨q26, hq27, hT⟩ := hT
  refine W.eq (congrArg (fun z => F0 m 17 ls [va_rf (rgR ad r23), z]) (xrq hq27)) ?_
  obtain ⟨q28, hqe_q28, hT_q28⟩ := hT
  have hl_q28 := hl
  subst hqe_q28
  replace hT := hT_q28
  refine W.eq (g2 := F0 m 17 ls [.ref (ad q28), .ref (ad q26)]) rfl ?_
  have hl : lv_has ls 2 [(1, .ref (ad (σ.1))), (0, .ref (ad 9))] := hl_q28
  obtain ⟨hL, hT⟩ := hT
  obtain ⟨mc31, ms32, hB, hT⟩ := hT
  refine x_call5 (x_runF (i := q26) hC hI hL rfl (um_J2_add l D dA ad 1296 Hs hC.2.2 mc31 ms32 σ22 q26 q28 _ hT) (lw_app (a := [.methodLink _ _ _, .selects _ _ _, .instanceMethod _, .initialized _]) (lw4 q848 q851 q853 q162) (lw_meth q855)) hC.2.1.2.2.2.1.2.2 1 hdF_J2_add ⟨rfl, rfl⟩ (by constructor <;> (dsimp only; omega)) rfl hl.1 rfl (Nat.le_of_ble_eq_true rfl) hB dX2_both_17) hI (fun r30 σ29 H locs hT hI => ?_)
  refine W.eq (g2 := F0 m 22 ls [.int r30]) rfl ?_
  refine lv_pop hx hb dX2_both_22 rfl ?_
  obtain ⟨n23, hT⟩ := hT
  exact w_23 ((σ.1) + 1) n23 (1 + mc20 + mc24 + mc31) (2 + ms21 + ms25 + ms32) σ29 _ _ _ hT hI hB (lv_sub hl [1, 0] rfl)
set_option maxHeartbeats 4000000 in
set_option maxRecDepth 100000 in
theorem um_X2_test (l : Launch) (D : va_G) (dA : Nat → ClassId) (ad : Nat → Nat) (Hs : Heap) (hA : cAd ad 1296 Hs.size) (fr lo : Nat) (PA : PTR) (PF : PTR) (hPA : MetRA l D dA ad Hs fr lo PA) (hPF : MetRF l D dA ad Hs fr lo PF) (mc ms : Nat) (σ : CS) (K : Nat → CS → Prop) (E : CS → Prop) (hT : U_X2_test PA PF mc ms σ K E) : vq_Met l yX2_test (ws_ yX2_test cX2_test 2 (some (.object "MendedThings$Test"))) ({ frames := 9 + fr, cells := mc, slots := ms, locals := 194 + lo }) (va_Pc [.ref (ad 9)] (cU D dA ad 1296 Hs σ)) (xQ (rvR ad) K (cU D dA ad 1296 Hs) (cA ad)) (xX D dA ad 1296 Hs E) mc ms (cA ad) := by
  refine xt_r (Or.inl ⟨_, rfl⟩) hA (by decide) rfl (Nat.le_of_ble_eq_true rfl) ?_
  intro p e s m args below meth c Q hC hN hret hthr hI ls hl
  have hx := hC.1.1
  have hb := hC.1.2.1
  have hB : 0 ≤ mc ∧ 0 ≤ ms := ⟨Nat.zero_le _, Nat.zero_le _⟩
  have hl : lv_has ls 2 [(0, .ref (ad 9))] := hl
  have w_23 : ∀ (x1 : Nat) (n : Nat) (cx : Nat) (zx : Nat) (σ : CS) (H : Heap) (locs : List Loc) (ls : Array Slot), U_X2_test_23 PA PF mc ms K E x1 n cx zx σ → xI D dA ad 1296 Hs s.heap σ H locs → (cx ≤ mc ∧ zx ≤ ms) → lv_has ls 2 [(0, .ref (ad 9)), (1, va_rf (rgR ad x1))] → W p l e ({ frames := 9 + fr, cells := mc, slots := ms, locals := 194 + lo }) s m args below meth c H locs cx zx Q (F0 m 23 ls []) := by
    intro x1 n
    induction n with
    | zero => intro cx zx σ H locs ls hT; exact hT.elim
    | succ n ih =>
      intro cx zx σ H locs ls hT hI hB hl
      unfold U_X2_test_23 at hT
      refine lv_aload_n hx hb dX2_test_23 rfl (lv_at hl 0 rfl) ?_
      refine x_ldcSw (q := 1048644) hC (List.mem_of_getElem? (i := 14) rfl) dX2_test_24 ?_
      obtain ⟨mc3, ms4, hB, hT⟩ := hT
      refine t_call (t_runV (i := 9) hC hI (xst hI (Nat.le_of_ble_eq_true rfl) sl_9) rfl (um_X2_passes l D dA ad Hs hC.2.2 mc3 ms4 σ 1048644 _ _ hT) (lw_V q986 q988 qs24 q163 q989) 1 hdV_X2_passes ⟨rfl, rfl⟩ (by constructor <;> (dsimp only; omega)) rfl hl.1 rfl (Nat.le_of_ble_eq_true rfl) hB dX2_test_27) hI (fun σ1 H1 locs1 hE h10 hI => hthr _ _ _ _ _ _ _ _ hE hI h10 hB) (fun r2 σ1 H locs hT hI => ?_)
      refine W.eq (g2 := F0 m 30 ls [.int r2]) rfl ?_
      refine lv_if_eq (tgt := 50) hx hb dX2_test_30 (by decide) (fun hc => ?_) (fun hc => ?_)
      · replace hT := hT.1 hc
        refine x_aload_n hx hb dX2_test_50 rfl (lv_at hl 1 rfl) ?_
        exact hret x1 _ _ _ _ _ _ _ hT hI hB dX2_test_51
      · replace hT := hT.2 hc
        refine x_aload_n hx hb dX2_test_33 rfl (lv_at hl 1 rfl) ?_
        obtain ⟨q5, hqe_q5, hT_q5⟩ := hT
        have hl_q5 := hl
        subst hqe_q5
        replace hT := hT_q5
        refine W.eq (g2 := F0 m 34 ls [.ref (ad q5)]) rfl ?_
        have hl : lv_has ls 2 [(0, .ref (ad 9)), (1, .ref (ad q5))] := hl_q5
        obtain ⟨hL, hT⟩ := hT
        refine xgN10_0 (i := q5) hC hI hL q962 (fun _ h => h) dX2_test_34 ?_
        refine lv_aload_n hx hb dX2_test_37 rfl (lv_at hl 0 rfl) ?_
        obtain ⟨mc8, ms9, hB, hT⟩ := hT
        refine t_call (t_runV (i := 9) hC hI (xst hI (Nat.le_of_ble_eq_true rfl) sl_9) rfl (um_X2_both l D dA ad Hs hC.2.2 fr lo PA PF hPA hPF mc8 ms9 σ1 _ _ hT) (lw_V q969 q971 qs20 q163 q972) 0 hdV_X2_both ⟨rfl, rfl⟩ (by constructor <;> (dsimp only; omega)) rfl hl.1 rfl (by simp only [List.map_cons, List.map_nil, List.sum_cons, List.sum_nil, va_rf_cat, vc_int, vc_long, vc_ref, vc_null]; decide) hB dX2_test_38) hI (fun σ1 H1 locs1 hE h10 hI => hthr _ _ _ _ _ _ _ _ hE hI h10 hB) (fun r7 σ6 H locs hT hI => ?_)
        refine W.eq (g2 := F0 m 41 ls [va_rf (rgR ad r7), va_rf (rgR ad (gR σ1 q5 0))]) rfl ?_
        obtain ⟨q10, hq11, hT⟩ := hT
        refine W.eq (congrArg (fun z => F0 m 41 ls [va_rf (rgR ad r7), z]) (xrq hq11)) ?_
        obtain ⟨q12, hqe_q12, hT_q12⟩ := hT
        have hl_q12 := hl
        subst hqe_q12
        replace hT := hT_q12
        refine W.eq (g2 := F0 m 41 ls [.ref (ad q12), .ref (ad q10)]) rfl ?_
        have hl : lv_has ls 2 [(0, .ref (ad 9)), (1, .ref (ad q5))] := hl_q12
        obtain ⟨hL, hT⟩ := hT
        obtain ⟨mc15, ms16, hB, hT⟩ := hT
        refine x_call5 (x_runF (i := q10) hC hI hL rfl (um_J2_add l D dA ad 1296 Hs hC.2.2 mc15 ms16 σ6 q10 q12 _ hT) (lw_app (a := [.methodLink _ _ _, .selects _ _ _, .instanceMethod _, .initialized _]) (lw4 q848 q851 q853 q162) (lw_meth q855)) hC.2.1.2.2.2.1.2.2 1 hdF_J2_add ⟨rfl, rfl⟩ (by constructor <;> (dsimp only; omega)) rfl hl.1 rfl (Nat.le_of_ble_eq_true rfl) hB dX2_test_41) hI (fun r14 σ13 H locs hT hI => ?_)
        refine W.eq (g2 := F0 m 46 ls [.int r14]) rfl ?_
        refine lv_pop hx hb dX2_test_46 rfl ?_
        refine lv_goto (tgt := 23) hx hb dX2_test_47 (by decide) ?_
        exact ih (cx + mc3 + mc8 + mc15) (zx + ms4 + ms9 + ms16) σ13 _ _ _ hT hI hB (lv_sub hl [0, 1] rfl)
  unfold U_X2_test at hT
  have hB := hT.1
  refine xnew10 hC hI q950 hT dX2_test_0 (fun σ17 H hT hI => ?_)
  refine lv_dup hx hb dX2_test_3 rfl ?_
  refine lv_iconst (v := 0) hx hb dX2_test_4 (by decide) ?_
  obtain ⟨mc20, ms21, hB, hT⟩ := hT
  refine x_call (x_runI (i := σ.1) hC hI (um_X12_init l D dA ad 1296 Hs hC.2.2 mc20 ms21 σ17 (σ.1) 0 _ hT) q954 q185 q952 q953 rfl 1 hdS_X12_init ⟨rfl, rfl⟩ (by constructor <;> (dsimp only; omega)) rfl hl.1 rfl (Nat.le_of_ble_eq_true rfl) hB dX2_test_5) hI (fun _ σ18 H locs hT hI => ?_)
  refine W.eq (g2 := F0 m 8 ls [.ref (ad (σ.1))]) rfl ?_
  refine lv_astore_n (lv' := [(1, .ref (ad (σ.1))), (0, .ref (ad 9))]) hx hb dX2_test_8 rfl hl (Nat.le_of_ble_eq_true rfl) rfl (fun ls hl => ?_)
  refine lv_aload_n hx hb dX2_test_9 rfl (lv_at hl 0 rfl) ?_
  obtain ⟨hL, hT⟩ := hT
  refine xgN10_0 (i := σ.1) hC hI hL q962 (fun _ h => h) dX2_test_10 ?_
  refine lv_aload_n hx hb dX2_test_13 rfl (lv_at hl 1 rfl) ?_
  obtain ⟨mc24, ms25, hB, hT⟩ := hT
  refine t_call (t_runV (i := 9) hC hI (xst hI (Nat.le_of_ble_eq_true rfl) sl_9) rfl (um_X2_both l D dA ad Hs hC.2.2 fr lo PA PF hPA hPF mc24 ms25 σ18 _ _ hT) (lw_V q969 q971 qs20 q163 q972) 0 hdV_X2_both ⟨rfl, rfl⟩ (by constructor <;> (dsimp only; omega)) rfl hl.1 rfl (by simp only [List.map_cons, List.map_nil, List.sum_cons, List.sum_nil, va_rf_cat, vc_int, vc_long, vc_ref, vc_null]; decide) hB dX2_test_14) hI (fun σ1 H1 locs1 hE h10 hI => hthr _ _ _ _ _ _ _ _ hE hI h10 hB) (fun r23 σ22 H locs hT hI => ?_)
  refine W.eq (g2 := F0 m 17 ls [va_rf (rgR ad r23), va_rf (rgR ad (gR σ18 (σ.1) 0))]) rfl ?_
  obtain ⟨q26, hq27, hT⟩ := hT
  refine W.eq (congrArg (fun z => F0 m 17 ls [va_rf (rgR ad r23), z]) (xrq hq27)) ?_
  obtain ⟨q28, hqe_q28, hT_q28⟩ := hT
  have hl_q28 := hl
  subst hqe_q28
  replace hT := hT_q28
  refine W.eq (g2 := F0 m 17 ls [.ref (ad q28), .ref (ad q26)]) rfl ?_
  have hl : lv_has ls 2 [(1, .ref (ad (σ.1))), (0, .ref (ad 9))] := hl_q28
  obtain ⟨hL, hT⟩ := hT
  obtain ⟨mc31, ms32, hB, hT⟩ := hT
  refine x_call5 (x_runF (i := q26) hC hI hL rfl (um_J2_add l D dA ad 1296 Hs hC.2.2 mc31 ms32 σ22 q26 q28 _ hT) (lw_app (a := [.methodLink _ _ _, .selects _ _ _, .instanceMethod _, .initialized _]) (lw4 q848 q851 q853 q162) (lw_meth q855)) hC.2.1.2.2.2.1.2.2 1 hdF_J2_add ⟨rfl, rfl⟩ (by constructor <;> (dsimp only; omega)) rfl hl.1 rfl (Nat.le_of_ble_eq_true rfl) hB dX2_test_17) hI (fun r30 σ29 H locs hT hI => ?_)
  refine W.eq (g2 := F0 m 22 ls [.int r30]) rfl ?_
  refine lv_pop hx hb dX2_test_22 rfl ?_
  obtain ⟨n23, hT⟩ := hT
  exact w_23 ((σ.1) + 1) n23 (1 + mc20 + mc24 + mc31) (2 + ms21 + ms25 + ms32) σ29 _ _ _ hT hI hB (lv_sub hl [1, 0] rfl)
set_option maxHeartbeats 4000000 in
set_option maxRecDepth 100000 in
theorem um_X2_fact (l : Launch) (D : va_G) (dA : Nat → ClassId) (ad : Nat → Nat) (Hs : Heap) (hA : cAd ad 1296 Hs.size) (fr lo : Nat) (PA : PTR) (PF : PTR) (hPA : MetRA l D dA ad Hs fr lo PA) (hPF : MetRF l D dA ad Hs fr lo PF) (mc ms : Nat) (σ : CS) (K : Nat → CS → Prop) (E : CS → Prop) (hT : U_X2_fact PA PF mc ms σ K E) : vq_Met l yX2_fact (ws_ yX2_fact cX2_fact 3 (some (.object "MendedThings$Test"))) ({ frames := 12 + fr, cells := mc, slots := ms, locals := 260 + lo }) (va_Pc [.ref (ad 9)] (cU D dA ad 1296 Hs σ)) (xQ (rvR ad) K (cU D dA ad 1296 Hs) (cA ad)) (xX D dA ad 1296 Hs E) mc ms (cA ad) := by
  refine xt_r (Or.inl ⟨_, rfl⟩) hA (by decide) rfl (Nat.le_of_ble_eq_true rfl) ?_
  intro p e s m args below meth c Q hC hN hret hthr hI ls hl
  have hx := hC.1.1
  have hb := hC.1.2.1
  have hB : 0 ≤ mc ∧ 0 ≤ ms := ⟨Nat.zero_le _, Nat.zero_le _⟩
  have hl : lv_has ls 3 [(0, .ref (ad 9))] := hl
  have w_148 : ∀ (x1 : Nat) (x2 : Int32) (cx : Nat) (zx : Nat) (σ : CS) (H : Heap) (locs : List Loc) (ls : Array Slot), U_X2_fact_148 PA PF mc ms K E x1 x2 cx zx σ → xI D dA ad 1296 Hs s.heap σ H locs → (cx ≤ mc ∧ zx ≤ ms) → lv_has ls 3 [(0, .ref (ad 9)), (1, va_rf (rgR ad x1)), (2, .int x2)] → W p l e ({ frames := 12 + fr, cells := mc, slots := ms, locals := 260 + lo }) s m args below meth c H locs cx zx Q (F0 m 148 ls []) := by
    intro x1 x2 cx zx σ H locs ls hT hI hB hl
    unfold U_X2_fact_148 at hT
    refine lv_aload_n hx hb dX2_fact_148 rfl (lv_at hl 0 rfl) ?_
    refine lv_dup hx hb dX2_fact_149 rfl ?_
    refine xg2_2 (i := 9) hC hI (xst hI (Nat.le_of_ble_eq_true rfl) sl_9) q366 (fun _ h => h) dX2_fact_150 ?_
    refine lv_iconst (v := 1) hx hb dX2_fact_153 (by decide) ?_
    refine lv_iadd hx hb dX2_fact_154 ?_
    refine xp2_2 (i := 9) (v := (gI σ 9 2) + 1) hC hI (Nat.lt_of_lt_of_le (show _ < 1296 from (Nat.le_of_ble_eq_true rfl)) (by decide)) (xst hI (Nat.le_of_ble_eq_true rfl) sl_9) hT q366 (fun _ h => h) dX2_fact_155 (fun σ1 H locs hT hI => ?_)
    have hB := hT.1
    refine xnew18 hC hI q1195 hT dX2_fact_158 (fun σ2 H hT hI => ?_)
    refine lv_dup hx hb dX2_fact_161 rfl ?_
    refine x_aload_n hx hb dX2_fact_162 rfl (lv_at hl 1 rfl) ?_
    refine lv_iload_n hx hb dX2_fact_163 rfl (lv_at hl 2 rfl) ?_
    refine lv_aload_n hx hb dX2_fact_164 rfl (lv_at hl 0 rfl) ?_
    obtain ⟨mc5, ms6, hB, hT⟩ := hT
    refine t_call (t_runV (i := 9) hC hI (xst hI (Nat.le_of_ble_eq_true rfl) sl_9) rfl (um_X2_sum l D dA ad Hs hC.2.2 fr lo PA PF hPA hPF mc5 ms6 σ2 _ _ hT) (lw_V q1008 q1010 qs25 q163 q1011) 0 hdV_X2_sum ⟨rfl, rfl⟩ (by constructor <;> (dsimp only; omega)) rfl hl.1 rfl (by simp only [List.map_cons, List.map_nil, List.sum_cons, List.sum_nil, va_rf_cat, vc_int, vc_long, vc_ref, vc_null]; decide) hB dX2_fact_165) hI (fun σ1 H1 locs1 hE h10 hI => hthr _ _ _ _ _ _ _ _ hE hI h10 hB) (fun r4 σ3 H locs hT hI => ?_)
    refine W.eq (g2 := F0 m 168 ls [va_rf (rgR ad r4), .int x2, va_rf (rgR ad x1), .ref (ad (σ1.1)), .ref (ad (σ1.1))]) rfl ?_
    obtain ⟨q7, hqe_q7, hT_q7⟩ := hT
    have hl_q7 := hl
    subst hqe_q7
    replace hT := hT_q7
    refine W.eq (g2 := F0 m 168 ls [va_rf (rgR ad r4), .int x2, .ref (ad q7), .ref (ad (σ1.1)), .ref (ad (σ1.1))]) rfl ?_
    have hl : lv_has ls 3 [(0, .ref (ad 9)), (1, .ref (ad q7)), (2, .int x2)] := hl_q7
    obtain ⟨q8, hqe_q8, hT_q8⟩ := hT
    have hl_q8 := hl
    subst hqe_q8
    replace hT := hT_q8
    refine W.eq (g2 := F0 m 168 ls [.ref (ad q8), .int x2, .ref (ad q7), .ref (ad (σ1.1)), .ref (ad (σ1.1))]) rfl ?_
    have hl : lv_has ls 3 [(0, .ref (ad 9)), (1, .ref (ad q7)), (2, .int x2)] := hl_q8
    refine x_call (x_runI (i := σ1.1) hC hI (um_X21_init l D dA ad 1296 Hs hC.2.2 σ3 (σ1.1) q7 x2 q8 _ hT) q1199 q196 q1197 q1198 rfl 3 hdS_X21_init ⟨rfl, rfl⟩ (by constructor <;> (dsimp only; omega)) rfl hl.1 rfl (Nat.le_of_ble_eq_true rfl) hB dX2_fact_168) hI (fun _ σ9 H locs hT hI => ?_)
    refine W.eq (g2 := F0 m 171 ls [.ref (ad (σ1.1))]) rfl ?_
    exact hret ((σ1.1) + 1) _ _ _ _ _ _ _ hT hI hB dX2_fact_171
  unfold U_X2_fact at hT
  refine lv_aload_n hx hb dX2_fact_0 rfl (lv_at hl 0 rfl) ?_
  refine x_call (x_runV (i := 9) hC hI (xst hI (Nat.le_of_ble_eq_true rfl) sl_9) rfl (um_X2_here l D dA ad Hs hC.2.2 σ _ hT) (lw_V q564 q566 qs4 q163 q567) 0 hdV_X2_here ⟨rfl, rfl⟩ (by constructor <;> (dsimp only; omega)) rfl hl.1 rfl (Nat.le_of_ble_eq_true rfl) hB dX2_fact_1) hI (fun r12 σ11 H locs hT hI => ?_)
  refine W.eq (g2 := F0 m 4 ls [.int r12]) rfl ?_
  refine lv_bipush (v := 91) hx hb dX2_fact_4 (by decide) ?_
  refine lv_icmp_ne (tgt := 50) hx hb dX2_fact_6 (by decide) (fun hc => ?_) (fun hc => ?_)
  · replace hT := hT.1 hc
    refine lv_aload_n hx hb dX2_fact_50 rfl (lv_at hl 0 rfl) ?_
    refine x_ldcSw (q := 1048648) hC (List.mem_of_getElem? (i := 9) rfl) dX2_fact_51 ?_
    obtain ⟨mc15, ms16, hB, hT⟩ := hT
    refine t_call (t_runV (i := 9) hC hI (xst hI (Nat.le_of_ble_eq_true rfl) sl_9) rfl (um_X2_passes l D dA ad Hs hC.2.2 mc15 ms16 σ11 1048648 _ _ hT) (lw_V q986 q988 qs24 q163 q989) 1 hdV_X2_passes ⟨rfl, rfl⟩ (by constructor <;> (dsimp only; omega)) rfl hl.1 rfl (Nat.le_of_ble_eq_true rfl) hB dX2_fact_54) hI (fun σ1 H1 locs1 hE h10 hI => hthr _ _ _ _ _ _ _ _ hE hI h10 hB) (fun r14 σ13 H locs hT hI => ?_)
    refine W.eq (g2 := F0 m 57 ls [.int r14]) rfl ?_
    refine lv_if_eq (tgt := 92) hx hb dX2_fact_57 (by decide) (fun hc => ?_) (fun hc => ?_)
    · replace hT := hT.1 hc
      refine lv_aload_n hx hb dX2_fact_92 rfl (lv_at hl 0 rfl) ?_
      refine x_ldcSw (q := 1048650) hC (List.mem_of_getElem? (i := 10) rfl) dX2_fact_93 ?_
      obtain ⟨mc19, ms20, hB, hT⟩ := hT
      refine t_call (t_runV (i := 9) hC hI (xst hI (Nat.le_of_ble_eq_true rfl) sl_9) rfl (um_X2_passes l D dA ad Hs hC.2.2 mc19 ms20 σ13 1048650 _ _ hT) (lw_V q986 q988 qs24 q163 q989) 1 hdV_X2_passes ⟨rfl, rfl⟩ (by constructor <;> (dsimp only; omega)) rfl hl.1 rfl (Nat.le_of_ble_eq_true rfl) hB dX2_fact_96) hI (fun σ1 H1 locs1 hE h10 hI => hthr _ _ _ _ _ _ _ _ hE hI h10 hB) (fun r18 σ17 H locs hT hI => ?_)
      refine W.eq (g2 := F0 m 99 ls [.int r18]) rfl ?_
      refine lv_if_eq (tgt := 110) hx hb dX2_fact_99 (by decide) (fun hc => ?_) (fun hc => ?_)
      · replace hT := hT.1 hc
        refine lv_aload_n hx hb dX2_fact_110 rfl (lv_at hl 0 rfl) ?_
        obtain ⟨mc23, ms24, hB, hT⟩ := hT
        refine t_call (t_runV (i := 9) hC hI (xst hI (Nat.le_of_ble_eq_true rfl) sl_9) rfl (um_X2_sum l D dA ad Hs hC.2.2 fr lo PA PF hPA hPF mc23 ms24 σ17 _ _ hT) (lw_V q1008 q1010 qs25 q163 q1011) 0 hdV_X2_sum ⟨rfl, rfl⟩ (by constructor <;> (dsimp only; omega)) rfl hl.1 rfl (Nat.le_of_ble_eq_true rfl) hB dX2_fact_111) hI (fun σ1 H1 locs1 hE h10 hI => hthr _ _ _ _ _ _ _ _ hE hI h10 hB) (fun r22 σ21 H locs hT hI => ?_)
        refine W.eq (g2 := F0 m 114 ls [va_rf (rgR ad r22)]) rfl ?_
        refine x_astore_n (lv' := [(1, va_rf (rgR ad r22)), (0, .ref (ad 9))]) hx hb dX2_fact_114 rfl hl (Nat.le_of_ble_eq_true rfl) rfl (fun ls hl => ?_)
        refine lv_aload_n hx hb dX2_fact_115 rfl (lv_at hl 1 rfl) ?_
        refine x_call (x_runV (i := 9) hC hI (xst hI (Nat.le_of_ble_eq_true rfl) sl_9) rfl (um_X2_here l D dA ad Hs hC.2.2 σ21 _ hT) (lw_V q564 q566 qs4 q163 q567) 0 hdV_X2_here ⟨rfl, rfl⟩ (by constructor <;> (dsimp only; omega)) rfl hl.1 rfl (Nat.le_of_ble_eq_true rfl) hB dX2_fact_116) hI (fun r26 σ25 H locs hT hI => ?_)
        refine W.eq (g2 := F0 m 119 ls [.int r26]) rfl ?_
        refine lv_istore_n (i := 2) (lv' := [(2, .int r26), (1, va_rf (rgR ad r22)), (0, .ref (ad 9))]) hx hb dX2_fact_119 rfl hl (Nat.le_of_ble_eq_true rfl) (by simp [va_rf_cat, vc_int, vc_long, vc_ref, vc_null]) (fun ls hl => ?_)
        refine lv_iload_n hx hb dX2_fact_120 rfl (lv_at hl 0 rfl) ?_
        refine lv_bipush (v := 60) hx hb dX2_fact_121 (by decide) ?_
        refine lv_icmp_eq (tgt := 148) hx hb dX2_fact_123 (by decide) (fun hc => ?_) (fun hc => ?_)
        · replace hT := hT.1 hc
          exact w_148 r22 r26 (0 + mc15 + mc19 + mc23) (0 + ms16 + ms20 + ms24) σ25 _ _ _ hT hI hB (lv_sub hl [2, 1, 0] rfl)
        · replace hT := hT.2 hc
          refine lv_iload_n hx hb dX2_fact_126 rfl (lv_at hl 0 rfl) ?_
          refine lv_bipush (v := 62) hx hb dX2_fact_127 (by decide) ?_
          refine lv_icmp_eq (tgt := 148) hx hb dX2_fact_129 (by decide) (fun hc => ?_) (fun hc => ?_)
          · replace hT := hT.1 hc
            exact w_148 r22 r26 (0 + mc15 + mc19 + mc23) (0 + ms16 + ms20 + ms24) σ25 _ _ _ hT hI hB (lv_sub hl [2, 1, 0] rfl)
          · replace hT := hT.2 hc
            refine lv_iload_n hx hb dX2_fact_132 rfl (lv_at hl 0 rfl) ?_
            refine lv_bipush (v := 61) hx hb dX2_fact_133 (by decide) ?_
            refine lv_icmp_eq (tgt := 148) hx hb dX2_fact_135 (by decide) (fun hc => ?_) (fun hc => ?_)
            · replace hT := hT.1 hc
              exact w_148 r22 r26 (0 + mc15 + mc19 + mc23) (0 + ms16 + ms20 + ms24) σ25 _ _ _ hT hI hB (lv_sub hl [2, 1, 0] rfl)
            · replace hT := hT.2 hc
              refine lv_aload_n hx hb dX2_fact_138 rfl (lv_at hl 2 rfl) ?_
              refine lv_iconst (v := 1) hx hb dX2_fact_139 (by decide) ?_
              refine lv_aload_n hx hb dX2_fact_140 rfl (lv_at hl 2 rfl) ?_
              refine xg2_2 (i := 9) hC hI (xst hI (Nat.le_of_ble_eq_true rfl) sl_9) q366 (fun _ h => h) dX2_fact_141 ?_
              refine x_call (x_runV (i := 9) hC hI (xst hI (Nat.le_of_ble_eq_true rfl) sl_9) rfl (um_X2_wrong l D dA ad Hs hC.2.2 σ25 1 (gI σ25 9 2) _ hT) (lw_V q576 q578 qs7 q163 q579) 2 hdV_X2_wrong ⟨rfl, rfl⟩ (by constructor <;> (dsimp only; omega)) rfl hl.1 rfl (Nat.le_of_ble_eq_true rfl) hB dX2_fact_144) hI (fun r28 σ27 H locs hT hI => ?_)
              refine W.eq (g2 := F0 m 147 ls [va_rf (rgR ad r28)]) rfl ?_
              obtain ⟨h11, hT⟩ := hT
              refine W.eq (congrArg (fun z => F0 m 147 ls [z]) (xrq h11)) ?_
              exact vq_athrow hx hb dX2_fact_147 (hthr _ _ _ _ _ _ _ _ hT hI (xst hI (Nat.le_of_ble_eq_true rfl) sl_10) hB)
      · replace hT := hT.2 hc
        have hB := hT.1
        refine xnew12 hC hI q1001 hT dX2_fact_102 (fun σ29 H hT hI => ?_)
        refine lv_dup hx hb dX2_fact_105 rfl ?_
        refine x_call (x_runIN (i := σ17.1) hC hI (um_X14_init l D dA ad 1296 Hs hC.2.2 σ29 (σ17.1) _ hT) q1005 q187 q1003 q1004 rfl 0 hdS_X14_init ⟨rfl, rfl⟩ (by constructor <;> (dsimp only; omega)) rfl hl.1 rfl (Nat.le_of_ble_eq_true rfl) hB dX2_fact_106) hI (fun _ σ30 H locs hT hI => ?_)
        refine W.eq (g2 := F0 m 109 ls [.ref (ad (σ17.1))]) rfl ?_
        exact hret ((σ17.1) + 1) _ _ _ _ _ _ _ hT hI hB dX2_fact_109
    · replace hT := hT.2 hc
      refine lv_aload_n hx hb dX2_fact_60 rfl (lv_at hl 0 rfl) ?_
      refine lv_aload_n hx hb dX2_fact_61 rfl (lv_at hl 0 rfl) ?_
      refine xg2_3 (i := 9) hC hI (xst hI (Nat.le_of_ble_eq_true rfl) sl_9) q367 (fun _ h => h) dX2_fact_62 ?_
      refine t_call (t_runV (i := 9) hC hI (xst hI (Nat.le_of_ble_eq_true rfl) sl_9) rfl (um_X2_opens l D dA ad Hs hC.2.2 σ13 (gI σ13 9 3) _ _ hT) (lw_V q977 q979 qs22 q163 q980) 1 hdV_X2_opens ⟨rfl, rfl⟩ (by constructor <;> (dsimp only; omega)) rfl hl.1 rfl (Nat.le_of_ble_eq_true rfl) hB dX2_fact_65) hI (fun σ1 H1 locs1 hE h10 hI => hthr _ _ _ _ _ _ _ _ hE hI h10 hB) (fun _ σ32 H locs hT hI => ?_)
      refine W.eq (g2 := F0 m 68 ls []) rfl ?_
      have hB := hT.1
      refine xnew11 hC hI q990 hT dX2_fact_68 (fun σ34 H hT hI => ?_)
      refine lv_dup hx hb dX2_fact_71 rfl ?_
      refine lv_aload_n hx hb dX2_fact_72 rfl (lv_at hl 0 rfl) ?_
      obtain ⟨mc37, ms38, hB, hT⟩ := hT
      refine t_call (t_runV (i := 9) hC hI (xst hI (Nat.le_of_ble_eq_true rfl) sl_9) rfl (hPF mc37 ms38 σ34 _ _ hT) (lw_V q973 q975 qs21 q163 q976) 0 hdV_X2_fact ⟨rfl, rfl⟩ (by constructor <;> (dsimp only; omega)) rfl hl.1 rfl (Nat.le_of_ble_eq_true rfl) hB dX2_fact_73) hI (fun σ1 H1 locs1 hE h10 hI => hthr _ _ _ _ _ _ _ _ hE hI h10 hB) (fun r36 σ35 H locs hT hI => ?_)
      refine W.eq (g2 := F0 m 76 ls [va_rf (rgR ad r36), .ref (ad (σ32.1)), .ref (ad (σ32.1))]) rfl ?_
      obtain ⟨q39, hqe_q39, hT_q39⟩ := hT
      have hl_q39 := hl
      subst hqe_q39
      replace hT := hT_q39
      refine W.eq (g2 := F0 m 76 ls [.ref (ad q39), .ref (ad (σ32.1)), .ref (ad (σ32.1))]) rfl ?_
      have hl : lv_has ls 3 [(0, .ref (ad 9))] := hl_q39
      refine x_call (x_runI (i := σ32.1) hC hI (um_X13_init l D dA ad 1296 Hs hC.2.2 σ35 (σ32.1) q39 _ hT) q994 q186 q992 q993 rfl 1 hdS_X13_init ⟨rfl, rfl⟩ (by constructor <;> (dsimp only; omega)) rfl hl.1 rfl (Nat.le_of_ble_eq_true rfl) hB dX2_fact_76) hI (fun _ σ40 H locs hT hI => ?_)
      refine W.eq (g2 := F0 m 79 ls [.ref (ad (σ32.1))]) rfl ?_
      refine lv_astore_n (lv' := [(1, .ref (ad (σ32.1))), (0, .ref (ad 9))]) hx hb dX2_fact_79 rfl hl (Nat.le_of_ble_eq_true rfl) rfl (fun ls hl => ?_)
      refine lv_aload_n hx hb dX2_fact_80 rfl (lv_at hl 1 rfl) ?_
      refine lv_dup hx hb dX2_fact_81 rfl ?_
      refine xg2_4 (i := 9) hC hI (xst hI (Nat.le_of_ble_eq_true rfl) sl_9) q368 (fun _ h => h) dX2_fact_82 ?_
      refine lv_iconst (v := 1) hx hb dX2_fact_85 (by decide) ?_
      refine lv_isub hx hb dX2_fact_86 ?_
      refine xp2_4 (i := 9) (v := (gI σ40 9 4) - 1) hC hI (Nat.lt_of_lt_of_le (show _ < 1296 from (Nat.le_of_ble_eq_true rfl)) (by decide)) (xst hI (Nat.le_of_ble_eq_true rfl) sl_9) hT q368 (fun _ h => h) dX2_fact_87 (fun σ42 H locs hT hI => ?_)
      refine lv_aload_n hx hb dX2_fact_90 rfl (lv_at hl 0 rfl) ?_
      exact hret ((σ32.1) + 1) _ _ _ _ _ _ _ hT hI hB dX2_fact_91
  · replace hT := hT.2 hc
    refine lv_aload_n hx hb dX2_fact_9 rfl (lv_at hl 0 rfl) ?_
    refine lv_aload_n hx hb dX2_fact_10 rfl (lv_at hl 0 rfl) ?_
    refine xg2_2 (i := 9) hC hI (xst hI (Nat.le_of_ble_eq_true rfl) sl_9) q366 (fun _ h => h) dX2_fact_11 ?_
    refine t_call (t_runV (i := 9) hC hI (xst hI (Nat.le_of_ble_eq_true rfl) sl_9) rfl (um_X2_opens l D dA ad Hs hC.2.2 σ11 (gI σ11 9 2) _ _ hT) (lw_V q977 q979 qs22 q163 q980) 1 hdV_X2_opens ⟨rfl, rfl⟩ (by constructor <;> (dsimp only; omega)) rfl hl.1 rfl (Nat.le_of_ble_eq_true rfl) hB dX2_fact_14) hI (fun σ1 H1 locs1 hE h10 hI => hthr _ _ _ _ _ _ _ _ hE hI h10 hB) (fun _ σ43 H locs hT hI => ?_)
    refine W.eq (g2 := F0 m 17 ls []) rfl ?_
    refine lv_aload_n hx hb dX2_fact_17 rfl (lv_at hl 0 rfl) ?_
    refine lv_dup hx hb dX2_fact_18 rfl ?_
    refine xg2_2 (i := 9) hC hI (xst hI (Nat.le_of_ble_eq_true rfl) sl_9) q366 (fun _ h => h) dX2_fact_19 ?_
    refine lv_iconst (v := 1) hx hb dX2_fact_22 (by decide) ?_
    refine lv_iadd hx hb dX2_fact_23 ?_
    refine xp2_2 (i := 9) (v := (gI σ43 9 2) + 1) hC hI (Nat.lt_of_lt_of_le (show _ < 1296 from (Nat.le_of_ble_eq_true rfl)) (by decide)) (xst hI (Nat.le_of_ble_eq_true rfl) sl_9) hT q366 (fun _ h => h) dX2_fact_24 (fun σ45 H locs hT hI => ?_)
    refine lv_aload_n hx hb dX2_fact_27 rfl (lv_at hl 0 rfl) ?_
    obtain ⟨mc48, ms49, hB, hT⟩ := hT
    refine t_call (t_runV (i := 9) hC hI (xst hI (Nat.le_of_ble_eq_true rfl) sl_9) rfl (um_X2_test l D dA ad Hs hC.2.2 fr lo PA PF hPA hPF mc48 ms49 σ45 _ _ hT) (lw_V q946 q948 qs19 q163 q949) 0 hdV_X2_test ⟨rfl, rfl⟩ (by constructor <;> (dsimp only; omega)) rfl hl.1 rfl (Nat.le_of_ble_eq_true rfl) hB dX2_fact_28) hI (fun σ1 H1 locs1 hE h10 hI => hthr _ _ _ _ _ _ _ _ hE hI h10 hB) (fun r47 σ46 H locs hT hI => ?_)
    refine W.eq (g2 := F0 m 31 ls [va_rf (rgR ad r47)]) rfl ?_
    refine x_astore_n (lv' := [(1, va_rf (rgR ad r47)), (0, .ref (ad 9))]) hx hb dX2_fact_31 rfl hl (Nat.le_of_ble_eq_true rfl) rfl (fun ls hl => ?_)
    refine lv_aload_n hx hb dX2_fact_32 rfl (lv_at hl 1 rfl) ?_
    refine lv_bipush (v := 93) hx hb dX2_fact_33 (by decide) ?_
    refine t_call (t_runV (i := 9) hC hI (xst hI (Nat.le_of_ble_eq_true rfl) sl_9) rfl (um_X2_must l D dA ad Hs hC.2.2 σ46 93 _ _ hT) (lw_V q981 q983 qs23 q163 q984) 1 hdV_X2_must ⟨rfl, rfl⟩ (by constructor <;> (dsimp only; omega)) rfl hl.1 rfl (Nat.le_of_ble_eq_true rfl) hB dX2_fact_35) hI (fun σ1 H1 locs1 hE h10 hI => hthr _ _ _ _ _ _ _ _ hE hI h10 hB) (fun _ σ50 H locs hT hI => ?_)
    refine W.eq (g2 := F0 m 38 ls []) rfl ?_
    refine lv_aload_n hx hb dX2_fact_38 rfl (lv_at hl 1 rfl) ?_
    refine lv_dup hx hb dX2_fact_39 rfl ?_
    refine xg2_4 (i := 9) hC hI (xst hI (Nat.le_of_ble_eq_true rfl) sl_9) q368 (fun _ h => h) dX2_fact_40 ?_
    refine lv_iconst (v := 1) hx hb dX2_fact_43 (by decide) ?_
    refine lv_isub hx hb dX2_fact_44 ?_
    refine xp2_4 (i := 9) (v := (gI σ50 9 4) - 1) hC hI (Nat.lt_of_lt_of_le (show _ < 1296 from (Nat.le_of_ble_eq_true rfl)) (by decide)) (xst hI (Nat.le_of_ble_eq_true rfl) sl_9) hT q368 (fun _ h => h) dX2_fact_45 (fun σ52 H locs hT hI => ?_)
    refine x_aload_n hx hb dX2_fact_48 rfl (lv_at hl 0 rfl) ?_
    exact hret r47 _ _ _ _ _ _ _ hT hI hB dX2_fact_49
