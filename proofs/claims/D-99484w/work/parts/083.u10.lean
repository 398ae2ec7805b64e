def U_X2_sumOnce_10 (mc ms : Nat) (K : Nat → CS → Prop) (E : CS → Prop) (x2 : Int32) (x3 : Int32) (s0 : Int32) (cx : Nat) (zx : Nat) (σ : CS) : Prop := U_X2_most σ s0 x2 (fun _ σ1 => (∀ σ3 : CS, σ3 = wI σ1 9 5 x3 → (∃ mc6 ms7 : Nat, (cx + mc6 ≤ mc ∧ zx + ms7 ≤ ms) ∧ (U_X2_sum (U_rd 12).1 (U_rd 12).2 mc6 ms7 σ3 (fun r5 σ4 => (K r5 σ4)) E)))) E
def U_X2_sumOnce (mc ms : Nat) (σ : CS) (x1 : Nat) (x2 : Int32) (x3 : Int32) (K : Nat → CS → Prop) (E : CS → Prop) : Prop := ((x1 = 0 → (U_X2_sumOnce_10 mc ms K E x2 x3 0 0 0 σ)) ∧ (¬ x1 = 0 → (U_X2_sumOnce_10 mc ms K E x2 x3 1 0 0 σ)))
def U_X2_testOnce_10 (mc ms : Nat) (K : Nat → CS → Prop) (E : CS → Prop) (x2 : Int32) (x3 : Int32) (s0 : Int32) (cx : Nat) (zx : Nat) (σ : CS) : Prop := U_X2_most σ s0 x2 (fun _ σ1 => (∀ σ3 : CS, σ3 = wI σ1 9 5 x3 → (∃ mc6 ms7 : Nat, (cx + mc6 ≤ mc ∧ zx + ms7 ≤ ms) ∧ (U_X2_test (U_rd 12).1 (U_rd 12).2 mc6 ms7 σ3 (fun r5 σ4 => (K r5 σ4)) E)))) E
def U_X2_testOnce (mc ms : Nat) (σ : CS) (x1 : Nat) (x2 : Int32) (x3 : Int32) (K : Nat → CS → Prop) (E : CS → Prop) : Prop := ((x1 = 0 → (U_X2_testOnce_10 mc ms K E x2 x3 0 0 0 σ)) ∧ (¬ x1 = 0 → (U_X2_testOnce_10 mc ms K E x2 x3 1 0 0 σ)))
def U_X2_laws_155 (mc ms : Nat) (K : Unit → CS → Prop) (E : CS → Prop) (x1 : Nat) (x2 : Int32) (x4 : Int32) (cx : Nat) (zx : Nat) (σ : CS) : Prop := ((x4 = 0 → (∃ q1, (gR σ 9 6) = q1 + 1 ∧ (gK σ q1 = some kO1 ∧ (∃ mc5 ms6 : Nat, (cx + mc5 ≤ mc ∧ zx + ms6 ≤ ms) ∧ (U_X2_testOnce mc5 ms6 σ (gR σ q1 5) x2 127 (fun r4 σ3 => (∃ q7, (gR σ 9 6) = q7 + 1 ∧ (q7 < CB ∧ (gK σ3 q7 = some kO1 ∧ (∀ σ9 : CS, σ9 = wR σ3 q7 5 r4 → (K () σ9)))))) E))))) ∧ (¬ x4 = 0 → (((x4 = 1 → (∃ q10, (gR σ 9 6) = q10 + 1 ∧ (gK σ q10 = some kO1 ∧ (∃ mc14 ms15 : Nat, (cx + mc14 ≤ mc ∧ zx + ms15 ≤ ms) ∧ (U_X2_testOnce mc14 ms15 σ (gR σ q10 6) x2 63 (fun r13 σ12 => (∃ q16, (gR σ 9 6) = q16 + 1 ∧ (q16 < CB ∧ (gK σ12 q16 = some kO1 ∧ (∀ σ18 : CS, σ18 = wR σ12 q16 6 r13 → (K () σ18)))))) E))))) ∧ (¬ x4 = 1 → (((x4 = 2 → (∃ q19, (gR σ 9 6) = q19 + 1 ∧ (gK σ q19 = some kO1 ∧ (∃ mc23 ms24 : Nat, (cx + mc23 ≤ mc ∧ zx + ms24 ≤ ms) ∧ (U_X2_sumOnce mc23 ms24 σ (gR σ q19 7) x2 191 (fun r22 σ21 => (∃ q25, (gR σ 9 6) = q25 + 1 ∧ (q25 < CB ∧ (gK σ21 q25 = some kO1 ∧ (∀ σ27 : CS, σ27 = wR σ21 q25 7 r22 → (K () σ27)))))) E))))) ∧ (¬ x4 = 2 → (((x4 = 3 → (∃ q28, (gR σ 9 6) = q28 + 1 ∧ (gK σ q28 = some kO1 ∧ (∃ mc32 ms33 : Nat, (cx + mc32 ≤ mc ∧ zx + ms33 ≤ ms) ∧ (U_X2_sumOnce mc32 ms33 σ (gR σ q28 8) x2 191 (fun r31 σ30 => (∃ q34, (gR σ 9 6) = q34 + 1 ∧ (q34 < CB ∧ (gK σ30 q34 = some kO1 ∧ (∀ σ36 : CS, σ36 = wR σ30 q34 8 r31 → (K () σ36)))))) E))))) ∧ (¬ x4 = 3 → (((x4 = 4 → (∃ q37, (gR σ 9 6) = q37 + 1 ∧ (gK σ q37 = some kO1 ∧ (∃ mc41 ms42 : Nat, (cx + mc41 ≤ mc ∧ zx + ms42 ≤ ms) ∧ (U_X2_sumOnce mc41 ms42 σ (gR σ q37 9) x2 63 (fun r40 σ39 => (∃ q43, (gR σ 9 6) = q43 + 1 ∧ (q43 < CB ∧ (gK σ39 q43 = some kO1 ∧ (∀ σ45 : CS, σ45 = wR σ39 q43 9 r40 → (K () σ45)))))) E))))) ∧ (¬ x4 = 4 → (((x4 = 5 → (U_X2_number_2 σ 0 100 (fun r47 σ46 => (∃ q48, (gR σ 9 6) = q48 + 1 ∧ (q48 < CB ∧ (gK σ46 q48 = some kO1 ∧ (∀ σ50 : CS, σ50 = wI σ46 q48 1 r47 → (K () σ50)))))) E)) ∧ (¬ x4 = 5 → (U_X2_wrong σ 1 x2 (fun r52 σ51 => (r52 = 11 ∧ E σ51))))))))))))))))))))
def U_X2_laws (mc ms : Nat) (σ : CS) (x1 : Nat) (x2 : Int32) (K : Unit → CS → Prop) (E : CS → Prop) : Prop := gK σ x1 = some kO21 ∧ (U_J6_hashCode σ x1 (fun r54 σ53 => (((r54 = -892487843 → (gK σ53 x1 = some kO21 ∧ (U_J6_equals σ53 x1 1048634 (fun r56 σ55 => (((r56 = 0 → (U_X2_laws_155 mc ms K E x1 x2 (-1) 0 0 σ55)) ∧ (¬ r56 = 0 → (U_X2_laws_155 mc ms K E x1 x2 0 0 0 σ55)))))))) ∧ (¬ r54 = -892487843 → (((r54 = 98262 → (gK σ53 x1 = some kO21 ∧ (U_J6_equals σ53 x1 1048642 (fun r58 σ57 => (((r58 = 0 → (U_X2_laws_155 mc ms K E x1 x2 (-1) 0 0 σ57)) ∧ (¬ r58 = 0 → (U_X2_laws_155 mc ms K E x1 x2 5 0 0 σ57)))))))) ∧ (¬ r54 = 98262 → (((r54 = 3143098 → (gK σ53 x1 = some kO21 ∧ (U_J6_equals σ53 x1 1048640 (fun r60 σ59 => (((r60 = 0 → (U_X2_laws_155 mc ms K E x1 x2 (-1) 0 0 σ59)) ∧ (¬ r60 = 0 → (U_X2_laws_155 mc ms K E x1 x2 3 0 0 σ59)))))))) ∧ (¬ r54 = 3143098 → (((r54 = 97196120 → (gK σ53 x1 = some kO21 ∧ (U_J6_equals σ53 x1 1048636 (fun r62 σ61 => (((r62 = 0 → (U_X2_laws_155 mc ms K E x1 x2 (-1) 0 0 σ61)) ∧ (¬ r62 = 0 → (U_X2_laws_155 mc ms K E x1 x2 1 0 0 σ61)))))))) ∧ (¬ r54 = 97196120 → (((r54 = 97440432 → (gK σ53 x1 = some kO21 ∧ (U_J6_equals σ53 x1 1048614 (fun r64 σ63 => (((r64 = 0 → (U_X2_laws_155 mc ms K E x1 x2 (-1) 0 0 σ63)) ∧ (¬ r64 = 0 → (U_X2_laws_155 mc ms K E x1 x2 4 0 0 σ63)))))))) ∧ (¬ r54 = 97440432 → (((r54 = 110124236 → (gK σ53 x1 = some kO21 ∧ (U_J6_equals σ53 x1 1048638 (fun r66 σ65 => (((r66 = 0 → (U_X2_laws_155 mc ms K E x1 x2 (-1) 0 0 σ65)) ∧ (¬ r66 = 0 → (U_X2_laws_155 mc ms K E x1 x2 2 0 0 σ65)))))))) ∧ (¬ r54 = 110124236 → (U_X2_laws_155 mc ms K E x1 x2 (-1) 0 0 σ53)))))))))))))))))))))
def U_X2_named_308 (mc ms : Nat) (K : Int32 → CS → Prop) (E : CS → Prop) (x1 : Nat) (x2 : Int32) (s0 : Int32) (cx : Nat) (zx : Nat) (σ : CS) : Prop := U_X2_most σ s0 x2 (fun _ σ1 => (∃ mc5 ms6 : Nat, (cx + mc5 ≤ mc ∧ zx + ms6 ≤ ms) ∧ (U_X2_fresh mc5 ms6 σ1 (fun r4 σ3 => (∃ mc9 ms10 : Nat, (cx + mc5 + mc9 ≤ mc ∧ zx + ms6 + ms10 ≤ ms) ∧ (U_X2_word_2 mc9 ms10 σ3 1048612 (fun _ σ7 => (∀ σ11 : CS, σ11 = wI σ7 9 5 127 → (∃ q12, (gR σ11 9 6) = q12 + 1 ∧ (gK σ11 q12 = some kO1 ∧ ((cx + mc5 + mc9 + 1 ≤ mc ∧ zx + ms6 + ms10 + 2 ≤ ms) ∧ (σ11.1 < CB ∧ (∀ σ14 : CS, σ14 = nC σ11 kO9 → (∃ mc17 ms18 : Nat, (cx + mc5 + mc9 + 1 + mc17 ≤ mc ∧ zx + ms6 + ms10 + 2 + ms18 ≤ ms) ∧ (U_X2_test (U_rd 12).1 (U_rd 12).2 mc17 ms18 σ14 (fun r16 σ15 => (∃ q19, r4 = q19 + 1 ∧ (∃ q20, r16 = q20 + 1 ∧ (U_X10_init σ15 (σ11.1) q19 q20 (fun _ σ21 => (∃ q23, (gR σ11 q12 4) = q23 + 1 ∧ (gK σ21 q23 = some kO20 ∧ (∃ mc27 ms28 : Nat, (cx + mc5 + mc9 + 1 + mc17 + mc27 ≤ mc ∧ zx + ms6 + ms10 + 2 + ms18 + ms28 ≤ ms) ∧ (U_J2_add mc27 ms28 σ21 q23 (σ11.1) (fun r26 σ25 => (K 1 σ25))))))))))) E))))))))) E))) E))) E
def U_X2_named_230 (mc ms : Nat) (K : Int32 → CS → Prop) (E : CS → Prop) (x1 : Nat) (x2 : Int32) (s0 : Int32) (cx : Nat) (zx : Nat) (σ : CS) : Prop := U_X2_most σ s0 x2 (fun _ σ29 => (∃ mc33 ms34 : Nat, (cx + mc33 ≤ mc ∧ zx + ms34 ≤ ms) ∧ (U_X2_fresh mc33 ms34 σ29 (fun r32 σ31 => (∃ mc37 ms38 : Nat, (cx + mc33 + mc37 ≤ mc ∧ zx + ms34 + ms38 ≤ ms) ∧ (U_X2_number mc37 ms38 σ31 1048606 0 9 (fun r36 σ35 => (∃ q39, (gR σ35 9 6) = q39 + 1 ∧ (gK σ35 q39 = some kO1 ∧ ((cx + mc33 + mc37 + 1 ≤ mc ∧ zx + ms34 + ms38 + 3 ≤ ms) ∧ (σ35.1 < CB ∧ (∀ σ41 : CS, σ41 = nC σ35 kO8 → (∃ mc44 ms45 : Nat, (cx + mc33 + mc37 + 1 + mc44 ≤ mc ∧ zx + ms34 + ms38 + 3 + ms45 ≤ ms) ∧ (U_X2_number mc44 ms45 σ41 1048630 1 24 (fun r43 σ42 => (∃ q46, r32 = q46 + 1 ∧ (U_X9_init σ42 (σ35.1) q46 r36 r43 (fun _ σ47 => (∃ q49, (gR σ35 q39 3) = q49 + 1 ∧ (gK σ47 q49 = some kO20 ∧ (∃ mc53 ms54 : Nat, (cx + mc33 + mc37 + 1 + mc44 + mc53 ≤ mc ∧ zx + ms34 + ms38 + 3 + ms45 + ms54 ≤ ms) ∧ (U_J2_add mc53 ms54 σ47 q49 (σ35.1) (fun r52 σ51 => (K 1 σ51)))))))))) E)))))))) E))) E))) E
def U_X2_named_139 (mc ms : Nat) (K : Int32 → CS → Prop) (E : CS → Prop) (x1 : Nat) (x2 : Int32) (s0 : Int32) (cx : Nat) (zx : Nat) (σ : CS) : Prop := U_X2_most σ s0 x2 (fun _ σ55 => (∃ mc59 ms60 : Nat, (cx + mc59 ≤ mc ∧ zx + ms60 ≤ ms) ∧ (U_X2_fresh mc59 ms60 σ55 (fun r58 σ57 => (∃ mc63 ms64 : Nat, (cx + mc59 + mc63 ≤ mc ∧ zx + ms60 + ms64 ≤ ms) ∧ (U_X2_number mc63 ms64 σ57 1048592 0 99 (fun r62 σ61 => (∃ mc67 ms68 : Nat, (cx + mc59 + mc63 + mc67 ≤ mc ∧ zx + ms60 + ms64 + ms68 ≤ ms) ∧ (U_X2_number mc67 ms68 σ61 1048594 0 99 (fun r66 σ65 => (∃ q69, (gR σ65 9 6) = q69 + 1 ∧ (gK σ65 q69 = some kO1 ∧ ((cx + mc59 + mc63 + mc67 + 1 ≤ mc ∧ zx + ms60 + ms64 + ms68 + 4 ≤ ms) ∧ (σ65.1 < CB ∧ (∀ σ71 : CS, σ71 = nC σ65 kO7 → (∃ mc74 ms75 : Nat, (cx + mc59 + mc63 + mc67 + 1 + mc74 ≤ mc ∧ zx + ms60 + ms64 + ms68 + 4 + ms75 ≤ ms) ∧ (U_X2_number mc74 ms75 σ71 1048596 0 9 (fun r73 σ72 => (∃ q76, r58 = q76 + 1 ∧ (U_X8_init σ72 (σ65.1) q76 r62 r66 r73 (fun _ σ77 => (∃ q79, (gR σ65 q69 2) = q79 + 1 ∧ (gK σ77 q79 = some kO20 ∧ (∃ mc83 ms84 : Nat, (cx + mc59 + mc63 + mc67 + 1 + mc74 + mc83 ≤ mc ∧ zx + ms60 + ms64 + ms68 + 4 + ms75 + ms84 ≤ ms) ∧ (U_J2_add mc83 ms84 σ77 q79 (σ65.1) (fun r82 σ81 => (K 1 σ81)))))))))) E)))))))) E))) E))) E))) E
def U_X2_named_86 (mc ms : Nat) (K : Int32 → CS → Prop) (E : CS → Prop) (x1 : Nat) (x2 : Int32) (x4 : Int32) (cx : Nat) (zx : Nat) (σ : CS) : Prop := ((x4 = 0 → (∃ q85, (gR σ 9 6) = q85 + 1 ∧ (gK σ q85 = some kO1 ∧ (∃ q87, (gR σ q85 2) = q87 + 1 ∧ (gK σ q87 = some kO20 ∧ (U_J2_size σ q87 (fun r90 σ89 => (((¬ r90 = 8 → (U_X2_named_139 mc ms K E x1 x2 0 cx zx σ89)) ∧ (r90 = 8 → (U_X2_named_139 mc ms K E x1 x2 1 cx zx σ89))))))))))) ∧ (¬ x4 = 0 → (((x4 = 1 → (∃ q91, (gR σ 9 6) = q91 + 1 ∧ (gK σ q91 = some kO1 ∧ (∃ q93, (gR σ q91 3) = q93 + 1 ∧ (gK σ q93 = some kO20 ∧ (U_J2_size σ q93 (fun r96 σ95 => (((¬ r96 = 4 → (U_X2_named_230 mc ms K E x1 x2 0 cx zx σ95)) ∧ (r96 = 4 → (U_X2_named_230 mc ms K E x1 x2 1 cx zx σ95))))))))))) ∧ (¬ x4 = 1 → (((x4 = 2 → (∃ q97, (gR σ 9 6) = q97 + 1 ∧ (gK σ q97 = some kO1 ∧ (∃ q99, (gR σ q97 4) = q99 + 1 ∧ (gK σ q99 = some kO20 ∧ (U_J2_size σ q99 (fun r102 σ101 => (((¬ r102 = 5 → (U_X2_named_308 mc ms K E x1 x2 0 cx zx σ101)) ∧ (r102 = 5 → (U_X2_named_308 mc ms K E x1 x2 1 cx zx σ101))))))))))) ∧ (¬ x4 = 2 → (K 0 σ)))))))))
def U_X2_named (mc ms : Nat) (σ : CS) (x1 : Nat) (x2 : Int32) (K : Int32 → CS → Prop) (E : CS → Prop) : Prop := gK σ x1 = some kO21 ∧ (U_J6_hashCode σ x1 (fun r104 σ103 => (((r104 = -1077737861 → (gK σ103 x1 = some kO21 ∧ (U_J6_equals σ103 x1 1048628 (fun r106 σ105 => (((r106 = 0 → (U_X2_named_86 mc ms K E x1 x2 (-1) 0 0 σ105)) ∧ (¬ r106 = 0 → (U_X2_named_86 mc ms K E x1 x2 1 0 0 σ105)))))))) ∧ (¬ r104 = -1077737861 → (((r104 = 110331118 → (gK σ103 x1 = some kO21 ∧ (U_J6_equals σ103 x1 1048626 (fun r108 σ107 => (((r108 = 0 → (U_X2_named_86 mc ms K E x1 x2 (-1) 0 0 σ107)) ∧ (¬ r108 = 0 → (U_X2_named_86 mc ms K E x1 x2 0 0 0 σ107)))))))) ∧ (¬ r104 = 110331118 → (((r104 = 110628630 → (gK σ103 x1 = some kO21 ∧ (U_J6_equals σ103 x1 1048632 (fun r110 σ109 => (((r110 = 0 → (U_X2_named_86 mc ms K E x1 x2 (-1) 0 0 σ109)) ∧ (¬ r110 = 0 → (U_X2_named_86 mc ms K E x1 x2 2 0 0 σ109)))))))) ∧ (¬ r104 = 110628630 → (U_X2_named_86 mc ms K E x1 x2 (-1) 0 0 σ103))))))))))))
def U_X2_all_52 (mc ms : Nat) (K : Nat → CS → Prop) (E : CS → Prop) (k26 : Nat → Nat → CS → Prop) (s0 : Int32) (cx : Nat) (zx : Nat) (σ : CS) : Prop := U_X2_most σ s0 (gI σ 9 2) (fun _ σ1 => (∃ q3, (gR σ1 9 6) = q3 + 1 ∧ (gK σ1 q3 = some kO1 ∧ (∃ q5, (gR σ1 9 6) = q5 + 1 ∧ (q5 < CB ∧ (gK σ1 q5 = some kO1 ∧ (∀ σ7 : CS, σ7 = wI σ1 q5 0 ((gI σ1 q3 0) + 1) → (∃ mc10 ms11 : Nat, (cx + mc10 ≤ mc ∧ zx + ms11 ≤ ms) ∧ (U_X2_word mc10 ms11 σ7 (fun r9 σ8 => (∃ q12, r9 = q12 + 1 ∧ (∃ mc15 ms16 : Nat, (cx + mc10 + mc15 ≤ mc ∧ zx + ms11 + ms16 ≤ ms) ∧ (U_X2_named mc15 ms16 σ8 q12 (gI σ8 9 3) (fun r14 σ13 => (((¬ r14 = 0 → (U_X2_must σ13 59 (fun _ σ17 => (k26 (cx + mc10 + mc15) (zx + ms11 + ms16) σ17)) E)) ∧ (r14 = 0 → (∃ mc21 ms22 : Nat, (cx + mc10 + mc15 + mc21 ≤ mc ∧ zx + ms11 + ms16 + ms22 ≤ ms) ∧ (U_X2_laws mc21 ms22 σ13 q12 (gI σ13 9 3) (fun _ σ19 => (U_X2_must σ19 59 (fun _ σ23 => (k26 (cx + mc10 + mc15 + mc21) (zx + ms11 + ms16 + ms22) σ23)) E)) E)))))) E)))) E))))))))) E
def U_X2_all_26 (mc ms : Nat) (K : Nat → CS → Prop) (E : CS → Prop) : Nat → Nat → Nat → CS → Prop
  | 0 => fun _ _ _ => False
  | n + 1 => fun cx zx σ => U_X2_here σ (fun r26 σ25 => (((r26 = (-1) → (K (gR σ25 9 6) σ25)) ∧ (¬ r26 = (-1) → (∃ q27, (gR σ25 9 6) = q27 + 1 ∧ (gK σ25 q27 = some kO1 ∧ (((¬ (gI σ25 q27 0) = (80 : Int32) → (U_X2_all_52 mc ms K E (U_X2_all_26 mc ms K E n) 0 cx zx σ25)) ∧ ((gI σ25 q27 0) = (80 : Int32) → (U_X2_all_52 mc ms K E (U_X2_all_26 mc ms K E n) 1 cx zx σ25))))))))))
def U_X2_all (mc ms : Nat) (σ : CS) (x1 : Int32) (K : Nat → CS → Prop) (E : CS → Prop) : Prop := (1 ≤ mc ∧ 10 ≤ ms) ∧ (σ.1 < CB ∧ (∀ σ29 : CS, σ29 = nC σ kO1 → (∃ mc32 ms33 : Nat, (1 + mc32 ≤ mc ∧ 10 + ms33 ≤ ms) ∧ (U_X1_init mc32 ms33 σ29 (σ.1) (fun _ σ30 => (∀ σ34 : CS, σ34 = wR σ30 9 6 ((σ.1) + 1) → (∀ σ35 : CS, σ35 = wI σ34 9 1 x1 → (∀ σ36 : CS, σ36 = wI σ35 9 2 0 → (∀ σ37 : CS, σ37 = wI σ36 9 4 0 → (∃ n26, U_X2_all_26 mc ms K E n26 (1 + mc32) (10 + ms33) σ37))))))))))
def U_X2_question_82 (mc ms : Nat) (K : Nat → CS → Prop) (E : CS → Prop) (s0 : Nat) (cx : Nat) (zx : Nat) (σ : CS) : Prop := U_X2_here σ (fun r2 σ1 => (((r2 = (-1) → (K s0 σ1)) ∧ (¬ r2 = (-1) → (U_X2_wrong σ1 1 (gI σ1 9 2) (fun r4 σ3 => (r4 = 11 ∧ E σ3)))))))
def U_X2_question (mc ms : Nat) (σ : CS) (x1 : Int32) (K : Nat → CS → Prop) (E : CS → Prop) : Prop := ∀ σ5 : CS, σ5 = wI σ 9 1 x1 → (∀ σ6 : CS, σ6 = wI σ5 9 2 0 → (∀ σ7 : CS, σ7 = wI σ6 9 4 0 → (∀ σ8 : CS, σ8 = wI σ7 9 5 895 → (∃ mc11 ms12 : Nat, (0 + mc11 ≤ mc ∧ 0 + ms12 ≤ ms) ∧ (U_X2_word mc11 ms12 σ8 (fun r10 σ9 => (∃ q13, r10 = q13 + 1 ∧ (U_X0_find σ9 q13 1048579 (fun r15 σ14 => (((¬ r15 = (-1) → (((3 ≤ r15 → ((0 + mc11 + 1 ≤ mc ∧ 0 + ms12 + 5 ≤ ms) ∧ (σ14.1 < CB ∧ (∀ σ16 : CS, σ16 = nC σ14 kO19 → (∃ mc19 ms20 : Nat, (0 + mc11 + 1 + mc19 ≤ mc ∧ 0 + ms12 + 5 + ms20 ≤ ms) ∧ (U_X2_sum (U_rd 12).1 (U_rd 12).2 mc19 ms20 σ16 (fun r18 σ17 => (U_X22_init σ17 (σ14.1) r15 0 r18 (fun _ σ21 => (U_X2_question_82 mc ms K E ((σ14.1) + 1) (0 + mc11 + 1 + mc19) (0 + ms12 + 5 + ms20) σ21)))) E)))))) ∧ (¬ 3 ≤ r15 → ((0 + mc11 + 1 ≤ mc ∧ 0 + ms12 + 5 ≤ ms) ∧ (σ14.1 < CB ∧ (∀ σ23 : CS, σ23 = nC σ14 kO19 → (∃ mc26 ms27 : Nat, (0 + mc11 + 1 + mc26 ≤ mc ∧ 0 + ms12 + 5 + ms27 ≤ ms) ∧ (U_X2_test (U_rd 12).1 (U_rd 12).2 mc26 ms27 σ23 (fun r25 σ24 => (U_X22_init σ24 (σ14.1) r15 r25 0 (fun _ σ28 => (U_X2_question_82 mc ms K E ((σ14.1) + 1) (0 + mc11 + 1 + mc26) (0 + ms12 + 5 + ms27) σ28)))) E))))))))) ∧ (r15 = (-1) → (U_X2_wrong σ14 1 (gI σ14 9 3) (fun r31 σ30 => (r31 = 11 ∧ E σ30)))))))))) E)))))
theorem hdS_X10_init : yX10_init.cls ≠ "java/lang/invoke/MethodHandle" ∧ yX10_init.cls ≠ "java/lang/invoke/VarHandle" ∧ (parseMethodDescriptor yX10_init.desc).map (fun d => d.parameters.length) = some 2 := by decide +kernel
theorem hdS_X1_init : yX1_init.cls ≠ "java/lang/invoke/MethodHandle" ∧ yX1_init.cls ≠ "java/lang/invoke/VarHandle" ∧ (parseMethodDescriptor yX1_init.desc).map (fun d => d.parameters.length) = some 0 := by decide +kernel
theorem hdS_X22_init : yX22_init.cls ≠ "java/lang/invoke/MethodHandle" ∧ yX22_init.cls ≠ "java/lang/invoke/VarHandle" ∧ (parseMethodDescriptor yX22_init.desc).map (fun d => d.parameters.length) = some 3 := by decide +kernel
theorem hdS_X8_init : yX8_init.cls ≠ "java/lang/invoke/MethodHandle" ∧ yX8_init.cls ≠ "java/lang/invoke/VarHandle" ∧ (parseMethodDescriptor yX8_init.desc).map (fun d => d.parameters.length) = some 4 := by decide +kernel
theorem hdS_X9_init : yX9_init.cls ≠ "java/lang/invoke/MethodHandle" ∧ yX9_init.cls ≠ "java/lang/invoke/VarHandle" ∧ (parseMethodDescriptor yX9_init.desc).map (fun d => d.parameters.length) = some 3 := by decide +kernel
theorem hdV_J6_hashCode : yJ6_hashCode.cls = RJ6 ∧ yJ6_hashCode.cls ≠ "java/lang/invoke/MethodHandle" ∧ yJ6_hashCode.cls ≠ "java/lang/invoke/VarHandle" ∧ (parseMethodDescriptor yJ6_hashCode.desc).map (fun d => d.parameters.length) = some 0 := by decide +kernel
theorem hdV_X2_fresh : yX2_fresh.cls = RX2 ∧ yX2_fresh.cls ≠ "java/lang/invoke/MethodHandle" ∧ yX2_fresh.cls ≠ "java/lang/invoke/VarHandle" ∧ (parseMethodDescriptor yX2_fresh.desc).map (fun d => d.parameters.length) = some 0 := by decide +kernel
theorem hdV_X2_laws : yX2_laws.cls = RX2 ∧ yX2_laws.cls ≠ "java/lang/invoke/MethodHandle" ∧ yX2_laws.cls ≠ "java/lang/invoke/VarHandle" ∧ (parseMethodDescriptor yX2_laws.desc).map (fun d => d.parameters.length) = some 2 := by decide +kernel
theorem hdV_X2_most : yX2_most.cls = RX2 ∧ yX2_most.cls ≠ "java/lang/invoke/MethodHandle" ∧ yX2_most.cls ≠ "java/lang/invoke/VarHandle" ∧ (parseMethodDescriptor yX2_most.desc).map (fun d => d.parameters.length) = some 2 := by decide +kernel
theorem hdV_X2_named : yX2_named.cls = RX2 ∧ yX2_named.cls ≠ "java/lang/invoke/MethodHandle" ∧ yX2_named.cls ≠ "java/lang/invoke/VarHandle" ∧ (parseMethodDescriptor yX2_named.desc).map (fun d => d.parameters.length) = some 2 := by decide +kernel
theorem hdV_X2_number : yX2_number.cls = RX2 ∧ yX2_number.cls ≠ "java/lang/invoke/MethodHandle" ∧ yX2_number.cls ≠ "java/lang/invoke/VarHandle" ∧ (parseMethodDescriptor yX2_number.desc).map (fun d => d.parameters.length) = some 3 := by decide +kernel
theorem hdV_X2_sumOnce : yX2_sumOnce.cls = RX2 ∧ yX2_sumOnce.cls ≠ "java/lang/invoke/MethodHandle" ∧ yX2_sumOnce.cls ≠ "java/lang/invoke/VarHandle" ∧ (parseMethodDescriptor yX2_sumOnce.desc).map (fun d => d.parameters.length) = some 3 := by decide +kernel
theorem hdV_X2_testOnce : yX2_testOnce.cls = RX2 ∧ yX2_testOnce.cls ≠ "java/lang/invoke/MethodHandle" ∧ yX2_testOnce.cls ≠ "java/lang/invoke/VarHandle" ∧ (parseMethodDescriptor yX2_testOnce.desc).map (fun d => d.parameters.length) = some 3 := by decide +kernel
set_option maxHeartbeats 4000000 in
set_option maxRecDepth 100000 in
theorem um_X2_sumOnce (l : Launch) (D : va_G) (dA : Nat → ClassId) (ad : Nat → Nat) (Hs : Heap) (hA : cAd ad 1296 Hs.size) (mc ms : Nat) (σ : CS) (x1 : Nat) (x2 : Int32) (x3 : Int32) (K : Nat → CS → Prop) (E : CS → Prop) (hT : U_X2_sumOnce mc ms σ x1 x2 x3 K E) : vq_Met l yX2_sumOnce (ws_ yX2_sumOnce cX2_sumOnce 4 (some (.object "MendedThings$Value"))) ({ frames := 155, cells := mc, slots := ms, locals := 3357 }) (va_Pc [.ref (ad 9), va_rf (rgR ad x1), .int x2, .int x3] (cU D dA ad 1296 Hs σ)) (xQ (rvR ad) K (cU D dA ad 1296 Hs) (cA ad)) (xX D dA ad 1296 Hs E) mc ms (cA ad) := by
  refine xt_r (Or.inl ⟨_, rfl⟩) hA (by decide) rfl (by cases x1 <;> exact (Nat.le_of_ble_eq_true rfl)) ?_
  intro p e s m args below meth c Q hC hN hret hthr hI ls hl
  have hx := hC.1.1
  have hb := hC.1.2.1
  have hB : 0 ≤ mc ∧ 0 ≤ ms := ⟨Nat.zero_le _, Nat.zero_le _⟩
  have hl : lv_has ls 4 [(0, .ref (ad 9)), (1, va_rf (rgR ad x1)), (2, .int x2), (3, .int x3)] := by cases x1 <;> exact hl
  have w_10 : ∀ (x2 : Int32) (x3 : Int32) (s0 : Int32) (cx : Nat) (zx : Nat) (σ : CS) (H : Heap) (locs : List Loc) (ls : Array Slot), U_X2_sumOnce_10 mc ms K E x2 x3 s0 cx zx σ → xI D dA ad 1296 Hs s.heap σ H locs → (cx ≤ mc ∧ zx ≤ ms) → lv_has ls 4 [(0, .ref (ad 9)), (2, .int x2), (3, .int x3)] → W p l e ({ frames := 155, cells := mc, slots := ms, locals := 3357 }) s m args below meth c H locs cx zx Q (F0 m 10 ls [.int s0, .ref (ad 9)]) := by
    intro x2 x3 s0 cx zx σ H locs ls hT hI hB hl
    unfold U_X2_sumOnce_10 at hT
    refine lv_iload_n hx hb dX2_sumOnce_10 rfl (lv_at hl 1 rfl) ?_
    refine t_call (t_runV (i := 9) hC hI (xst hI (Nat.le_of_ble_eq_true rfl) sl_9) rfl (um_X2_most l D dA ad Hs hC.2.2 σ s0 x2 _ _ hT) (lw_V q572 q574 qs6 q163 q575) 2 hdV_X2_most ⟨rfl, rfl⟩ ⟨Nat.le_of_ble_eq_true rfl, Nat.le_of_ble_eq_true rfl⟩ rfl hl.1 rfl (Nat.le_of_ble_eq_true rfl) hB dX2_sumOnce_11) hI (fun σ1 H1 locs1 hE h10 hI => hthr _ _ _ _ _ _ _ _ hE hI h10 hB) (fun _ σ1 H locs hT hI => ?_)
    refine W.eq (g2 := F0 m 14 ls []) rfl ?_
    refine lv_aload_n hx hb dX2_sumOnce_14 rfl (lv_at hl 0 rfl) ?_
    refine lv_iload_n hx hb dX2_sumOnce_15 rfl (lv_at hl 2 rfl) ?_
    refine xp2_5 (i := 9) (v := x3) hC hI (Nat.lt_of_lt_of_le (show _ < 1296 from (Nat.le_of_ble_eq_true rfl)) (by decide)) (xst hI (Nat.le_of_ble_eq_true rfl) sl_9) hT q369 (fun _ h => h) dX2_sumOnce_16 (fun σ3 H locs hT hI => ?_)
    refine lv_aload_n hx hb dX2_sumOnce_19 rfl (lv_at hl 0 rfl) ?_
    obtain ⟨mc6, ms7, hB, hT⟩ := hT
    refine t_call (t_runV (i := 9) hC hI (xst hI (Nat.le_of_ble_eq_true rfl) sl_9) rfl (um_X2_sum l D dA ad Hs hC.2.2 144 3120 _ _ (rd_AF l D dA ad Hs hC.2.2 12).1 (rd_AF l D dA ad Hs hC.2.2 12).2 mc6 ms7 σ3 _ _ hT) (lw_V q1008 q1010 qs25 q163 q1011) 0 hdV_X2_sum ⟨rfl, rfl⟩ ⟨Nat.le_of_ble_eq_true rfl, Nat.le_of_ble_eq_true rfl⟩ rfl hl.1 rfl (Nat.le_of_ble_eq_true rfl) hB dX2_sumOnce_20) hI (fun σ1 H1 locs1 hE h10 hI => hthr _ _ _ _ _ _ _ _ hE hI h10 hB) (fun r5 σ4 H locs hT hI => ?_)
    refine W.eq (g2 := F0 m 23 ls [va_rf (rgR ad r5)]) rfl ?_
    exact hret r5 _ _ _ _ _ _ _ hT hI hB dX2_sumOnce_23
  unfold U_X2_sumOnce at hT
  refine lv_aload_n hx hb dX2_sumOnce_0 rfl (lv_at hl 0 rfl) ?_
  refine x_aload_n hx hb dX2_sumOnce_1 rfl (lv_at hl 1 rfl) ?_
  refine x_ifnull (tgt := 9) hx hb dX2_sumOnce_2 (by decide) (fun hc => ?_) (fun hc => ?_)
  · replace hT := hT.1 hc
    refine lv_iconst (v := 0) hx hb dX2_sumOnce_9 (by decide) ?_
    exact w_10 x2 x3 0 0 0 σ _ _ _ hT hI hB (lv_sub hl [0, 2, 3] rfl)
  · replace hT := hT.2 hc
    refine lv_iconst (v := 1) hx hb dX2_sumOnce_5 (by decide) ?_
    refine lv_goto (tgt := 10) hx hb dX2_sumOnce_6 (by decide) ?_
    exact w_10 x2 x3 1 0 0 σ _ _ _ hT hI hB (lv_sub hl [0, 2, 3] rfl)
set_option maxHeartbeats 4000000 in
set_option maxRecDepth 100000 in
theorem um_X2_testOnce (l : Launch) (D : va_G) (dA : Nat → ClassId) (ad : Nat → Nat) (Hs : Heap) (hA : cAd ad 1296 Hs.size) (mc ms : Nat) (σ : CS) (x1 : Nat) (x2 : Int32) (x3 : Int32) (K : Nat → CS → Prop) (E : CS → Prop) (hT : U_X2_testOnce mc ms σ x1 x2 x3 K E) : vq_Met l yX2_testOnce (ws_ yX2_testOnce cX2_testOnce 4 (some (.object "MendedThings$Test"))) ({ frames := 154, cells := mc, slots := ms, locals := 3335 }) (va_Pc [.ref (ad 9), va_rf (rgR ad x1), .int x2, .int x3] (cU D dA ad 1296 Hs σ)) (xQ (rvR ad) K (cU D dA ad 1296 Hs) (cA ad)) (xX D dA ad 1296 Hs E) mc ms (cA ad) := by
  refine xt_r (Or.inl ⟨_, rfl⟩) hA (by decide) rfl (by cases x1 <;> exact (Nat.le_of_ble_eq_true rfl)) ?_
  intro p e s m args below meth c Q hC hN hret hthr hI ls hl
  have hx := hC.1.1
  have hb := hC.1.2.1
  have hB : 0 ≤ mc ∧ 0 ≤ ms := ⟨Nat.zero_le _, Nat.zero_le _⟩
  have hl : lv_has ls 4 [(0, .ref (ad 9)), (1, va_rf (rgR ad x1)), (2, .int x2), (3, .int x3)] := by cases x1 <;> exact hl
  have w_10 : ∀ (x2 : Int32) (x3 : Int32) (s0 : Int32) (cx : Nat) (zx : Nat) (σ : CS) (H : Heap) (locs : List Loc) (ls : Array Slot), U_X2_testOnce_10 mc ms K E x2 x3 s0 cx zx σ → xI D dA ad 1296 Hs s.heap σ H locs → (cx ≤ mc ∧ zx ≤ ms) → lv_has ls 4 [(0, .ref (ad 9)), (2, .int x2), (3, .int x3)] → W p l e ({ frames := 154, cells := mc, slots := ms, locals := 3335 }) s m args below meth c H locs cx zx Q (F0 m 10 ls [.int s0, .ref (ad 9)]) := by
    intro x2 x3 s0 cx zx σ H locs ls hT hI hB hl
    unfold U_X2_testOnce_10 at hT
    refine lv_iload_n hx hb dX2_testOnce_10 rfl (lv_at hl 1 rfl) ?_
    refine t_call (t_runV (i := 9) hC hI (xst hI (Nat.le_of_ble_eq_true rfl) sl_9) rfl (um_X2_most l D dA ad Hs hC.2.2 σ s0 x2 _ _ hT) (lw_V q572 q574 qs6 q163 q575) 2 hdV_X2_most ⟨rfl, rfl⟩ ⟨Nat.le_of_ble_eq_true rfl, Nat.le_of_ble_eq_true rfl⟩ rfl hl.1 rfl (Nat.le_of_ble_eq_true rfl) hB dX2_testOnce_11) hI (fun σ1 H1 locs1 hE h10 hI => hthr _ _ _ _ _ _ _ _ hE hI h10 hB) (fun _ σ1 H locs hT hI => ?_)
    refine W.eq (g2 := F0 m 14 ls []) rfl ?_
    refine lv_aload_n hx hb dX2_testOnce_14 rfl (lv_at hl 0 rfl) ?_
    refine lv_iload_n hx hb dX2_testOnce_15 rfl (lv_at hl 2 rfl) ?_
    refine xp2_5 (i := 9) (v := x3) hC hI (Nat.lt_of_lt_of_le (show _ < 1296 from (Nat.le_of_ble_eq_true rfl)) (by decide)) (xst hI (Nat.le_of_ble_eq_true rfl) sl_9) hT q369 (fun _ h => h) dX2_testOnce_16 (fun σ3 H locs hT hI => ?_)
    refine lv_aload_n hx hb dX2_testOnce_19 rfl (lv_at hl 0 rfl) ?_
    obtain ⟨mc6, ms7, hB, hT⟩ := hT
    refine t_call (t_runV (i := 9) hC hI (xst hI (Nat.le_of_ble_eq_true rfl) sl_9) rfl (um_X2_test l D dA ad Hs hC.2.2 144 3120 _ _ (rd_AF l D dA ad Hs hC.2.2 12).1 (rd_AF l D dA ad Hs hC.2.2 12).2 mc6 ms7 σ3 _ _ hT) (lw_V q946 q948 qs19 q163 q949) 0 hdV_X2_test ⟨rfl, rfl⟩ ⟨Nat.le_of_ble_eq_true rfl, Nat.le_of_ble_eq_true rfl⟩ rfl hl.1 rfl (Nat.le_of_ble_eq_true rfl) hB dX2_testOnce_20) hI (fun σ1 H1 locs1 hE h10 hI => hthr _ _ _ _ _ _ _ _ hE hI h10 hB) (fun r5 σ4 H locs hT hI => ?_)
    refine W.eq (g2 := F0 m 23 ls [va_rf (rgR ad r5)]) rfl ?_
    exact hret r5 _ _ _ _ _ _ _ hT hI hB dX2_testOnce_23
  unfold U_X2_testOnce at hT
  refine lv_aload_n hx hb dX2_testOnce_0 rfl (lv_at hl 0 rfl) ?_
  refine x_aload_n hx hb dX2_testOnce_1 rfl (lv_at hl 1 rfl) ?_
  refine x_ifnull (tgt := 9) hx hb dX2_testOnce_2 (by decide) (fun hc => ?_) (fun hc => ?_)
  · replace hT := hT.1 hc
    refine lv_iconst (v := 0) hx hb dX2_testOnce_9 (by decide) ?_
    exact w_10 x2 x3 0 0 0 σ _ _ _ hT hI hB (lv_sub hl [0, 2, 3] rfl)
  · replace hT := hT.2 hc
    refine lv_iconst (v := 1) hx hb dX2_testOnce_5 (by decide) ?_
    refine lv_goto (tgt := 10) hx hb dX2_testOnce_6 (by decide) ?_
    exact w_10 x2 x3 1 0 0 σ _ _ _ hT hI hB (lv_sub hl [0, 2, 3] rfl)
set_option maxHeartbeats 4000000 in
set_option maxRecDepth 100000 in
theorem um_X2_laws (l : Launch) (D : va_G) (dA : Nat → ClassId) (ad : Nat → Nat) (Hs : Heap) (hA : cAd ad 1296 Hs.size) (mc ms : Nat) (σ : CS) (x1 : Nat) (x2 : Int32) (K : Unit → CS → Prop) (E : CS → Prop) (hT : U_X2_laws mc ms σ x1 x2 K E) : vq_Met l yX2_laws (ws_ yX2_laws cX2_laws 5 (none)) ({ frames := 156, cells := mc, slots := ms, locals := 3380 }) (va_Pc [.ref (ad 9), .ref (ad x1), .int x2] (cU D dA ad 1296 Hs σ)) (xQ rvU K (cU D dA ad 1296 Hs) (cA ad)) (xX D dA ad 1296 Hs E) mc ms (cA ad) := by
  refine xt_v hA (by decide) rfl (Nat.le_of_ble_eq_true rfl) ?_
  intro p e s m args below meth c Q hC hN hret hthr hI ls hl
  have hx := hC.1.1
  have hb := hC.1.2.1
  have hB : 0 ≤ mc ∧ 0 ≤ ms := ⟨Nat.zero_le _, Nat.zero_le _⟩
  have hl : lv_has ls 5 [(0, .ref (ad 9)), (1, .ref (ad x1)), (2, .int x2)] := hl
  have w_155 : ∀ (x2 : Int32) (x4 : Int32) (cx : Nat) (zx : Nat) (σ : CS) (H : Heap) (locs : List Loc) (ls : Array Slot), U_X2_laws_155 mc ms K E x1 x2 x4 cx zx σ → xI D dA ad 1296 Hs s.heap σ H locs → (cx ≤ mc ∧ zx ≤ ms) → lv_has ls 5 [(0, .ref (ad 9)), (2, .int x2), (4, .int x4)] → W p l e ({ frames := 156, cells := mc, slots := ms, locals := 3380 }) s m args below meth c H locs cx zx Q (F0 m 155 ls []) := by
    intro x2 x4 cx zx σ H locs ls hT hI hB hl
    unfold U_X2_laws_155 at hT
    refine lv_iload hx hb dX2_laws_155 (lv_at hl 2 rfl) ?_
    by_cases c0 : x4 = 0
    · replace hT := hT.1 c0
      refine lv_tableIn (tgt := 196) hx hb dX2_laws_157 (by rw [c0]; decide) (by rw [c0]; decide) (by rw [c0]; rfl) (by decide) ?_
      refine lv_aload_n hx hb dX2_laws_196 rfl (lv_at hl 0 rfl) ?_
      refine xg2_6 (i := 9) hC hI (xst hI (Nat.le_of_ble_eq_true rfl) sl_9) q370 (fun _ h => h) dX2_laws_197 ?_
      refine lv_aload_n hx hb dX2_laws_200 rfl (lv_at hl 0 rfl) ?_
      refine lv_aload_n hx hb dX2_laws_201 rfl (lv_at hl 0 rfl) ?_
      refine xg2_6 (i := 9) hC hI (xst hI (Nat.le_of_ble_eq_true rfl) sl_9) q370 (fun _ h => h) dX2_laws_202 ?_
      obtain ⟨q1, hq2, hT⟩ := hT
      refine W.eq (congrArg (fun z => F0 m 205 ls [z, .ref (ad 9), va_rf (rgR ad (gR σ 9 6))]) (xrq hq2)) ?_
      obtain ⟨hL, hT⟩ := hT
      refine xgN1_5 (i := q1) hC hI hL q255 (fun _ h => h) dX2_laws_205 ?_
      refine lv_iload_n hx hb dX2_laws_208 rfl (lv_at hl 1 rfl) ?_
      refine lv_bipush (v := 127) hx hb dX2_laws_209 (by decide) ?_
      obtain ⟨mc5, ms6, hB, hT⟩ := hT
      refine t_call (t_runV (i := 9) hC hI (xst hI (Nat.le_of_ble_eq_true rfl) sl_9) rfl (um_X2_testOnce l D dA ad Hs hC.2.2 mc5 ms6 σ (gR σ q1 5) x2 127 _ _ hT) (lw_V q1233 q1235 qs32 q163 q1236) 3 hdV_X2_testOnce ⟨rfl, rfl⟩ ⟨Nat.le_of_ble_eq_true rfl, Nat.le_of_ble_eq_true rfl⟩ rfl hl.1 rfl (by simp only [List.map_cons, List.map_nil, List.sum_cons, List.sum_nil, va_rf_cat, vc_int, vc_long, vc_ref, vc_null]; decide) hB dX2_laws_211) hI (fun σ1 H1 locs1 hE h10 hI => hthr _ _ _ _ _ _ _ _ hE hI h10 hB) (fun r4 σ3 H locs hT hI => ?_)
      refine W.eq (g2 := F0 m 214 ls [va_rf (rgR ad r4), va_rf (rgR ad (gR σ 9 6))]) rfl ?_
      obtain ⟨q7, hq8, hT⟩ := hT
      refine W.eq (congrArg (fun z => F0 m 214 ls [va_rf (rgR ad r4), z]) (xrq hq8)) ?_
      obtain ⟨hic, hT⟩ := hT
      obtain ⟨hL, hT⟩ := hT
      refine xpN1_5 (i := q7) (v := r4) hC hI hic hL hT q255 (fun _ h => h) dX2_laws_214 (fun σ9 H locs hT hI => ?_)
      refine lv_goto (tgt := 342) hx hb dX2_laws_217 (by decide) ?_
      exact hret _ _ _ _ _ _ _ _ hT hI hB dX2_laws_342
    replace hT := hT.2 c0
    by_cases c1 : x4 = 1
    · replace hT := hT.1 c1
      refine lv_tableIn (tgt := 220) hx hb dX2_laws_157 (by rw [c1]; decide) (by rw [c1]; decide) (by rw [c1]; rfl) (by decide) ?_
      refine lv_aload_n hx hb dX2_laws_220 rfl (lv_at hl 0 rfl) ?_
      refine xg2_6 (i := 9) hC hI (xst hI (Nat.le_of_ble_eq_true rfl) sl_9) q370 (fun _ h => h) dX2_laws_221 ?_
      refine lv_aload_n hx hb dX2_laws_224 rfl (lv_at hl 0 rfl) ?_
      refine lv_aload_n hx hb dX2_laws_225 rfl (lv_at hl 0 rfl) ?_
      refine xg2_6 (i := 9) hC hI (xst hI (Nat.le_of_ble_eq_true rfl) sl_9) q370 (fun _ h => h) dX2_laws_226 ?_
      obtain ⟨q10, hq11, hT⟩ := hT
      refine W.eq (congrArg (fun z => F0 m 229 ls [z, .ref (ad 9), va_rf (rgR ad (gR σ 9 6))]) (xrq hq11)) ?_
      obtain ⟨hL, hT⟩ := hT
      refine xgN1_6 (i := q10) hC hI hL q257 (fun _ h => h) dX2_laws_229 ?_
      refine lv_iload_n hx hb dX2_laws_232 rfl (lv_at hl 1 rfl) ?_
      refine lv_bipush (v := 63) hx hb dX2_laws_233 (by decide) ?_
      obtain ⟨mc14, ms15, hB, hT⟩ := hT
      refine t_call (t_runV (i := 9) hC hI (xst hI (Nat.le_of_ble_eq_true rfl) sl_9) rfl (um_X2_testOnce l D dA ad Hs hC.2.2 mc14 ms15 σ (gR σ q10 6) x2 63 _ _ hT) (lw_V q1233 q1235 qs32 q163 q1236) 3 hdV_X2_testOnce ⟨rfl, rfl⟩ ⟨Nat.le_of_ble_eq_true rfl, Nat.le_of_ble_eq_true rfl⟩ rfl hl.1 rfl (by simp only [List.map_cons, List.map_nil, List.sum_cons, List.sum_nil, va_rf_cat, vc_int, vc_long, vc_ref, vc_null]; decide) hB dX2_laws_235) hI (fun σ1 H1 locs1 hE h10 hI => hthr _ _ _ _ _ _ _ _ hE hI h10 hB) (fun r13 σ12 H locs hT hI => ?_)
      refine W.eq (g2 := F0 m 238 ls [va_rf (rgR ad r13), va_rf (rgR ad (gR σ 9 6))]) rfl ?_
      obtain ⟨q16, hq17, hT⟩ := hT
      refine W.eq (congrArg (fun z => F0 m 238 ls [va_rf (rgR ad r13), z]) (xrq hq17)) ?_
      obtain ⟨hic, hT⟩ := hT
      obtain ⟨hL, hT⟩ := hT
      refine xpN1_6 (i := q16) (v := r13) hC hI hic hL hT q257 (fun _ h => h) dX2_laws_238 (fun σ18 H locs hT hI => ?_)
      refine lv_goto (tgt := 342) hx hb dX2_laws_241 (by decide) ?_
      exact hret _ _ _ _ _ _ _ _ hT hI hB dX2_laws_342
    replace hT := hT.2 c1
    by_cases c2 : x4 = 2
    · replace hT := hT.1 c2
      refine lv_tableIn (tgt := 244) hx hb dX2_laws_157 (by rw [c2]; decide) (by rw [c2]; decide) (by rw [c2]; rfl) (by decide) ?_
      refine lv_aload_n hx hb dX2_laws_244 rfl (lv_at hl 0 rfl) ?_
      refine xg2_6 (i := 9) hC hI (xst hI (Nat.le_of_ble_eq_true rfl) sl_9) q370 (fun _ h => h) dX2_laws_245 ?_
      refine lv_aload_n hx hb dX2_laws_248 rfl (lv_at hl 0 rfl) ?_
      refine lv_aload_n hx hb dX2_laws_249 rfl (lv_at hl 0 rfl) ?_
      refine xg2_6 (i := 9) hC hI (xst hI (Nat.le_of_ble_eq_true rfl) sl_9) q370 (fun _ h => h) dX2_laws_250 ?_
      obtain ⟨q19, hq20, hT⟩ := hT
      refine W.eq (congrArg (fun z => F0 m 253 ls [z, .ref (ad 9), va_rf (rgR ad (gR σ 9 6))]) (xrq hq20)) ?_
      obtain ⟨hL, hT⟩ := hT
      refine xgN1_7 (i := q19) hC hI hL q259 (fun _ h => h) dX2_laws_253 ?_
      refine lv_iload_n hx hb dX2_laws_256 rfl (lv_at hl 1 rfl) ?_
      refine lv_sipush (v := 191) hx hb dX2_laws_257 (by decide) ?_
      obtain ⟨mc23, ms24, hB, hT⟩ := hT
      refine t_call (t_runV (i := 9) hC hI (xst hI (Nat.le_of_ble_eq_true rfl) sl_9) rfl (um_X2_sumOnce l D dA ad Hs hC.2.2 mc23 ms24 σ (gR σ q19 7) x2 191 _ _ hT) (lw_V q1237 q1239 qs33 q163 q1240) 3 hdV_X2_sumOnce ⟨rfl, rfl⟩ ⟨Nat.le_of_ble_eq_true rfl, Nat.le_of_ble_eq_true rfl⟩ rfl hl.1 rfl (by simp only [List.map_cons, List.map_nil, List.sum_cons, List.sum_nil, va_rf_cat, vc_int, vc_long, vc_ref, vc_null]; decide) hB dX2_laws_260) hI (fun σ1 H1 locs1 hE h10 hI => hthr _ _ _ _ _ _ _ _ hE hI h10 hB) (fun r22 σ21 H locs hT hI => ?_)
      refine W.eq (g2 := F0 m 263 ls [va_rf (rgR ad r22), va_rf (rgR ad (gR σ 9 6))]) rfl ?_
      obtain ⟨q25, hq26, hT⟩ := hT
      refine W.eq (congrArg (fun z => F0 m 263 ls [va_rf (rgR ad r22), z]) (xrq hq26)) ?_
      obtain ⟨hic, hT⟩ := hT
      obtain ⟨hL, hT⟩ := hT
      refine xpN1_7 (i := q25) (v := r22) hC hI hic hL hT q259 (fun _ h => h) dX2_laws_263 (fun σ27 H locs hT hI => ?_)
      refine lv_goto (tgt := 342) hx hb dX2_laws_266 (by decide) ?_
      exact hret _ _ _ _ _ _ _ _ hT hI hB dX2_laws_342
    replace hT := hT.2 c2
    by_cases c3 : x4 = 3
    · replace hT := hT.1 c3
      refine lv_tableIn (tgt := 269) hx hb dX2_laws_157 (by rw [c3]; decide) (by rw [c3]; decide) (by rw [c3]; rfl) (by decide) ?_
      refine lv_aload_n hx hb dX2_laws_269 rfl (lv_at hl 0 rfl) ?_
      refine xg2_6 (i := 9) hC hI (xst hI (Nat.le_of_ble_eq_true rfl) sl_9) q370 (fun _ h => h) dX2_laws_270 ?_
      refine lv_aload_n hx hb dX2_laws_273 rfl (lv_at hl 0 rfl) ?_
      refine lv_aload_n hx hb dX2_laws_274 rfl (lv_at hl 0 rfl) ?_
      refine xg2_6 (i := 9) hC hI (xst hI (Nat.le_of_ble_eq_true rfl) sl_9) q370 (fun _ h => h) dX2_laws_275 ?_
      obtain ⟨q28, hq29, hT⟩ := hT
      refine W.eq (congrArg (fun z => F0 m 278 ls [z, .ref (ad 9), va_rf (rgR ad (gR σ 9 6))]) (xrq hq29)) ?_
      obtain ⟨hL, hT⟩ := hT
      refine xgN1_8 (i := q28) hC hI hL q261 (fun _ h => h) dX2_laws_278 ?_
      refine lv_iload_n hx hb dX2_laws_281 rfl (lv_at hl 1 rfl) ?_
      refine lv_sipush (v := 191) hx hb dX2_laws_282 (by decide) ?_
      obtain ⟨mc32, ms33, hB, hT⟩ := hT
      refine t_call (t_runV (i := 9) hC hI (xst hI (Nat.le_of_ble_eq_true rfl) sl_9) rfl (um_X2_sumOnce l D dA ad Hs hC.2.2 mc32 ms33 σ (gR σ q28 8) x2 191 _ _ hT) (lw_V q1237 q1239 qs33 q163 q1240) 3 hdV_X2_sumOnce ⟨rfl, rfl⟩ ⟨Nat.le_of_ble_eq_true rfl, Nat.le_of_ble_eq_true rfl⟩ rfl hl.1 rfl (by simp only [List.map_cons, List.map_nil, List.sum_cons, List.sum_nil, va_rf_cat, vc_int, vc_long, vc_ref, vc_null]; decide) hB dX2_laws_285) hI (fun σ1 H1 locs1 hE h10 hI => hthr _ _ _ _ _ _ _ _ hE hI h10 hB) (fun r31 σ30 H locs hT hI => ?_)
      refine W.eq (g2 := F0 m 288 ls [va_rf (rgR ad r31), va_rf (rgR ad (gR σ 9 6))]) rfl ?_
      obtain ⟨q34, hq35, hT⟩ := hT
      refine W.eq (congrArg (fun z => F0 m 288 ls [va_rf (rgR ad r31), z]) (xrq hq35)) ?_
      obtain ⟨hic, hT⟩ := hT
      obtain ⟨hL, hT⟩ := hT
      refine xpN1_8 (i := q34) (v := r31) hC hI hic hL hT q261 (fun _ h => h) dX2_laws_288 (fun σ36 H locs hT hI => ?_)
      refine lv_goto (tgt := 342) hx hb dX2_laws_291 (by decide) ?_
      exact hret _ _ _ _ _ _ _ _ hT hI hB dX2_laws_342
    replace hT := hT.2 c3
    by_cases c4 : x4 = 4
    · replace hT := hT.1 c4
      refine lv_tableIn (tgt := 294) hx hb dX2_laws_157 (by rw [c4]; decide) (by rw [c4]; decide) (by rw [c4]; rfl) (by decide) ?_
      refine lv_aload_n hx hb dX2_laws_294 rfl (lv_at hl 0 rfl) ?_
      refine xg2_6 (i := 9) hC hI (xst hI (Nat.le_of_ble_eq_true rfl) sl_9) q370 (fun _ h => h) dX2_laws_295 ?_
      refine lv_aload_n hx hb dX2_laws_298 rfl (lv_at hl 0 rfl) ?_
      refine lv_aload_n hx hb dX2_laws_299 rfl (lv_at hl 0 rfl) ?_
      refine xg2_6 (i := 9) hC hI (xst hI (Nat.le_of_ble_eq_true rfl) sl_9) q370 (fun _ h => h) dX2_laws_300 ?_
      obtain ⟨q37, hq38, hT⟩ := hT
      refine W.eq (congrArg (fun z => F0 m 303 ls [z, .ref (ad 9), va_rf (rgR ad (gR σ 9 6))]) (xrq hq38)) ?_
      obtain ⟨hL, hT⟩ := hT
      refine xgN1_9 (i := q37) hC hI hL q263 (fun _ h => h) dX2_laws_303 ?_
      refine lv_iload_n hx hb dX2_laws_306 rfl (lv_at hl 1 rfl) ?_
      refine lv_bipush (v := 63) hx hb dX2_laws_307 (by decide) ?_
      obtain ⟨mc41, ms42, hB, hT⟩ := hT
      refine t_call (t_runV (i := 9) hC hI (xst hI (Nat.le_of_ble_eq_true rfl) sl_9) rfl (um_X2_sumOnce l D dA ad Hs hC.2.2 mc41 ms42 σ (gR σ q37 9) x2 63 _ _ hT) (lw_V q1237 q1239 qs33 q163 q1240) 3 hdV_X2_sumOnce ⟨rfl, rfl⟩ ⟨Nat.le_of_ble_eq_true rfl, Nat.le_of_ble_eq_true rfl⟩ rfl hl.1 rfl (by simp only [List.map_cons, List.map_nil, List.sum_cons, List.sum_nil, va_rf_cat, vc_int, vc_long, vc_ref, vc_null]; decide) hB dX2_laws_309) hI (fun σ1 H1 locs1 hE h10 hI => hthr _ _ _ _ _ _ _ _ hE hI h10 hB) (fun r40 σ39 H locs hT hI => ?_)
      refine W.eq (g2 := F0 m 312 ls [va_rf (rgR ad r40), va_rf (rgR ad (gR σ 9 6))]) rfl ?_
      obtain ⟨q43, hq44, hT⟩ := hT
      refine W.eq (congrArg (fun z => F0 m 312 ls [va_rf (rgR ad r40), z]) (xrq hq44)) ?_
      obtain ⟨hic, hT⟩ := hT
      obtain ⟨hL, hT⟩ := hT
      refine xpN1_9 (i := q43) (v := r40) hC hI hic hL hT q263 (fun _ h => h) dX2_laws_312 (fun σ45 H locs hT hI => ?_)
      refine lv_goto (tgt := 342) hx hb dX2_laws_315 (by decide) ?_
      exact hret _ _ _ _ _ _ _ _ hT hI hB dX2_laws_342
    replace hT := hT.2 c4
    by_cases c5 : x4 = 5
    · replace hT := hT.1 c5
      refine lv_tableIn (tgt := 318) hx hb dX2_laws_157 (by rw [c5]; decide) (by rw [c5]; decide) (by rw [c5]; rfl) (by decide) ?_
      refine lv_aload_n hx hb dX2_laws_318 rfl (lv_at hl 0 rfl) ?_
      refine xg2_6 (i := 9) hC hI (xst hI (Nat.le_of_ble_eq_true rfl) sl_9) q370 (fun _ h => h) dX2_laws_319 ?_
      refine lv_aload_n hx hb dX2_laws_322 rfl (lv_at hl 0 rfl) ?_
      refine lv_iconst (v := 0) hx hb dX2_laws_323 (by decide) ?_
      refine lv_bipush (v := 100) hx hb dX2_laws_324 (by decide) ?_
      refine t_call (t_runV (i := 9) hC hI (xst hI (Nat.le_of_ble_eq_true rfl) sl_9) rfl (um_X2_number_2 l D dA ad Hs hC.2.2 σ 0 100 _ _ hT) (lw_V q810 q812 qs15 q163 q813) 2 hdV_X2_number_2 ⟨rfl, rfl⟩ ⟨Nat.le_of_ble_eq_true rfl, Nat.le_of_ble_eq_true rfl⟩ rfl hl.1 rfl (by simp only [List.map_cons, List.map_nil, List.sum_cons, List.sum_nil, va_rf_cat, vc_int, vc_long, vc_ref, vc_null]; decide) hB dX2_laws_326) hI (fun σ1 H1 locs1 hE h10 hI => hthr _ _ _ _ _ _ _ _ hE hI h10 hB) (fun r47 σ46 H locs hT hI => ?_)
      refine W.eq (g2 := F0 m 329 ls [.int r47, va_rf (rgR ad (gR σ 9 6))]) rfl ?_
      obtain ⟨q48, hq49, hT⟩ := hT
      refine W.eq (congrArg (fun z => F0 m 329 ls [.int r47, z]) (xrq hq49)) ?_
      obtain ⟨hic, hT⟩ := hT
      obtain ⟨hL, hT⟩ := hT
      refine xpN1_1 (i := q48) (v := r47) hC hI hic hL hT q243 (fun _ h => h) dX2_laws_329 (fun σ50 H locs hT hI => ?_)
      refine lv_goto (tgt := 342) hx hb dX2_laws_332 (by decide) ?_
      exact hret _ _ _ _ _ _ _ _ hT hI hB dX2_laws_342
    replace hT := hT.2 c5
    refine lv_tableOut (tgt := 335) hx hb dX2_laws_157 (ts_out0 (n := 6) (by decide) (fun k hk => by rcases (show k = 0 ∨ k = 1 ∨ k = 2 ∨ k = 3 ∨ k = 4 ∨ k = 5 by omega) with rfl | rfl | rfl | rfl | rfl | rfl <;> assumption)) (by decide) ?_
    refine lv_aload_n hx hb dX2_laws_335 rfl (lv_at hl 0 rfl) ?_
    refine lv_iconst (v := 1) hx hb dX2_laws_336 (by decide) ?_
    refine lv_iload_n hx hb dX2_laws_337 rfl (lv_at hl 1 rfl) ?_
    refine x_call (x_runV (i := 9) hC hI (xst hI (Nat.le_of_ble_eq_true rfl) sl_9) rfl (um_X2_wrong l D dA ad Hs hC.2.2 σ 1 x2 _ hT) (lw_V q576 q578 qs7 q163 q579) 2 hdV_X2_wrong ⟨rfl, rfl⟩ ⟨Nat.le_of_ble_eq_true rfl, Nat.le_of_ble_eq_true rfl⟩ rfl hl.1 rfl (Nat.le_of_ble_eq_true rfl) hB dX2_laws_338) hI (fun r52 σ51 H locs hT hI => ?_)
    refine W.eq (g2 := F0 m 341 ls [va_rf (rgR ad r52)]) rfl ?_
    obtain ⟨h11, hT⟩ := hT
    refine W.eq (congrArg (fun z => F0 m 341 ls [z]) (xrq h11)) ?_
    exact vq_athrow hx hb dX2_laws_341 (hthr _ _ _ _ _ _ _ _ hT hI (xst hI (Nat.le_of_ble_eq_true rfl) sl_10) hB)
  unfold U_X2_laws at hT
  refine lv_aload_n hx hb dX2_laws_0 rfl (lv_at hl 1 rfl) ?_
  refine lv_astore_n (lv' := [(3, .ref (ad x1)), (0, .ref (ad 9)), (1, .ref (ad x1)), (2, .int x2)]) hx hb dX2_laws_1 rfl hl (Nat.le_of_ble_eq_true rfl) rfl (fun ls hl => ?_)
  refine lv_iconst (v := -1) hx hb dX2_laws_2 (by decide) ?_
  refine lv_istore (lv' := [(4, .int (-1)), (3, .ref (ad x1)), (0, .ref (ad 9)), (1, .ref (ad x1)), (2, .int x2)]) hx hb dX2_laws_3 hl (Nat.le_of_ble_eq_true rfl) rfl (fun ls hl => ?_)
  refine lv_aload_n hx hb dX2_laws_5 rfl (lv_at hl 1 rfl) ?_
  obtain ⟨hL, hT⟩ := hT
  refine x_call (x_runV (i := x1) hC hI hL rfl (um_J6_hashCode l D dA ad 1296 Hs hC.2.2 σ x1 _ hT) (lw_V q676 q677 q678 q171 q679) 0 hdV_J6_hashCode ⟨rfl, rfl⟩ ⟨Nat.le_of_ble_eq_true rfl, Nat.le_of_ble_eq_true rfl⟩ rfl hl.1 rfl (Nat.le_of_ble_eq_true rfl) hB dX2_laws_6) hI (fun r54 σ53 H locs hT hI => ?_)
  refine W.eq (g2 := F0 m 9 ls [.int r54]) rfl ?_
  by_cases c0 : r54 = -892487843
  · replace hT := hT.1 c0
    refine lv_lookup (tgt := 68) hx hb dX2_laws_9 (by decide) (by rw [c0]; first | done | rfl) (by decide) ?_
    refine lv_aload_n hx hb dX2_laws_68 rfl (lv_at hl 1 rfl) ?_
    refine x_ldcS (q := 1048634) hC (List.mem_of_getElem? (i := 15) rfl) dX2_laws_69 ?_
    obtain ⟨hL, hT⟩ := hT
    refine x_call (x_runV (i := x1) hC hI hL rfl (um_J6_equals l D dA ad 1296 Hs hC.2.2 σ53 x1 1048634 _ hT) (lw_V q730 q731 q732 q171 q733) 1 hdV_J6_equals ⟨rfl, rfl⟩ ⟨Nat.le_of_ble_eq_true rfl, Nat.le_of_ble_eq_true rfl⟩ rfl hl.1 rfl (Nat.le_of_ble_eq_true rfl) hB dX2_laws_71) hI (fun r56 σ55 H locs hT hI => ?_)
    refine W.eq (g2 := F0 m 74 ls [.int r56]) rfl ?_
    refine lv_if_eq (tgt := 155) hx hb dX2_laws_74 (by decide) (fun hc => ?_) (fun hc => ?_)
    · replace hT := hT.1 hc
      exact w_155 x2 (-1) 0 0 σ55 _ _ _ hT hI hB (lv_sub hl [2, 4, 0] rfl)
    · replace hT := hT.2 hc
      refine lv_iconst (v := 0) hx hb dX2_laws_77 (by decide) ?_
      refine lv_istore (lv' := [(4, .int 0), (3, .ref (ad x1)), (0, .ref (ad 9)), (1, .ref (ad x1)), (2, .int x2)]) hx hb dX2_laws_78 hl (Nat.le_of_ble_eq_true rfl) rfl (fun ls hl => ?_)
      refine lv_goto (tgt := 155) hx hb dX2_laws_80 (by decide) ?_
      exact w_155 x2 0 0 0 σ55 _ _ _ hT hI hB (lv_sub hl [2, 4, 0] rfl)
  replace hT := hT.2 c0
  by_cases c1 : r54 = 98262
  · replace hT := hT.1 c1
    refine lv_lookup (tgt := 143) hx hb dX2_laws_9 (by decide) (by rw [c1]; first | done | rfl) (by decide) ?_
    refine lv_aload_n hx hb dX2_laws_143 rfl (lv_at hl 1 rfl) ?_
    refine x_ldcS (q := 1048642) hC (List.mem_of_getElem? (i := 20) rfl) dX2_laws_144 ?_
    obtain ⟨hL, hT⟩ := hT
    refine x_call (x_runV (i := x1) hC hI hL rfl (um_J6_equals l D dA ad 1296 Hs hC.2.2 σ53 x1 1048642 _ hT) (lw_V q730 q731 q732 q171 q733) 1 hdV_J6_equals ⟨rfl, rfl⟩ ⟨Nat.le_of_ble_eq_true rfl, Nat.le_of_ble_eq_true rfl⟩ rfl hl.1 rfl (Nat.le_of_ble_eq_true rfl) hB dX2_laws_146) hI (fun r58 σ57 H locs hT hI => ?_)
    refine W.eq (g2 := F0 m 149 ls [.int r58]) rfl ?_
    refine lv_if_eq (tgt := 155) hx hb dX2_laws_149 (by decide) (fun hc => ?_) (fun hc => ?_)
    · replace hT := hT.1 hc
      exact w_155 x2 (-1) 0 0 σ57 _ _ _ hT hI hB (lv_sub hl [2, 4, 0] rfl)
    · replace hT := hT.2 hc
      refine lv_iconst (v := 5) hx hb dX2_laws_152 (by decide) ?_
      refine lv_istore (lv' := [(4, .int 5), (3, .ref (ad x1)), (0, .ref (ad 9)), (1, .ref (ad x1)), (2, .int x2)]) hx hb dX2_laws_153 hl (Nat.le_of_ble_eq_true rfl) rfl (fun ls hl => ?_)
      exact w_155 x2 5 0 0 σ57 _ _ _ hT hI hB (lv_sub hl [2, 4, 0] rfl)
  replace hT := hT.2 c1
  by_cases c2 : r54 = 3143098
  · replace hT := hT.1 c2
    refine lv_lookup (tgt := 113) hx hb dX2_laws_9 (by decide) (by rw [c2]; first | done | rfl) (by decide) ?_
    refine lv_aload_n hx hb dX2_laws_113 rfl (lv_at hl 1 rfl) ?_
    refine x_ldcS (q := 1048640) hC (List.mem_of_getElem? (i := 18) rfl) dX2_laws_114 ?_
    obtain ⟨hL, hT⟩ := hT
    refine x_call (x_runV (i := x1) hC hI hL rfl (um_J6_equals l D dA ad 1296 Hs hC.2.2 σ53 x1 1048640 _ hT) (lw_V q730 q731 q732 q171 q733) 1 hdV_J6_equals ⟨rfl, rfl⟩ ⟨Nat.le_of_ble_eq_true rfl, Nat.le_of_ble_eq_true rfl⟩ rfl hl.1 rfl (Nat.le_of_ble_eq_true rfl) hB dX2_laws_116) hI (fun r60 σ59 H locs hT hI => ?_)
    refine W.eq (g2 := F0 m 119 ls [.int r60]) rfl ?_
    refine lv_if_eq (tgt := 155) hx hb dX2_laws_119 (by decide) (fun hc => ?_) (fun hc => ?_)
    · replace hT := hT.1 hc
      exact w_155 x2 (-1) 0 0 σ59 _ _ _ hT hI hB (lv_sub hl [2, 4, 0] rfl)
    · replace hT := hT.2 hc
      refine lv_iconst (v := 3) hx hb dX2_laws_122 (by decide) ?_
      refine lv_istore (lv' := [(4, .int 3), (3, .ref (ad x1)), (0, .ref (ad 9)), (1, .ref (ad x1)), (2, .int x2)]) hx hb dX2_laws_123 hl (Nat.le_of_ble_eq_true rfl) rfl (fun ls hl => ?_)
      refine lv_goto (tgt := 155) hx hb dX2_laws_125 (by decide) ?_
      exact w_155 x2 3 0 0 σ59 _ _ _ hT hI hB (lv_sub hl [2, 4, 0] rfl)
  replace hT := hT.2 c2
  by_cases c3 : r54 = 97196120
  · replace hT := hT.1 c3
    refine lv_lookup (tgt := 83) hx hb dX2_laws_9 (by decide) (by rw [c3]; first | done | rfl) (by decide) ?_
    refine lv_aload_n hx hb dX2_laws_83 rfl (lv_at hl 1 rfl) ?_
    refine x_ldcS (q := 1048636) hC (List.mem_of_getElem? (i := 16) rfl) dX2_laws_84 ?_
    obtain ⟨hL, hT⟩ := hT
    refine x_call (x_runV (i := x1) hC hI hL rfl (um_J6_equals l D dA ad 1296 Hs hC.2.2 σ53 x1 1048636 _ hT) (lw_V q730 q731 q732 q171 q733) 1 hdV_J6_equals ⟨rfl, rfl⟩ ⟨Nat.le_of_ble_eq_true rfl, Nat.le_of_ble_eq_true rfl⟩ rfl hl.1 rfl (Nat.le_of_ble_eq_true rfl) hB dX2_laws_86) hI (fun r62 σ61 H locs hT hI => ?_)
    refine W.eq (g2 := F0 m 89 ls [.int r62]) rfl ?_
    refine lv_if_eq (tgt := 155) hx hb dX2_laws_89 (by decide) (fun hc => ?_) (fun hc => ?_)
    · replace hT := hT.1 hc
      exact w_155 x2 (-1) 0 0 σ61 _ _ _ hT hI hB (lv_sub hl [2, 4, 0] rfl)
    · replace hT := hT.2 hc
      refine lv_iconst (v := 1) hx hb dX2_laws_92 (by decide) ?_
      refine lv_istore (lv' := [(4, .int 1), (3, .ref (ad x1)), (0, .ref (ad 9)), (1, .ref (ad x1)), (2, .int x2)]) hx hb dX2_laws_93 hl (Nat.le_of_ble_eq_true rfl) rfl (fun ls hl => ?_)
      refine lv_goto (tgt := 155) hx hb dX2_laws_95 (by decide) ?_
      exact w_155 x2 1 0 0 σ61 _ _ _ hT hI hB (lv_sub hl [2, 4, 0] rfl)
  replace hT := hT.2 c3
  by_cases c4 : r54 = 97440432
  · replace hT := hT.1 c4
    refine lv_lookup (tgt := 128) hx hb dX2_laws_9 (by decide) (by rw [c4]; first | done | rfl) (by decide) ?_
    refine lv_aload_n hx hb dX2_laws_128 rfl (lv_at hl 1 rfl) ?_
    refine x_ldcS (q := 1048614) hC (List.mem_of_getElem? (i := 19) rfl) dX2_laws_129 ?_
    obtain ⟨hL, hT⟩ := hT
    refine x_call (x_runV (i := x1) hC hI hL rfl (um_J6_equals l D dA ad 1296 Hs hC.2.2 σ53 x1 1048614 _ hT) (lw_V q730 q731 q732 q171 q733) 1 hdV_J6_equals ⟨rfl, rfl⟩ ⟨Nat.le_of_ble_eq_true rfl, Nat.le_of_ble_eq_true rfl⟩ rfl hl.1 rfl (Nat.le_of_ble_eq_true rfl) hB dX2_laws_131) hI (fun r64 σ63 H locs hT hI => ?_)
    refine W.eq (g2 := F0 m 134 ls [.int r64]) rfl ?_
    refine lv_if_eq (tgt := 155) hx hb dX2_laws_134 (by decide) (fun hc => ?_) (fun hc => ?_)
    · replace hT := hT.1 hc
      exact w_155 x2 (-1) 0 0 σ63 _ _ _ hT hI hB (lv_sub hl [2, 4, 0] rfl)
    · replace hT := hT.2 hc
      refine lv_iconst (v := 4) hx hb dX2_laws_137 (by decide) ?_
      refine lv_istore (lv' := [(4, .int 4), (3, .ref (ad x1)), (0, .ref (ad 9)), (1, .ref (ad x1)), (2, .int x2)]) hx hb dX2_laws_138 hl (Nat.le_of_ble_eq_true rfl) rfl (fun ls hl => ?_)
      refine lv_goto (tgt := 155) hx hb dX2_laws_140 (by decide) ?_
      exact w_155 x2 4 0 0 σ63 _ _ _ hT hI hB (lv_sub hl [2, 4, 0] rfl)
  replace hT := hT.2 c4
  by_cases c5 : r54 = 110124236
  · replace hT := hT.1 c5
    refine lv_lookup (tgt := 98) hx hb dX2_laws_9 (by decide) (by rw [c5]; first | done | rfl) (by decide) ?_
    refine lv_aload_n hx hb dX2_laws_98 rfl (lv_at hl 1 rfl) ?_
    refine x_ldcS (q := 1048638) hC (List.mem_of_getElem? (i := 17) rfl) dX2_laws_99 ?_
    obtain ⟨hL, hT⟩ := hT
    refine x_call (x_runV (i := x1) hC hI hL rfl (um_J6_equals l D dA ad 1296 Hs hC.2.2 σ53 x1 1048638 _ hT) (lw_V q730 q731 q732 q171 q733) 1 hdV_J6_equals ⟨rfl, rfl⟩ ⟨Nat.le_of_ble_eq_true rfl, Nat.le_of_ble_eq_true rfl⟩ rfl hl.1 rfl (Nat.le_of_ble_eq_true rfl) hB dX2_laws_101) hI (fun r66 σ65 H locs hT hI => ?_)
    refine W.eq (g2 := F0 m 104 ls [.int r66]) rfl ?_
    refine lv_if_eq (tgt := 155) hx hb dX2_laws_104 (by decide) (fun hc => ?_) (fun hc => ?_)
    · replace hT := hT.1 hc
      exact w_155 x2 (-1) 0 0 σ65 _ _ _ hT hI hB (lv_sub hl [2, 4, 0] rfl)
    · replace hT := hT.2 hc
      refine lv_iconst (v := 2) hx hb dX2_laws_107 (by decide) ?_
      refine lv_istore (lv' := [(4, .int 2), (3, .ref (ad x1)), (0, .ref (ad 9)), (1, .ref (ad x1)), (2, .int x2)]) hx hb dX2_laws_108 hl (Nat.le_of_ble_eq_true rfl) rfl (fun ls hl => ?_)
      refine lv_goto (tgt := 155) hx hb dX2_laws_110 (by decide) ?_
      exact w_155 x2 2 0 0 σ65 _ _ _ hT hI hB (lv_sub hl [2, 4, 0] rfl)
  replace hT := hT.2 c5
  refine lv_lookup (tgt := 155) (off := 146) hx hb dX2_laws_9 (by decide) (lk_out _ _ _ (by simp only [List.forall_mem_cons, List.not_mem_nil, false_implies, implies_true, and_true]; exact ⟨lk_ne c0 rfl, lk_ne c1 rfl, lk_ne c2 rfl, lk_ne c3 rfl, lk_ne c4 rfl, lk_ne c5 rfl⟩)) (by decide) ?_
  exact w_155 x2 (-1) 0 0 σ53 _ _ _ hT hI hB (lv_sub hl [2, 4, 0] rfl)
set_option maxHeartbeats 4000000 in
set_option maxRecDepth 100000 in
theorem um_X2_named (l : Launch) (D : va_G) (dA : Nat → ClassId) (ad : Nat → Nat) (Hs : Heap) (hA : cAd ad 1296 Hs.size) (mc ms : Nat) (σ : CS) (x1 : Nat) (x2 : Int32) (K : Int32 → CS → Prop) (E : CS → Prop) (hT : U_X2_named mc ms σ x1 x2 K E) : vq_Met l yX2_named (ws_ yX2_named cX2_named 11 (some .boolean)) ({ frames := 154, cells := mc, slots := ms, locals := 3335 }) (va_Pc [.ref (ad 9), .ref (ad x1), .int x2] (cU D dA ad 1296 Hs σ)) (xQ rvI K (cU D dA ad 1296 Hs) (cA ad)) (xX D dA ad 1296 Hs E) mc ms (cA ad) := by
  refine xt_z hA (by decide) rfl (Nat.le_of_ble_eq_true rfl) ?_
  intro p e s m args below meth c Q hC hN hret hthr hI ls hl
  have hx := hC.1.1
  have hb := hC.1.2.1
  have hB : 0 ≤ mc ∧ 0 ≤ ms := ⟨Nat.zero_le _, Nat.zero_le _⟩
  have hl : lv_has ls 11 [(0, .ref (ad 9)), (1, .ref (ad x1)), (2, .int x2)] := hl
  have w_308 : ∀ (x2 : Int32) (s0 : Int32) (cx : Nat) (zx : Nat) (σ : CS) (H : Heap) (locs : List Loc) (ls : Array Slot), U_X2_named_308 mc ms K E x1 x2 s0 cx zx σ → xI D dA ad 1296 Hs s.heap σ H locs → (cx ≤ mc ∧ zx ≤ ms) → lv_has ls 11 [(0, .ref (ad 9)), (2, .int x2)] → W p l e ({ frames := 154, cells := mc, slots := ms, locals := 3335 }) s m args below meth c H locs cx zx Q (F0 m 308 ls [.int s0, .ref (ad 9)]) := by
    intro x2 s0 cx zx σ H locs ls hT hI hB hl
    unfold U_X2_named_308 at hT
    refine lv_iload_n hx hb dX2_named_308 rfl (lv_at hl 1 rfl) ?_
    refine t_call (t_runV (i := 9) hC hI (xst hI (Nat.le_of_ble_eq_true rfl) sl_9) rfl (um_X2_most l D dA ad Hs hC.2.2 σ s0 x2 _ _ hT) (lw_V q572 q574 qs6 q163 q575) 2 hdV_X2_most ⟨rfl, rfl⟩ ⟨Nat.le_of_ble_eq_true rfl, Nat.le_of_ble_eq_true rfl⟩ rfl hl.1 rfl (Nat.le_of_ble_eq_true rfl) hB dX2_named_309) hI (fun σ1 H1 locs1 hE h10 hI => hthr _ _ _ _ _ _ _ _ hE hI h10 hB) (fun _ σ1 H locs hT hI => ?_)
    refine W.eq (g2 := F0 m 312 ls []) rfl ?_
    refine lv_aload_n hx hb dX2_named_312 rfl (lv_at hl 0 rfl) ?_
    obtain ⟨mc5, ms6, hB, hT⟩ := hT
    refine t_call (t_runV (i := 9) hC hI (xst hI (Nat.le_of_ble_eq_true rfl) sl_9) rfl (um_X2_fresh l D dA ad Hs hC.2.2 mc5 ms6 σ1 _ _ hT) (lw_V q749 q751 qs11 q163 q752) 0 hdV_X2_fresh ⟨rfl, rfl⟩ ⟨Nat.le_of_ble_eq_true rfl, Nat.le_of_ble_eq_true rfl⟩ rfl hl.1 rfl (Nat.le_of_ble_eq_true rfl) hB dX2_named_313) hI (fun σ1 H1 locs1 hE h10 hI => hthr _ _ _ _ _ _ _ _ hE hI h10 hB) (fun r4 σ3 H locs hT hI => ?_)
    refine W.eq (g2 := F0 m 316 ls [va_rf (rgR ad r4)]) rfl ?_
    refine x_astore (lv' := [(10, va_rf (rgR ad r4)), (0, .ref (ad 9)), (2, .int x2)]) hx hb dX2_named_316 hl (Nat.le_of_ble_eq_true rfl) rfl (fun ls hl => ?_)
    refine lv_aload_n hx hb dX2_named_318 rfl (lv_at hl 1 rfl) ?_
    refine x_ldcS (q := 1048612) hC (List.mem_of_getElem? (i := 8) rfl) dX2_named_319 ?_
    obtain ⟨mc9, ms10, hB, hT⟩ := hT
    refine t_call (t_runV (i := 9) hC hI (xst hI (Nat.le_of_ble_eq_true rfl) sl_9) rfl (um_X2_word_2 l D dA ad Hs hC.2.2 mc9 ms10 σ3 1048612 _ _ hT) (lw_V q806 q808 qs14 q163 q809) 1 hdV_X2_word_2 ⟨rfl, rfl⟩ ⟨Nat.le_of_ble_eq_true rfl, Nat.le_of_ble_eq_true rfl⟩ rfl hl.1 rfl (Nat.le_of_ble_eq_true rfl) hB dX2_named_321) hI (fun σ1 H1 locs1 hE h10 hI => hthr _ _ _ _ _ _ _ _ hE hI h10 hB) (fun _ σ7 H locs hT hI => ?_)
    refine W.eq (g2 := F0 m 324 ls []) rfl ?_
    refine lv_aload_n hx hb dX2_named_324 rfl (lv_at hl 1 rfl) ?_
    refine lv_bipush (v := 127) hx hb dX2_named_325 (by decide) ?_
    refine xp2_5 (i := 9) (v := 127) hC hI (Nat.lt_of_lt_of_le (show _ < 1296 from (Nat.le_of_ble_eq_true rfl)) (by decide)) (xst hI (Nat.le_of_ble_eq_true rfl) sl_9) hT q369 (fun _ h => h) dX2_named_327 (fun σ11 H locs hT hI => ?_)
    refine lv_aload_n hx hb dX2_named_330 rfl (lv_at hl 1 rfl) ?_
    refine xg2_6 (i := 9) hC hI (xst hI (Nat.le_of_ble_eq_true rfl) sl_9) q370 (fun _ h => h) dX2_named_331 ?_
    obtain ⟨q12, hq13, hT⟩ := hT
    refine W.eq (congrArg (fun z => F0 m 334 ls [z]) (xrq hq13)) ?_
    obtain ⟨hL, hT⟩ := hT
    refine xgN1_4 (i := q12) hC hI hL q252 (fun _ h => h) dX2_named_334 ?_
    have hB := hT.1
    refine xnew9 hC hI q944 hT dX2_named_337 (fun σ14 H hT hI => ?_)
    refine lv_dup hx hb dX2_named_340 rfl ?_
    refine x_aload hx hb dX2_named_341 (lv_at hl 0 rfl) ?_
    refine lv_aload_n hx hb dX2_named_343 rfl (lv_at hl 1 rfl) ?_
    obtain ⟨mc17, ms18, hB, hT⟩ := hT
    refine t_call (t_runV (i := 9) hC hI (xst hI (Nat.le_of_ble_eq_true rfl) sl_9) rfl (um_X2_test l D dA ad Hs hC.2.2 144 3120 _ _ (rd_AF l D dA ad Hs hC.2.2 12).1 (rd_AF l D dA ad Hs hC.2.2 12).2 mc17 ms18 σ14 _ _ hT) (lw_V q946 q948 qs19 q163 q949) 0 hdV_X2_test ⟨rfl, rfl⟩ ⟨Nat.le_of_ble_eq_true rfl, Nat.le_of_ble_eq_true rfl⟩ rfl hl.1 rfl (by simp only [List.map_cons, List.map_nil, List.sum_cons, List.sum_nil, va_rf_cat, vc_int, vc_long, vc_ref, vc_null]; decide) hB dX2_named_344) hI (fun σ1 H1 locs1 hE h10 hI => hthr _ _ _ _ _ _ _ _ hE hI h10 hB) (fun r16 σ15 H locs hT hI => ?_)
    refine W.eq (g2 := F0 m 347 ls [va_rf (rgR ad r16), va_rf (rgR ad r4), .ref (ad (σ11.1)), .ref (ad (σ11.1)), va_rf (rgR ad (gR σ11 q12 4))]) rfl ?_
    obtain ⟨q19, hqe_q19, hT_q19⟩ := hT
    have hl_q19 := hl
    subst hqe_q19
    replace hT := hT_q19
    refine W.eq (g2 := F0 m 347 ls [va_rf (rgR ad r16), .ref (ad q19), .ref (ad (σ11.1)), .ref (ad (σ11.1)), va_rf (rgR ad (gR σ11 q12 4))]) rfl ?_
    have hl : lv_has ls 11 [(10, .ref (ad q19)), (0, .ref (ad 9)), (2, .int x2)] := hl_q19
    obtain ⟨q20, hqe_q20, hT_q20⟩ := hT
    have hl_q20 := hl
    subst hqe_q20
    replace hT := hT_q20
    refine W.eq (g2 := F0 m 347 ls [.ref (ad q20), .ref (ad q19), .ref (ad (σ11.1)), .ref (ad (σ11.1)), va_rf (rgR ad (gR σ11 q12 4))]) rfl ?_
    have hl : lv_has ls 11 [(10, .ref (ad q19)), (0, .ref (ad 9)), (2, .int x2)] := hl_q20
    refine x_call (x_runI (i := σ11.1) hC hI (um_X10_init l D dA ad 1296 Hs hC.2.2 σ15 (σ11.1) q19 q20 _ hT) q1215 q183 q1213 q1214 rfl 2 hdS_X10_init ⟨rfl, rfl⟩ ⟨Nat.le_of_ble_eq_true rfl, Nat.le_of_ble_eq_true rfl⟩ rfl hl.1 rfl (by simp only [List.map_cons, List.map_nil, List.sum_cons, List.sum_nil, va_rf_cat, vc_int, vc_long, vc_ref, vc_null]; decide) hB dX2_named_347) hI (fun _ σ21 H locs hT hI => ?_)
    refine W.eq (g2 := F0 m 350 ls [.ref (ad (σ11.1)), va_rf (rgR ad (gR σ11 q12 4))]) rfl ?_
    obtain ⟨q23, hq24, hT⟩ := hT
    refine W.eq (congrArg (fun z => F0 m 350 ls [.ref (ad (σ11.1)), z]) (xrq hq24)) ?_
    obtain ⟨hL, hT⟩ := hT
    obtain ⟨mc27, ms28, hB, hT⟩ := hT
    refine x_call5 (x_runF (i := q23) hC hI hL rfl (um_J2_add l D dA ad 1296 Hs hC.2.2 mc27 ms28 σ21 q23 (σ11.1) _ hT) (lw_app (a := [.methodLink _ _ _, .selects _ _ _, .instanceMethod _, .initialized _]) (lw4 q848 q851 q853 q162) (lw_meth q855)) hC.2.1.2.2.2.1.2.2 1 hdF_J2_add ⟨rfl, rfl⟩ ⟨Nat.le_of_ble_eq_true rfl, Nat.le_of_ble_eq_true rfl⟩ rfl hl.1 rfl (Nat.le_of_ble_eq_true rfl) hB dX2_named_350) hI (fun r26 σ25 H locs hT hI => ?_)
    refine W.eq (g2 := F0 m 355 ls [.int r26]) rfl ?_
    refine lv_pop hx hb dX2_named_355 rfl ?_
    refine lv_iconst (v := 1) hx hb dX2_named_356 (by decide) ?_
    exact hret _ _ _ _ _ _ _ _ rfl hT hI hB dX2_named_357
  have w_230 : ∀ (x2 : Int32) (s0 : Int32) (cx : Nat) (zx : Nat) (σ : CS) (H : Heap) (locs : List Loc) (ls : Array Slot), U_X2_named_230 mc ms K E x1 x2 s0 cx zx σ → xI D dA ad 1296 Hs s.heap σ H locs → (cx ≤ mc ∧ zx ≤ ms) → lv_has ls 11 [(0, .ref (ad 9)), (2, .int x2)] → W p l e ({ frames := 154, cells := mc, slots := ms, locals := 3335 }) s m args below meth c H locs cx zx Q (F0 m 230 ls [.int s0, .ref (ad 9)]) := by
    intro x2 s0 cx zx σ H locs ls hT hI hB hl
    unfold U_X2_named_230 at hT
    refine lv_iload_n hx hb dX2_named_230 rfl (lv_at hl 1 rfl) ?_
    refine t_call (t_runV (i := 9) hC hI (xst hI (Nat.le_of_ble_eq_true rfl) sl_9) rfl (um_X2_most l D dA ad Hs hC.2.2 σ s0 x2 _ _ hT) (lw_V q572 q574 qs6 q163 q575) 2 hdV_X2_most ⟨rfl, rfl⟩ ⟨Nat.le_of_ble_eq_true rfl, Nat.le_of_ble_eq_true rfl⟩ rfl hl.1 rfl (Nat.le_of_ble_eq_true rfl) hB dX2_named_231) hI (fun σ1 H1 locs1 hE h10 hI => hthr _ _ _ _ _ _ _ _ hE hI h10 hB) (fun _ σ29 H locs hT hI => ?_)
    refine W.eq (g2 := F0 m 234 ls []) rfl ?_
    refine lv_aload_n hx hb dX2_named_234 rfl (lv_at hl 0 rfl) ?_
    obtain ⟨mc33, ms34, hB, hT⟩ := hT
    refine t_call (t_runV (i := 9) hC hI (xst hI (Nat.le_of_ble_eq_true rfl) sl_9) rfl (um_X2_fresh l D dA ad Hs hC.2.2 mc33 ms34 σ29 _ _ hT) (lw_V q749 q751 qs11 q163 q752) 0 hdV_X2_fresh ⟨rfl, rfl⟩ ⟨Nat.le_of_ble_eq_true rfl, Nat.le_of_ble_eq_true rfl⟩ rfl hl.1 rfl (Nat.le_of_ble_eq_true rfl) hB dX2_named_235) hI (fun σ1 H1 locs1 hE h10 hI => hthr _ _ _ _ _ _ _ _ hE hI h10 hB) (fun r32 σ31 H locs hT hI => ?_)
    refine W.eq (g2 := F0 m 238 ls [va_rf (rgR ad r32)]) rfl ?_
    refine x_astore (lv' := [(8, va_rf (rgR ad r32)), (0, .ref (ad 9)), (2, .int x2)]) hx hb dX2_named_238 hl (Nat.le_of_ble_eq_true rfl) rfl (fun ls hl => ?_)
    refine lv_aload_n hx hb dX2_named_240 rfl (lv_at hl 1 rfl) ?_
    refine x_ldcS (q := 1048606) hC (List.mem_of_getElem? (i := 6) rfl) dX2_named_241 ?_
    refine lv_iconst (v := 0) hx hb dX2_named_243 (by decide) ?_
    refine lv_bipush (v := 9) hx hb dX2_named_244 (by decide) ?_
    obtain ⟨mc37, ms38, hB, hT⟩ := hT
    refine t_call (t_runV (i := 9) hC hI (xst hI (Nat.le_of_ble_eq_true rfl) sl_9) rfl (um_X2_number l D dA ad Hs hC.2.2 mc37 ms38 σ31 1048606 0 9 _ _ hT) (lw_V q802 q804 qs13 q163 q805) 3 hdV_X2_number ⟨rfl, rfl⟩ ⟨Nat.le_of_ble_eq_true rfl, Nat.le_of_ble_eq_true rfl⟩ rfl hl.1 rfl (Nat.le_of_ble_eq_true rfl) hB dX2_named_246) hI (fun σ1 H1 locs1 hE h10 hI => hthr _ _ _ _ _ _ _ _ hE hI h10 hB) (fun r36 σ35 H locs hT hI => ?_)
    refine W.eq (g2 := F0 m 249 ls [.int r36]) rfl ?_
    refine lv_istore (lv' := [(9, .int r36), (8, va_rf (rgR ad r32)), (0, .ref (ad 9)), (2, .int x2)]) hx hb dX2_named_249 hl (Nat.le_of_ble_eq_true rfl) (by simp [va_rf_cat, vc_int, vc_long, vc_ref, vc_null]) (fun ls hl => ?_)
    refine lv_aload_n hx hb dX2_named_251 rfl (lv_at hl 2 rfl) ?_
    refine xg2_6 (i := 9) hC hI (xst hI (Nat.le_of_ble_eq_true rfl) sl_9) q370 (fun _ h => h) dX2_named_252 ?_
    obtain ⟨q39, hq40, hT⟩ := hT
    refine W.eq (congrArg (fun z => F0 m 255 ls [z]) (xrq hq40)) ?_
    obtain ⟨hL, hT⟩ := hT
    refine xgN1_3 (i := q39) hC hI hL q250 (fun _ h => h) dX2_named_255 ?_
    have hB := hT.1
    refine xnew8 hC hI q924 hT dX2_named_258 (fun σ41 H hT hI => ?_)
    refine lv_dup hx hb dX2_named_261 rfl ?_
    refine x_aload hx hb dX2_named_262 (lv_at hl 1 rfl) ?_
    refine lv_iload hx hb dX2_named_264 (lv_at hl 0 rfl) ?_
    refine lv_aload_n hx hb dX2_named_266 rfl (lv_at hl 2 rfl) ?_
    refine x_ldcS (q := 1048630) hC (List.mem_of_getElem? (i := 7) rfl) dX2_named_267 ?_
    refine lv_iconst (v := 1) hx hb dX2_named_269 (by decide) ?_
    refine lv_bipush (v := 24) hx hb dX2_named_270 (by decide) ?_
    obtain ⟨mc44, ms45, hB, hT⟩ := hT
    refine t_call (t_runV (i := 9) hC hI (xst hI (Nat.le_of_ble_eq_true rfl) sl_9) rfl (um_X2_number l D dA ad Hs hC.2.2 mc44 ms45 σ41 1048630 1 24 _ _ hT) (lw_V q802 q804 qs13 q163 q805) 3 hdV_X2_number ⟨rfl, rfl⟩ ⟨Nat.le_of_ble_eq_true rfl, Nat.le_of_ble_eq_true rfl⟩ rfl hl.1 rfl (by simp only [List.map_cons, List.map_nil, List.sum_cons, List.sum_nil, va_rf_cat, vc_int, vc_long, vc_ref, vc_null]; decide) hB dX2_named_272) hI (fun σ1 H1 locs1 hE h10 hI => hthr _ _ _ _ _ _ _ _ hE hI h10 hB) (fun r43 σ42 H locs hT hI => ?_)
    refine W.eq (g2 := F0 m 275 ls [.int r43, .int r36, va_rf (rgR ad r32), .ref (ad (σ35.1)), .ref (ad (σ35.1)), va_rf (rgR ad (gR σ35 q39 3))]) rfl ?_
    obtain ⟨q46, hqe_q46, hT_q46⟩ := hT
    have hl_q46 := hl
    subst hqe_q46
    replace hT := hT_q46
    refine W.eq (g2 := F0 m 275 ls [.int r43, .int r36, .ref (ad q46), .ref (ad (σ35.1)), .ref (ad (σ35.1)), va_rf (rgR ad (gR σ35 q39 3))]) rfl ?_
    have hl : lv_has ls 11 [(9, .int r36), (8, .ref (ad q46)), (0, .ref (ad 9)), (2, .int x2)] := hl_q46
    refine x_call (x_runI (i := σ35.1) hC hI (um_X9_init l D dA ad 1296 Hs hC.2.2 σ42 (σ35.1) q46 r36 r43 _ hT) q929 q182 q927 q928 rfl 3 hdS_X9_init ⟨rfl, rfl⟩ ⟨Nat.le_of_ble_eq_true rfl, Nat.le_of_ble_eq_true rfl⟩ rfl hl.1 rfl (by simp only [List.map_cons, List.map_nil, List.sum_cons, List.sum_nil, va_rf_cat, vc_int, vc_long, vc_ref, vc_null]; decide) hB dX2_named_275) hI (fun _ σ47 H locs hT hI => ?_)
    refine W.eq (g2 := F0 m 278 ls [.ref (ad (σ35.1)), va_rf (rgR ad (gR σ35 q39 3))]) rfl ?_
    obtain ⟨q49, hq50, hT⟩ := hT
    refine W.eq (congrArg (fun z => F0 m 278 ls [.ref (ad (σ35.1)), z]) (xrq hq50)) ?_
    obtain ⟨hL, hT⟩ := hT
    obtain ⟨mc53, ms54, hB, hT⟩ := hT
    refine x_call5 (x_runF (i := q49) hC hI hL rfl (um_J2_add l D dA ad 1296 Hs hC.2.2 mc53 ms54 σ47 q49 (σ35.1) _ hT) (lw_app (a := [.methodLink _ _ _, .selects _ _ _, .instanceMethod _, .initialized _]) (lw4 q848 q851 q853 q162) (lw_meth q855)) hC.2.1.2.2.2.1.2.2 1 hdF_J2_add ⟨rfl, rfl⟩ ⟨Nat.le_of_ble_eq_true rfl, Nat.le_of_ble_eq_true rfl⟩ rfl hl.1 rfl (Nat.le_of_ble_eq_true rfl) hB dX2_named_278) hI (fun r52 σ51 H locs hT hI => ?_)
    refine W.eq (g2 := F0 m 283 ls [.int r52]) rfl ?_
    refine lv_pop hx hb dX2_named_283 rfl ?_
    refine lv_iconst (v := 1) hx hb dX2_named_284 (by decide) ?_
    exact hret _ _ _ _ _ _ _ _ rfl hT hI hB dX2_named_285
  have w_139 : ∀ (x2 : Int32) (s0 : Int32) (cx : Nat) (zx : Nat) (σ : CS) (H : Heap) (locs : List Loc) (ls : Array Slot), U_X2_named_139 mc ms K E x1 x2 s0 cx zx σ → xI D dA ad 1296 Hs s.heap σ H locs → (cx ≤ mc ∧ zx ≤ ms) → lv_has ls 11 [(0, .ref (ad 9)), (2, .int x2)] → W p l e ({ frames := 154, cells := mc, slots := ms, locals := 3335 }) s m args below meth c H locs cx zx Q (F0 m 139 ls [.int s0, .ref (ad 9)]) := by
    intro x2 s0 cx zx σ H locs ls hT hI hB hl
    unfold U_X2_named_139 at hT
    refine lv_iload_n hx hb dX2_named_139 rfl (lv_at hl 1 rfl) ?_
    refine t_call (t_runV (i := 9) hC hI (xst hI (Nat.le_of_ble_eq_true rfl) sl_9) rfl (um_X2_most l D dA ad Hs hC.2.2 σ s0 x2 _ _ hT) (lw_V q572 q574 qs6 q163 q575) 2 hdV_X2_most ⟨rfl, rfl⟩ ⟨Nat.le_of_ble_eq_true rfl, Nat.le_of_ble_eq_true rfl⟩ rfl hl.1 rfl (Nat.le_of_ble_eq_true rfl) hB dX2_named_140) hI (fun σ1 H1 locs1 hE h10 hI => hthr _ _ _ _ _ _ _ _ hE hI h10 hB) (fun _ σ55 H locs hT hI => ?_)
    refine W.eq (g2 := F0 m 143 ls []) rfl ?_
    refine lv_aload_n hx hb dX2_named_143 rfl (lv_at hl 0 rfl) ?_
    obtain ⟨mc59, ms60, hB, hT⟩ := hT
    refine t_call (t_runV (i := 9) hC hI (xst hI (Nat.le_of_ble_eq_true rfl) sl_9) rfl (um_X2_fresh l D dA ad Hs hC.2.2 mc59 ms60 σ55 _ _ hT) (lw_V q749 q751 qs11 q163 q752) 0 hdV_X2_fresh ⟨rfl, rfl⟩ ⟨Nat.le_of_ble_eq_true rfl, Nat.le_of_ble_eq_true rfl⟩ rfl hl.1 rfl (Nat.le_of_ble_eq_true rfl) hB dX2_named_144) hI (fun σ1 H1 locs1 hE h10 hI => hthr _ _ _ _ _ _ _ _ hE hI h10 hB) (fun r58 σ57 H locs hT hI => ?_)
    refine W.eq (g2 := F0 m 147 ls [va_rf (rgR ad r58)]) rfl ?_
    refine x_astore (lv' := [(5, va_rf (rgR ad r58)), (0, .ref (ad 9)), (2, .int x2)]) hx hb dX2_named_147 hl (Nat.le_of_ble_eq_true rfl) rfl (fun ls hl => ?_)
    refine lv_aload_n hx hb dX2_named_149 rfl (lv_at hl 1 rfl) ?_
    refine x_ldcS (q := 1048592) hC (List.mem_of_getElem? (i := 3) rfl) dX2_named_150 ?_
    refine lv_iconst (v := 0) hx hb dX2_named_152 (by decide) ?_
    refine lv_bipush (v := 99) hx hb dX2_named_153 (by decide) ?_
    obtain ⟨mc63, ms64, hB, hT⟩ := hT
    refine t_call (t_runV (i := 9) hC hI (xst hI (Nat.le_of_ble_eq_true rfl) sl_9) rfl (um_X2_number l D dA ad Hs hC.2.2 mc63 ms64 σ57 1048592 0 99 _ _ hT) (lw_V q802 q804 qs13 q163 q805) 3 hdV_X2_number ⟨rfl, rfl⟩ ⟨Nat.le_of_ble_eq_true rfl, Nat.le_of_ble_eq_true rfl⟩ rfl hl.1 rfl (Nat.le_of_ble_eq_true rfl) hB dX2_named_155) hI (fun σ1 H1 locs1 hE h10 hI => hthr _ _ _ _ _ _ _ _ hE hI h10 hB) (fun r62 σ61 H locs hT hI => ?_)
    refine W.eq (g2 := F0 m 158 ls [.int r62]) rfl ?_
    refine lv_istore (lv' := [(6, .int r62), (5, va_rf (rgR ad r58)), (0, .ref (ad 9)), (2, .int x2)]) hx hb dX2_named_158 hl (Nat.le_of_ble_eq_true rfl) (by simp [va_rf_cat, vc_int, vc_long, vc_ref, vc_null]) (fun ls hl => ?_)
    refine lv_aload_n hx hb dX2_named_160 rfl (lv_at hl 2 rfl) ?_
    refine x_ldcS (q := 1048594) hC (List.mem_of_getElem? (i := 4) rfl) dX2_named_161 ?_
    refine lv_iconst (v := 0) hx hb dX2_named_163 (by decide) ?_
    refine lv_bipush (v := 99) hx hb dX2_named_164 (by decide) ?_
    obtain ⟨mc67, ms68, hB, hT⟩ := hT
    refine t_call (t_runV (i := 9) hC hI (xst hI (Nat.le_of_ble_eq_true rfl) sl_9) rfl (um_X2_number l D dA ad Hs hC.2.2 mc67 ms68 σ61 1048594 0 99 _ _ hT) (lw_V q802 q804 qs13 q163 q805) 3 hdV_X2_number ⟨rfl, rfl⟩ ⟨Nat.le_of_ble_eq_true rfl, Nat.le_of_ble_eq_true rfl⟩ rfl hl.1 rfl (Nat.le_of_ble_eq_true rfl) hB dX2_named_166) hI (fun σ1 H1 locs1 hE h10 hI => hthr _ _ _ _ _ _ _ _ hE hI h10 hB) (fun r66 σ65 H locs hT hI => ?_)
    refine W.eq (g2 := F0 m 169 ls [.int r66]) rfl ?_
    refine lv_istore (lv' := [(7, .int r66), (6, .int r62), (5, va_rf (rgR ad r58)), (0, .ref (ad 9)), (2, .int x2)]) hx hb dX2_named_169 hl (Nat.le_of_ble_eq_true rfl) rfl (fun ls hl => ?_)
    refine lv_aload_n hx hb dX2_named_171 rfl (lv_at hl 3 rfl) ?_
    refine xg2_6 (i := 9) hC hI (xst hI (Nat.le_of_ble_eq_true rfl) sl_9) q370 (fun _ h => h) dX2_named_172 ?_
    obtain ⟨q69, hq70, hT⟩ := hT
    refine W.eq (congrArg (fun z => F0 m 175 ls [z]) (xrq hq70)) ?_
    obtain ⟨hL, hT⟩ := hT
    refine xgN1_2 (i := q69) hC hI hL q247 (fun _ h => h) dX2_named_175 ?_
    have hB := hT.1
    refine xnew7 hC hI q818 hT dX2_named_178 (fun σ71 H hT hI => ?_)
    refine lv_dup hx hb dX2_named_181 rfl ?_
    refine x_aload hx hb dX2_named_182 (lv_at hl 2 rfl) ?_
    refine lv_iload hx hb dX2_named_184 (lv_at hl 1 rfl) ?_
    refine lv_iload hx hb dX2_named_186 (lv_at hl 0 rfl) ?_
    refine lv_aload_n hx hb dX2_named_188 rfl (lv_at hl 3 rfl) ?_
    refine x_ldcS (q := 1048596) hC (List.mem_of_getElem? (i := 5) rfl) dX2_named_189 ?_
    refine lv_iconst (v := 0) hx hb dX2_named_191 (by decide) ?_
    refine lv_bipush (v := 9) hx hb dX2_named_192 (by decide) ?_
    obtain ⟨mc74, ms75, hB, hT⟩ := hT
    refine t_call (t_runV (i := 9) hC hI (xst hI (Nat.le_of_ble_eq_true rfl) sl_9) rfl (um_X2_number l D dA ad Hs hC.2.2 mc74 ms75 σ71 1048596 0 9 _ _ hT) (lw_V q802 q804 qs13 q163 q805) 3 hdV_X2_number ⟨rfl, rfl⟩ ⟨Nat.le_of_ble_eq_true rfl, Nat.le_of_ble_eq_true rfl⟩ rfl hl.1 rfl (by simp only [List.map_cons, List.map_nil, List.sum_cons, List.sum_nil, va_rf_cat, vc_int, vc_long, vc_ref, vc_null]; decide) hB dX2_named_194) hI (fun σ1 H1 locs1 hE h10 hI => hthr _ _ _ _ _ _ _ _ hE hI h10 hB) (fun r73 σ72 H locs hT hI => ?_)
    refine W.eq (g2 := F0 m 197 ls [.int r73, .int r66, .int r62, va_rf (rgR ad r58), .ref (ad (σ65.1)), .ref (ad (σ65.1)), va_rf (rgR ad (gR σ65 q69 2))]) rfl ?_
    obtain ⟨q76, hqe_q76, hT_q76⟩ := hT
    have hl_q76 := hl
    subst hqe_q76
    replace hT := hT_q76
    refine W.eq (g2 := F0 m 197 ls [.int r73, .int r66, .int r62, .ref (ad q76), .ref (ad (σ65.1)), .ref (ad (σ65.1)), va_rf (rgR ad (gR σ65 q69 2))]) rfl ?_
    have hl : lv_has ls 11 [(7, .int r66), (6, .int r62), (5, .ref (ad q76)), (0, .ref (ad 9)), (2, .int x2)] := hl_q76
    refine x_call (x_runI (i := σ65.1) hC hI (um_X8_init l D dA ad 1296 Hs hC.2.2 σ72 (σ65.1) q76 r62 r66 r73 _ hT) q823 q178 q821 q822 rfl 4 hdS_X8_init ⟨rfl, rfl⟩ ⟨Nat.le_of_ble_eq_true rfl, Nat.le_of_ble_eq_true rfl⟩ rfl hl.1 rfl (by simp only [List.map_cons, List.map_nil, List.sum_cons, List.sum_nil, va_rf_cat, vc_int, vc_long, vc_ref, vc_null]; decide) hB dX2_named_197) hI (fun _ σ77 H locs hT hI => ?_)
    refine W.eq (g2 := F0 m 200 ls [.ref (ad (σ65.1)), va_rf (rgR ad (gR σ65 q69 2))]) rfl ?_
    obtain ⟨q79, hq80, hT⟩ := hT
    refine W.eq (congrArg (fun z => F0 m 200 ls [.ref (ad (σ65.1)), z]) (xrq hq80)) ?_
    obtain ⟨hL, hT⟩ := hT
    obtain ⟨mc83, ms84, hB, hT⟩ := hT
    refine x_call5 (x_runF (i := q79) hC hI hL rfl (um_J2_add l D dA ad 1296 Hs hC.2.2 mc83 ms84 σ77 q79 (σ65.1) _ hT) (lw_app (a := [.methodLink _ _ _, .selects _ _ _, .instanceMethod _, .initialized _]) (lw4 q848 q851 q853 q162) (lw_meth q855)) hC.2.1.2.2.2.1.2.2 1 hdF_J2_add ⟨rfl, rfl⟩ ⟨Nat.le_of_ble_eq_true rfl, Nat.le_of_ble_eq_true rfl⟩ rfl hl.1 rfl (Nat.le_of_ble_eq_true rfl) hB dX2_named_200) hI (fun r82 σ81 H locs hT hI => ?_)
    refine W.eq (g2 := F0 m 205 ls [.int r82]) rfl ?_
    refine lv_pop hx hb dX2_named_205 rfl ?_
    refine lv_iconst (v := 1) hx hb dX2_named_206 (by decide) ?_
    exact hret _ _ _ _ _ _ _ _ rfl hT hI hB dX2_named_207
  have w_86 : ∀ (x2 : Int32) (x4 : Int32) (cx : Nat) (zx : Nat) (σ : CS) (H : Heap) (locs : List Loc) (ls : Array Slot), U_X2_named_86 mc ms K E x1 x2 x4 cx zx σ → xI D dA ad 1296 Hs s.heap σ H locs → (cx ≤ mc ∧ zx ≤ ms) → lv_has ls 11 [(0, .ref (ad 9)), (2, .int x2), (4, .int x4)] → W p l e ({ frames := 154, cells := mc, slots := ms, locals := 3335 }) s m args below meth c H locs cx zx Q (F0 m 86 ls []) := by
    intro x2 x4 cx zx σ H locs ls hT hI hB hl
    unfold U_X2_named_86 at hT
    refine lv_iload hx hb dX2_named_86 (lv_at hl 2 rfl) ?_
    by_cases c0 : x4 = 0
    · replace hT := hT.1 c0
      refine lv_tableIn (tgt := 116) hx hb dX2_named_88 (by rw [c0]; decide) (by rw [c0]; decide) (by rw [c0]; rfl) (by decide) ?_
      refine lv_aload_n hx hb dX2_named_116 rfl (lv_at hl 0 rfl) ?_
      refine lv_aload_n hx hb dX2_named_117 rfl (lv_at hl 0 rfl) ?_
      refine xg2_6 (i := 9) hC hI (xst hI (Nat.le_of_ble_eq_true rfl) sl_9) q370 (fun _ h => h) dX2_named_118 ?_
      obtain ⟨q85, hq86, hT⟩ := hT
      refine W.eq (congrArg (fun z => F0 m 121 ls [z, .ref (ad 9)]) (xrq hq86)) ?_
      obtain ⟨hL, hT⟩ := hT
      refine xgN1_2 (i := q85) hC hI hL q247 (fun _ h => h) dX2_named_121 ?_
      obtain ⟨q87, hq88, hT⟩ := hT
      refine W.eq (congrArg (fun z => F0 m 124 ls [z, .ref (ad 9)]) (xrq hq88)) ?_
      obtain ⟨hL, hT⟩ := hT
      refine x_call5 (x_runF (i := q87) hC hI hL rfl (um_J2_size l D dA ad 1296 Hs hC.2.2 σ q87 _ hT) (lw_app (a := [.methodLink _ _ _, .selects _ _ _, .instanceMethod _, .initialized _]) (lw4 q740 q744 q746 q162) (lw_meth q748)) hC.2.1.2.2.2.1.1 0 hdF_J2_size ⟨rfl, rfl⟩ ⟨Nat.le_of_ble_eq_true rfl, Nat.le_of_ble_eq_true rfl⟩ rfl hl.1 rfl (Nat.le_of_ble_eq_true rfl) hB dX2_named_124) hI (fun r90 σ89 H locs hT hI => ?_)
      refine W.eq (g2 := F0 m 129 ls [.int r90, .ref (ad 9)]) rfl ?_
      refine lv_bipush (v := 8) hx hb dX2_named_129 (by decide) ?_
      refine lv_icmp_ne (tgt := 138) hx hb dX2_named_131 (by decide) (fun hc => ?_) (fun hc => ?_)
      · replace hT := hT.1 hc
        refine lv_iconst (v := 0) hx hb dX2_named_138 (by decide) ?_
        exact w_139 x2 0 cx zx σ89 _ _ _ hT hI hB (lv_sub hl [0, 1] rfl)
      · replace hT := hT.2 hc
        refine lv_iconst (v := 1) hx hb dX2_named_134 (by decide) ?_
        refine lv_goto (tgt := 139) hx hb dX2_named_135 (by decide) ?_
        exact w_139 x2 1 cx zx σ89 _ _ _ hT hI hB (lv_sub hl [0, 1] rfl)
    replace hT := hT.2 c0
    by_cases c1 : x4 = 1
    · replace hT := hT.1 c1
      refine lv_tableIn (tgt := 208) hx hb dX2_named_88 (by rw [c1]; decide) (by rw [c1]; decide) (by rw [c1]; rfl) (by decide) ?_
      refine lv_aload_n hx hb dX2_named_208 rfl (lv_at hl 0 rfl) ?_
      refine lv_aload_n hx hb dX2_named_209 rfl (lv_at hl 0 rfl) ?_
      refine xg2_6 (i := 9) hC hI (xst hI (Nat.le_of_ble_eq_true rfl) sl_9) q370 (fun _ h => h) dX2_named_210 ?_
      obtain ⟨q91, hq92, hT⟩ := hT
      refine W.eq (congrArg (fun z => F0 m 213 ls [z, .ref (ad 9)]) (xrq hq92)) ?_
      obtain ⟨hL, hT⟩ := hT
      refine xgN1_3 (i := q91) hC hI hL q250 (fun _ h => h) dX2_named_213 ?_
      obtain ⟨q93, hq94, hT⟩ := hT
      refine W.eq (congrArg (fun z => F0 m 216 ls [z, .ref (ad 9)]) (xrq hq94)) ?_
      obtain ⟨hL, hT⟩ := hT
      refine x_call5 (x_runF (i := q93) hC hI hL rfl (um_J2_size l D dA ad 1296 Hs hC.2.2 σ q93 _ hT) (lw_app (a := [.methodLink _ _ _, .selects _ _ _, .instanceMethod _, .initialized _]) (lw4 q740 q744 q746 q162) (lw_meth q748)) hC.2.1.2.2.2.1.1 0 hdF_J2_size ⟨rfl, rfl⟩ ⟨Nat.le_of_ble_eq_true rfl, Nat.le_of_ble_eq_true rfl⟩ rfl hl.1 rfl (Nat.le_of_ble_eq_true rfl) hB dX2_named_216) hI (fun r96 σ95 H locs hT hI => ?_)
      refine W.eq (g2 := F0 m 221 ls [.int r96, .ref (ad 9)]) rfl ?_
      refine lv_iconst (v := 4) hx hb dX2_named_221 (by decide) ?_
      refine lv_icmp_ne (tgt := 229) hx hb dX2_named_222 (by decide) (fun hc => ?_) (fun hc => ?_)
      · replace hT := hT.1 hc
        refine lv_iconst (v := 0) hx hb dX2_named_229 (by decide) ?_
        exact w_230 x2 0 cx zx σ95 _ _ _ hT hI hB (lv_sub hl [0, 1] rfl)
      · replace hT := hT.2 hc
        refine lv_iconst (v := 1) hx hb dX2_named_225 (by decide) ?_
        refine lv_goto (tgt := 230) hx hb dX2_named_226 (by decide) ?_
        exact w_230 x2 1 cx zx σ95 _ _ _ hT hI hB (lv_sub hl [0, 1] rfl)
    replace hT := hT.2 c1
    by_cases c2 : x4 = 2
    · replace hT := hT.1 c2
      refine lv_tableIn (tgt := 286) hx hb dX2_named_88 (by rw [c2]; decide) (by rw [c2]; decide) (by rw [c2]; rfl) (by decide) ?_
      refine lv_aload_n hx hb dX2_named_286 rfl (lv_at hl 0 rfl) ?_
      refine lv_aload_n hx hb dX2_named_287 rfl (lv_at hl 0 rfl) ?_
      refine xg2_6 (i := 9) hC hI (xst hI (Nat.le_of_ble_eq_true rfl) sl_9) q370 (fun _ h => h) dX2_named_288 ?_
      obtain ⟨q97, hq98, hT⟩ := hT
      refine W.eq (congrArg (fun z => F0 m 291 ls [z, .ref (ad 9)]) (xrq hq98)) ?_
      obtain ⟨hL, hT⟩ := hT
      refine xgN1_4 (i := q97) hC hI hL q252 (fun _ h => h) dX2_named_291 ?_
      obtain ⟨q99, hq100, hT⟩ := hT
      refine W.eq (congrArg (fun z => F0 m 294 ls [z, .ref (ad 9)]) (xrq hq100)) ?_
      obtain ⟨hL, hT⟩ := hT
      refine x_call5 (x_runF (i := q99) hC hI hL rfl (um_J2_size l D dA ad 1296 Hs hC.2.2 σ q99 _ hT) (lw_app (a := [.methodLink _ _ _, .selects _ _ _, .instanceMethod _, .initialized _]) (lw4 q740 q744 q746 q162) (lw_meth q748)) hC.2.1.2.2.2.1.1 0 hdF_J2_size ⟨rfl, rfl⟩ ⟨Nat.le_of_ble_eq_true rfl, Nat.le_of_ble_eq_true rfl⟩ rfl hl.1 rfl (Nat.le_of_ble_eq_true rfl) hB dX2_named_294) hI (fun r102 σ101 H locs hT hI => ?_)
      refine W.eq (g2 := F0 m 299 ls [.int r102, .ref (ad 9)]) rfl ?_
      refine lv_iconst (v := 5) hx hb dX2_named_299 (by decide) ?_
      refine lv_icmp_ne (tgt := 307) hx hb dX2_named_300 (by decide) (fun hc => ?_) (fun hc => ?_)
      · replace hT := hT.1 hc
        refine lv_iconst (v := 0) hx hb dX2_named_307 (by decide) ?_
        exact w_308 x2 0 cx zx σ101 _ _ _ hT hI hB (lv_sub hl [0, 1] rfl)
      · replace hT := hT.2 hc
        refine lv_iconst (v := 1) hx hb dX2_named_303 (by decide) ?_
        refine lv_goto (tgt := 308) hx hb dX2_named_304 (by decide) ?_
        exact w_308 x2 1 cx zx σ101 _ _ _ hT hI hB (lv_sub hl [0, 1] rfl)
    replace hT := hT.2 c2
    refine lv_tableOut (tgt := 358) hx hb dX2_named_88 (ts_out0 (n := 3) (by decide) (fun k hk => by rcases (show k = 0 ∨ k = 1 ∨ k = 2 by omega) with rfl | rfl | rfl <;> assumption)) (by decide) ?_
    refine lv_iconst (v := 0) hx hb dX2_named_358 (by decide) ?_
    exact hret _ _ _ _ _ _ _ _ rfl hT hI hB dX2_named_359
  unfold U_X2_named at hT
  refine lv_aload_n hx hb dX2_named_0 rfl (lv_at hl 1 rfl) ?_
  refine lv_astore_n (lv' := [(3, .ref (ad x1)), (0, .ref (ad 9)), (1, .ref (ad x1)), (2, .int x2)]) hx hb dX2_named_1 rfl hl (Nat.le_of_ble_eq_true rfl) rfl (fun ls hl => ?_)
  refine lv_iconst (v := -1) hx hb dX2_named_2 (by decide) ?_
  refine lv_istore (lv' := [(4, .int (-1)), (3, .ref (ad x1)), (0, .ref (ad 9)), (1, .ref (ad x1)), (2, .int x2)]) hx hb dX2_named_3 hl (Nat.le_of_ble_eq_true rfl) rfl (fun ls hl => ?_)
  refine lv_aload_n hx hb dX2_named_5 rfl (lv_at hl 1 rfl) ?_
  obtain ⟨hL, hT⟩ := hT
  refine x_call (x_runV (i := x1) hC hI hL rfl (um_J6_hashCode l D dA ad 1296 Hs hC.2.2 σ x1 _ hT) (lw_V q676 q677 q678 q171 q679) 0 hdV_J6_hashCode ⟨rfl, rfl⟩ ⟨Nat.le_of_ble_eq_true rfl, Nat.le_of_ble_eq_true rfl⟩ rfl hl.1 rfl (Nat.le_of_ble_eq_true rfl) hB dX2_named_6) hI (fun r104 σ103 H locs hT hI => ?_)
  refine W.eq (g2 := F0 m 9 ls [.int r104]) rfl ?_
  by_cases c0 : r104 = -1077737861
  · replace hT := hT.1 c0
    refine lv_lookup (tgt := 59) hx hb dX2_named_9 (by decide) (by rw [c0]; first | done | rfl) (by decide) ?_
    refine lv_aload_n hx hb dX2_named_59 rfl (lv_at hl 1 rfl) ?_
    refine x_ldcS (q := 1048628) hC (List.mem_of_getElem? (i := 1) rfl) dX2_named_60 ?_
    obtain ⟨hL, hT⟩ := hT
    refine x_call (x_runV (i := x1) hC hI hL rfl (um_J6_equals l D dA ad 1296 Hs hC.2.2 σ103 x1 1048628 _ hT) (lw_V q730 q731 q732 q171 q733) 1 hdV_J6_equals ⟨rfl, rfl⟩ ⟨Nat.le_of_ble_eq_true rfl, Nat.le_of_ble_eq_true rfl⟩ rfl hl.1 rfl (Nat.le_of_ble_eq_true rfl) hB dX2_named_62) hI (fun r106 σ105 H locs hT hI => ?_)
    refine W.eq (g2 := F0 m 65 ls [.int r106]) rfl ?_
    refine lv_if_eq (tgt := 86) hx hb dX2_named_65 (by decide) (fun hc => ?_) (fun hc => ?_)
    · replace hT := hT.1 hc
      exact w_86 x2 (-1) 0 0 σ105 _ _ _ hT hI hB (lv_sub hl [2, 4, 0] rfl)
    · replace hT := hT.2 hc
      refine lv_iconst (v := 1) hx hb dX2_named_68 (by decide) ?_
      refine lv_istore (lv' := [(4, .int 1), (3, .ref (ad x1)), (0, .ref (ad 9)), (1, .ref (ad x1)), (2, .int x2)]) hx hb dX2_named_69 hl (Nat.le_of_ble_eq_true rfl) rfl (fun ls hl => ?_)
      refine lv_goto (tgt := 86) hx hb dX2_named_71 (by decide) ?_
      exact w_86 x2 1 0 0 σ105 _ _ _ hT hI hB (lv_sub hl [2, 4, 0] rfl)
  replace hT := hT.2 c0
  by_cases c1 : r104 = 110331118
  · replace hT := hT.1 c1
    refine lv_lookup (tgt := 44) hx hb dX2_named_9 (by decide) (by rw [c1]; first | done | rfl) (by decide) ?_
    refine lv_aload_n hx hb dX2_named_44 rfl (lv_at hl 1 rfl) ?_
    refine x_ldcS (q := 1048626) hC (List.mem_of_getElem? (i := 0) rfl) dX2_named_45 ?_
    obtain ⟨hL, hT⟩ := hT
    refine x_call (x_runV (i := x1) hC hI hL rfl (um_J6_equals l D dA ad 1296 Hs hC.2.2 σ103 x1 1048626 _ hT) (lw_V q730 q731 q732 q171 q733) 1 hdV_J6_equals ⟨rfl, rfl⟩ ⟨Nat.le_of_ble_eq_true rfl, Nat.le_of_ble_eq_true rfl⟩ rfl hl.1 rfl (Nat.le_of_ble_eq_true rfl) hB dX2_named_47) hI (fun r108 σ107 H locs hT hI => ?_)
    refine W.eq (g2 := F0 m 50 ls [.int r108]) rfl ?_
    refine lv_if_eq (tgt := 86) hx hb dX2_named_50 (by decide) (fun hc => ?_) (fun hc => ?_)
    · replace hT := hT.1 hc
      exact w_86 x2 (-1) 0 0 σ107 _ _ _ hT hI hB (lv_sub hl [2, 4, 0] rfl)
    · replace hT := hT.2 hc
      refine lv_iconst (v := 0) hx hb dX2_named_53 (by decide) ?_
      refine lv_istore (lv' := [(4, .int 0), (3, .ref (ad x1)), (0, .ref (ad 9)), (1, .ref (ad x1)), (2, .int x2)]) hx hb dX2_named_54 hl (Nat.le_of_ble_eq_true rfl) rfl (fun ls hl => ?_)
      refine lv_goto (tgt := 86) hx hb dX2_named_56 (by decide) ?_
      exact w_86 x2 0 0 0 σ107 _ _ _ hT hI hB (lv_sub hl [2, 4, 0] rfl)
  replace hT := hT.2 c1
  by_cases c2 : r104 = 110628630
  · replace hT := hT.1 c2
    refine lv_lookup (tgt := 74) hx hb dX2_named_9 (by decide) (by rw [c2]; first | done | rfl) (by decide) ?_
    refine lv_aload_n hx hb dX2_named_74 rfl (lv_at hl 1 rfl) ?_
    refine x_ldcS (q := 1048632) hC (List.mem_of_getElem? (i := 2) rfl) dX2_named_75 ?_
    obtain ⟨hL, hT⟩ := hT
    refine x_call (x_runV (i := x1) hC hI hL rfl (um_J6_equals l D dA ad 1296 Hs hC.2.2 σ103 x1 1048632 _ hT) (lw_V q730 q731 q732 q171 q733) 1 hdV_J6_equals ⟨rfl, rfl⟩ ⟨Nat.le_of_ble_eq_true rfl, Nat.le_of_ble_eq_true rfl⟩ rfl hl.1 rfl (Nat.le_of_ble_eq_true rfl) hB dX2_named_77) hI (fun r110 σ109 H locs hT hI => ?_)
    refine W.eq (g2 := F0 m 80 ls [.int r110]) rfl ?_
    refine lv_if_eq (tgt := 86) hx hb dX2_named_80 (by decide) (fun hc => ?_) (fun hc => ?_)
    · replace hT := hT.1 hc
      exact w_86 x2 (-1) 0 0 σ109 _ _ _ hT hI hB (lv_sub hl [2, 4, 0] rfl)
    · replace hT := hT.2 hc
      refine lv_iconst (v := 2) hx hb dX2_named_83 (by decide) ?_
      refine lv_istore (lv' := [(4, .int 2), (3, .ref (ad x1)), (0, .ref (ad 9)), (1, .ref (ad x1)), (2, .int x2)]) hx hb dX2_named_84 hl (Nat.le_of_ble_eq_true rfl) rfl (fun ls hl => ?_)
      exact w_86 x2 2 0 0 σ109 _ _ _ hT hI hB (lv_sub hl [2, 4, 0] rfl)
  replace hT := hT.2 c2
  refine lv_lookup (tgt := 86) (off := 77) hx hb dX2_named_9 (by decide) (lk_out _ _ _ (by simp only [List.forall_mem_cons, List.not_mem_nil, false_implies, implies_true, and_true]; exact ⟨lk_ne c0 rfl, lk_ne c1 rfl, lk_ne c2 rfl⟩)) (by decide) ?_
  exact w_86 x2 (-1) 0 0 σ103 _ _ _ hT hI hB (lv_sub hl [2, 4, 0] rfl)
set_option maxHeartbeats 4000000 in
set_option maxRecDepth 100000 in
theorem um_X2_all (l : Launch) (D : va_G) (dA : Nat → ClassId) (ad : Nat → Nat) (Hs : Heap) (hA : cAd ad 1296 Hs.size) (mc ms : Nat) (σ : CS) (x1 : Int32) (K : Nat → CS → Prop) (E : CS → Prop) (hT : U_X2_all mc ms σ x1 K E) : vq_Met l yX2_all (ws_ yX2_all cX2_all 3 (some (.object "MendedThings$Island"))) ({ frames := 157, cells := mc, slots := ms, locals := 3404 }) (va_Pc [.ref (ad 9), .int x1] (cU D dA ad 1296 Hs σ)) (xQ (rvR ad) K (cU D dA ad 1296 Hs) (cA ad)) (xX D dA ad 1296 Hs E) mc ms (cA ad) := by
  refine xt_r (Or.inl ⟨_, rfl⟩) hA (by decide) rfl (Nat.le_of_ble_eq_true rfl) ?_
  intro p e s m args below meth c Q hC hN hret hthr hI ls hl
  have hx := hC.1.1
  have hb := hC.1.2.1
  have hB : 0 ≤ mc ∧ 0 ≤ ms := ⟨Nat.zero_le _, Nat.zero_le _⟩
  have hl : lv_has ls 3 [(0, .ref (ad 9)), (1, .int x1)] := hl
  have w_52 : ∀ (k26 : Nat → Nat → CS → Prop), (∀ (cx : Nat) (zx : Nat) (σ : CS) (H : Heap) (locs : List Loc) (ls : Array Slot), k26 cx zx σ → xI D dA ad 1296 Hs s.heap σ H locs → (cx ≤ mc ∧ zx ≤ ms) → lv_has ls 3 [(0, .ref (ad 9))] → W p l e ({ frames := 157, cells := mc, slots := ms, locals := 3404 }) s m args below meth c H locs cx zx Q (F0 m 26 ls [])) → ∀ (s0 : Int32) (cx : Nat) (zx : Nat) (σ : CS) (H : Heap) (locs : List Loc) (ls : Array Slot), U_X2_all_52 mc ms K E k26 s0 cx zx σ → xI D dA ad 1296 Hs s.heap σ H locs → (cx ≤ mc ∧ zx ≤ ms) → lv_has ls 3 [(0, .ref (ad 9))] → W p l e ({ frames := 157, cells := mc, slots := ms, locals := 3404 }) s m args below meth c H locs cx zx Q (F0 m 52 ls [.int s0, .ref (ad 9)]) := by
    intro k26 hk26 s0 cx zx σ H locs ls hT hI hB hl
    unfold U_X2_all_52 at hT
    refine lv_aload_n hx hb dX2_all_52 rfl (lv_at hl 0 rfl) ?_
    refine xg2_2 (i := 9) hC hI (xst hI (Nat.le_of_ble_eq_true rfl) sl_9) q366 (fun _ h => h) dX2_all_53 ?_
    refine t_call (t_runV (i := 9) hC hI (xst hI (Nat.le_of_ble_eq_true rfl) sl_9) rfl (um_X2_most l D dA ad Hs hC.2.2 σ s0 (gI σ 9 2) _ _ hT) (lw_V q572 q574 qs6 q163 q575) 2 hdV_X2_most ⟨rfl, rfl⟩ ⟨Nat.le_of_ble_eq_true rfl, Nat.le_of_ble_eq_true rfl⟩ rfl hl.1 rfl (Nat.le_of_ble_eq_true rfl) hB dX2_all_56) hI (fun σ1 H1 locs1 hE h10 hI => hthr _ _ _ _ _ _ _ _ hE hI h10 hB) (fun _ σ1 H locs hT hI => ?_)
    refine W.eq (g2 := F0 m 59 ls []) rfl ?_
    refine lv_aload_n hx hb dX2_all_59 rfl (lv_at hl 0 rfl) ?_
    refine xg2_6 (i := 9) hC hI (xst hI (Nat.le_of_ble_eq_true rfl) sl_9) q370 (fun _ h => h) dX2_all_60 ?_
    refine lv_dup hx hb dX2_all_63 (va_rf_cat _) ?_
    obtain ⟨q3, hq4, hT⟩ := hT
    refine W.eq (congrArg (fun z => F0 m 64 ls [z, va_rf (rgR ad (gR σ1 9 6))]) (xrq hq4)) ?_
    obtain ⟨hL, hT⟩ := hT
    refine xgN1_0 (i := q3) hC hI hL q242 (fun _ h => h) dX2_all_64 ?_
    refine lv_iconst (v := 1) hx hb dX2_all_67 (by decide) ?_
    refine lv_iadd hx hb dX2_all_68 ?_
    obtain ⟨q5, hq6, hT⟩ := hT
    refine W.eq (congrArg (fun z => F0 m 69 ls [.int ((gI σ1 q3 0) + 1), z]) (xrq hq6)) ?_
    obtain ⟨hic, hT⟩ := hT
    obtain ⟨hL, hT⟩ := hT
    refine xpN1_0 (i := q5) (v := (gI σ1 q3 0) + 1) hC hI hic hL hT q242 (fun _ h => h) dX2_all_69 (fun σ7 H locs hT hI => ?_)
    refine lv_aload_n hx hb dX2_all_72 rfl (lv_at hl 0 rfl) ?_
    obtain ⟨mc10, ms11, hB, hT⟩ := hT
    refine t_call (t_runV (i := 9) hC hI (xst hI (Nat.le_of_ble_eq_true rfl) sl_9) rfl (um_X2_word l D dA ad Hs hC.2.2 mc10 ms11 σ7 _ _ hT) (lw_V q580 q582 qs8 q163 q583) 0 hdV_X2_word ⟨rfl, rfl⟩ ⟨Nat.le_of_ble_eq_true rfl, Nat.le_of_ble_eq_true rfl⟩ rfl hl.1 rfl (Nat.le_of_ble_eq_true rfl) hB dX2_all_73) hI (fun σ1 H1 locs1 hE h10 hI => hthr _ _ _ _ _ _ _ _ hE hI h10 hB) (fun r9 σ8 H locs hT hI => ?_)
    refine W.eq (g2 := F0 m 76 ls [va_rf (rgR ad r9)]) rfl ?_
    refine x_astore_n (lv' := [(2, va_rf (rgR ad r9)), (0, .ref (ad 9))]) hx hb dX2_all_76 rfl hl (Nat.le_of_ble_eq_true rfl) rfl (fun ls hl => ?_)
    refine lv_aload_n hx hb dX2_all_77 rfl (lv_at hl 1 rfl) ?_
    refine x_aload_n hx hb dX2_all_78 rfl (lv_at hl 0 rfl) ?_
    refine lv_aload_n hx hb dX2_all_79 rfl (lv_at hl 1 rfl) ?_
    refine xg2_3 (i := 9) hC hI (xst hI (Nat.le_of_ble_eq_true rfl) sl_9) q367 (fun _ h => h) dX2_all_80 ?_
    obtain ⟨q12, hqe_q12, hT_q12⟩ := hT
    have hl_q12 := hl
    subst hqe_q12
    replace hT := hT_q12
    refine W.eq (g2 := F0 m 83 ls [.int (gI σ8 9 3), .ref (ad q12), .ref (ad 9)]) rfl ?_
    have hl : lv_has ls 3 [(2, .ref (ad q12)), (0, .ref (ad 9))] := hl_q12
    obtain ⟨mc15, ms16, hB, hT⟩ := hT
    refine t_call (t_runV (i := 9) hC hI (xst hI (Nat.le_of_ble_eq_true rfl) sl_9) rfl (um_X2_named l D dA ad Hs hC.2.2 mc15 ms16 σ8 q12 (gI σ8 9 3) _ _ hT) (lw_V q672 q674 qs10 q163 q675) 2 hdV_X2_named ⟨rfl, rfl⟩ ⟨Nat.le_of_ble_eq_true rfl, Nat.le_of_ble_eq_true rfl⟩ rfl hl.1 rfl (Nat.le_of_ble_eq_true rfl) hB dX2_all_83) hI (fun σ1 H1 locs1 hE h10 hI => hthr _ _ _ _ _ _ _ _ hE hI h10 hB) (fun r14 σ13 H locs hT hI => ?_)
    refine W.eq (g2 := F0 m 86 ls [.int r14]) rfl ?_
    refine lv_if_ne (tgt := 98) hx hb dX2_all_86 (by decide) (fun hc => ?_) (fun hc => ?_)
    · replace hT := hT.1 hc
      refine lv_aload_n hx hb dX2_all_98 rfl (lv_at hl 1 rfl) ?_
      refine lv_bipush (v := 59) hx hb dX2_all_99 (by decide) ?_
      refine t_call (t_runV (i := 9) hC hI (xst hI (Nat.le_of_ble_eq_true rfl) sl_9) rfl (um_X2_must l D dA ad Hs hC.2.2 σ13 59 _ _ hT) (lw_V q981 q983 qs23 q163 q984) 1 hdV_X2_must ⟨rfl, rfl⟩ ⟨Nat.le_of_ble_eq_true rfl, Nat.le_of_ble_eq_true rfl⟩ rfl hl.1 rfl (Nat.le_of_ble_eq_true rfl) hB dX2_all_101) hI (fun σ1 H1 locs1 hE h10 hI => hthr _ _ _ _ _ _ _ _ hE hI h10 hB) (fun _ σ17 H locs hT hI => ?_)
      refine W.eq (g2 := F0 m 104 ls []) rfl ?_
      refine lv_goto (tgt := 26) hx hb dX2_all_104 (by decide) ?_
      exact hk26 (cx + mc10 + mc15) (zx + ms11 + ms16) σ17 _ _ _ hT hI hB (lv_sub hl [1] rfl)
    · replace hT := hT.2 hc
      refine lv_aload_n hx hb dX2_all_89 rfl (lv_at hl 1 rfl) ?_
      refine lv_aload_n hx hb dX2_all_90 rfl (lv_at hl 0 rfl) ?_
      refine lv_aload_n hx hb dX2_all_91 rfl (lv_at hl 1 rfl) ?_
      refine xg2_3 (i := 9) hC hI (xst hI (Nat.le_of_ble_eq_true rfl) sl_9) q367 (fun _ h => h) dX2_all_92 ?_
      obtain ⟨mc21, ms22, hB, hT⟩ := hT
      refine t_call (t_runV (i := 9) hC hI (xst hI (Nat.le_of_ble_eq_true rfl) sl_9) rfl (um_X2_laws l D dA ad Hs hC.2.2 mc21 ms22 σ13 q12 (gI σ13 9 3) _ _ hT) (lw_V q1223 q1225 qs31 q163 q1226) 2 hdV_X2_laws ⟨rfl, rfl⟩ ⟨Nat.le_of_ble_eq_true rfl, Nat.le_of_ble_eq_true rfl⟩ rfl hl.1 rfl (Nat.le_of_ble_eq_true rfl) hB dX2_all_95) hI (fun σ1 H1 locs1 hE h10 hI => hthr _ _ _ _ _ _ _ _ hE hI h10 hB) (fun _ σ19 H locs hT hI => ?_)
      refine W.eq (g2 := F0 m 98 ls []) rfl ?_
      refine lv_aload_n hx hb dX2_all_98 rfl (lv_at hl 1 rfl) ?_
      refine lv_bipush (v := 59) hx hb dX2_all_99 (by decide) ?_
      refine t_call (t_runV (i := 9) hC hI (xst hI (Nat.le_of_ble_eq_true rfl) sl_9) rfl (um_X2_must l D dA ad Hs hC.2.2 σ19 59 _ _ hT) (lw_V q981 q983 qs23 q163 q984) 1 hdV_X2_must ⟨rfl, rfl⟩ ⟨Nat.le_of_ble_eq_true rfl, Nat.le_of_ble_eq_true rfl⟩ rfl hl.1 rfl (Nat.le_of_ble_eq_true rfl) hB dX2_all_101) hI (fun σ1 H1 locs1 hE h10 hI => hthr _ _ _ _ _ _ _ _ hE hI h10 hB) (fun _ σ23 H locs hT hI => ?_)
      refine W.eq (g2 := F0 m 104 ls []) rfl ?_
      refine lv_goto (tgt := 26) hx hb dX2_all_104 (by decide) ?_
      exact hk26 (cx + mc10 + mc15 + mc21) (zx + ms11 + ms16 + ms22) σ23 _ _ _ hT hI hB (lv_sub hl [1] rfl)
  have w_26 : ∀ (n : Nat) (cx : Nat) (zx : Nat) (σ : CS) (H : Heap) (locs : List Loc) (ls : Array Slot), U_X2_all_26 mc ms K E n cx zx σ → xI D dA ad 1296 Hs s.heap σ H locs → (cx ≤ mc ∧ zx ≤ ms) → lv_has ls 3 [(0, .ref (ad 9))] → W p l e ({ frames := 157, cells := mc, slots := ms, locals := 3404 }) s m args below meth c H locs cx zx Q (F0 m 26 ls []) := by
    intro n
    induction n with
    | zero => intro cx zx σ H locs ls hT; exact hT.elim
    | succ n ih =>
      intro cx zx σ H locs ls hT hI hB hl
      unfold U_X2_all_26 at hT
      refine lv_aload_n hx hb dX2_all_26 rfl (lv_at hl 0 rfl) ?_
      refine x_call (x_runV (i := 9) hC hI (xst hI (Nat.le_of_ble_eq_true rfl) sl_9) rfl (um_X2_here l D dA ad Hs hC.2.2 σ _ hT) (lw_V q564 q566 qs4 q163 q567) 0 hdV_X2_here ⟨rfl, rfl⟩ ⟨Nat.le_of_ble_eq_true rfl, Nat.le_of_ble_eq_true rfl⟩ rfl hl.1 rfl (Nat.le_of_ble_eq_true rfl) hB dX2_all_27) hI (fun r26 σ25 H locs hT hI => ?_)
      refine W.eq (g2 := F0 m 30 ls [.int r26]) rfl ?_
      refine lv_iconst (v := -1) hx hb dX2_all_30 (by decide) ?_
      refine lv_icmp_eq (tgt := 107) hx hb dX2_all_31 (by decide) (fun hc => ?_) (fun hc => ?_)
      · replace hT := hT.1 hc
        refine lv_aload_n hx hb dX2_all_107 rfl (lv_at hl 0 rfl) ?_
        refine xg2_6 (i := 9) hC hI (xst hI (Nat.le_of_ble_eq_true rfl) sl_9) q370 (fun _ h => h) dX2_all_108 ?_
        exact hret (gR σ25 9 6) _ _ _ _ _ _ _ hT hI hB dX2_all_111
      · replace hT := hT.2 hc
        refine lv_aload_n hx hb dX2_all_34 rfl (lv_at hl 0 rfl) ?_
        refine lv_aload_n hx hb dX2_all_35 rfl (lv_at hl 0 rfl) ?_
        refine xg2_6 (i := 9) hC hI (xst hI (Nat.le_of_ble_eq_true rfl) sl_9) q370 (fun _ h => h) dX2_all_36 ?_
        obtain ⟨q27, hq28, hT⟩ := hT
        refine W.eq (congrArg (fun z => F0 m 39 ls [z, .ref (ad 9)]) (xrq hq28)) ?_
        obtain ⟨hL, hT⟩ := hT
        refine xgN1_0 (i := q27) hC hI hL q242 (fun _ h => h) dX2_all_39 ?_
        refine lv_bipush (v := 80) hx hb dX2_all_42 (by decide) ?_
        refine lv_icmp_ne (tgt := 51) hx hb dX2_all_44 (by decide) (fun hc => ?_) (fun hc => ?_)
        · replace hT := hT.1 hc
          refine lv_iconst (v := 0) hx hb dX2_all_51 (by decide) ?_
          exact w_52 (U_X2_all_26 mc ms K E n) (ih) 0 cx zx σ25 _ _ _ hT hI hB (lv_sub hl [0] rfl)
        · replace hT := hT.2 hc
          refine lv_iconst (v := 1) hx hb dX2_all_47 (by decide) ?_
          refine lv_goto (tgt := 52) hx hb dX2_all_48 (by decide) ?_
          exact w_52 (U_X2_all_26 mc ms K E n) (ih) 1 cx zx σ25 _ _ _ hT hI hB (lv_sub hl [0] rfl)
  unfold U_X2_all at hT
  refine lv_aload_n hx hb dX2_all_0 rfl (lv_at hl 0 rfl) ?_
  have hB := hT.1
  refine xnew1 hC hI q562 hT dX2_all_1 (fun σ29 H hT hI => ?_)
  refine lv_dup hx hb dX2_all_4 rfl ?_
  obtain ⟨mc32, ms33, hB, hT⟩ := hT
  refine x_call (x_runIN (i := σ.1) hC hI (um_X1_init l D dA ad 1296 Hs hC.2.2 mc32 ms33 σ29 (σ.1) _ hT) q211 q159 q563 q210 rfl 0 hdS_X1_init ⟨rfl, rfl⟩ ⟨Nat.le_of_ble_eq_true rfl, Nat.le_of_ble_eq_true rfl⟩ rfl hl.1 rfl (Nat.le_of_ble_eq_true rfl) hB dX2_all_5) hI (fun _ σ30 H locs hT hI => ?_)
  refine W.eq (g2 := F0 m 8 ls [.ref (ad (σ.1)), .ref (ad 9)]) rfl ?_
  refine xp2_6 (i := 9) (v := (σ.1) + 1) hC hI (Nat.lt_of_lt_of_le (show _ < 1296 from (Nat.le_of_ble_eq_true rfl)) (by decide)) (xst hI (Nat.le_of_ble_eq_true rfl) sl_9) hT q370 (fun _ h => h) dX2_all_8 (fun σ34 H locs hT hI => ?_)
  refine lv_aload_n hx hb dX2_all_11 rfl (lv_at hl 0 rfl) ?_
  refine lv_iload_n hx hb dX2_all_12 rfl (lv_at hl 1 rfl) ?_
  refine xp2_1 (i := 9) (v := x1) hC hI (Nat.lt_of_lt_of_le (show _ < 1296 from (Nat.le_of_ble_eq_true rfl)) (by decide)) (xst hI (Nat.le_of_ble_eq_true rfl) sl_9) hT q365 (fun _ h => h) dX2_all_13 (fun σ35 H locs hT hI => ?_)
  refine lv_aload_n hx hb dX2_all_16 rfl (lv_at hl 0 rfl) ?_
  refine lv_iconst (v := 0) hx hb dX2_all_17 (by decide) ?_
  refine xp2_2 (i := 9) (v := 0) hC hI (Nat.lt_of_lt_of_le (show _ < 1296 from (Nat.le_of_ble_eq_true rfl)) (by decide)) (xst hI (Nat.le_of_ble_eq_true rfl) sl_9) hT q366 (fun _ h => h) dX2_all_18 (fun σ36 H locs hT hI => ?_)
  refine lv_aload_n hx hb dX2_all_21 rfl (lv_at hl 0 rfl) ?_
  refine lv_iconst (v := 0) hx hb dX2_all_22 (by decide) ?_
  refine xp2_4 (i := 9) (v := 0) hC hI (Nat.lt_of_lt_of_le (show _ < 1296 from (Nat.le_of_ble_eq_true rfl)) (by decide)) (xst hI (Nat.le_of_ble_eq_true rfl) sl_9) hT q368 (fun _ h => h) dX2_all_23 (fun σ37 H locs hT hI => ?_)
  obtain ⟨n26, hT⟩ := hT
  exact w_26 n26 (1 + mc32) (10 + ms33) σ37 _ _ _ hT hI hB (lv_sub hl [0] rfl)
set_option maxHeartbeats 4000000 in
set_option maxRecDepth 100000 in
theorem um_X2_question (l : Launch) (D : va_G) (dA : Nat → ClassId) (ad : Nat → Nat) (Hs : Heap) (hA : cAd ad 1296 Hs.size) (mc ms : Nat) (σ : CS) (x1 : Int32) (K : Nat → CS → Prop) (E : CS → Prop) (hT : U_X2_question mc ms σ x1 K E) : vq_Met l yX2_question (ws_ yX2_question cX2_question 4 (some (.object "MendedThings$Question"))) ({ frames := 155, cells := mc, slots := ms, locals := 3357 }) (va_Pc [.ref (ad 9), .int x1] (cU D dA ad 1296 Hs σ)) (xQ (rvR ad) K (cU D dA ad 1296 Hs) (cA ad)) (xX D dA ad 1296 Hs E) mc ms (cA ad) := by
  refine xt_r (Or.inl ⟨_, rfl⟩) hA (by decide) rfl (Nat.le_of_ble_eq_true rfl) ?_
  intro p e s m args below meth c Q hC hN hret hthr hI ls hl
  have hx := hC.1.1
  have hb := hC.1.2.1
  have hB : 0 ≤ mc ∧ 0 ≤ ms := ⟨Nat.zero_le _, Nat.zero_le _⟩
  have hl : lv_has ls 4 [(0, .ref (ad 9)), (1, .int x1)] := hl
  have w_82 : ∀ (s0 : Nat) (cx : Nat) (zx : Nat) (σ : CS) (H : Heap) (locs : List Loc) (ls : Array Slot), U_X2_question_82 mc ms K E s0 cx zx σ → xI D dA ad 1296 Hs s.heap σ H locs → (cx ≤ mc ∧ zx ≤ ms) → lv_has ls 4 [(0, .ref (ad 9))] → W p l e ({ frames := 155, cells := mc, slots := ms, locals := 3357 }) s m args below meth c H locs cx zx Q (F0 m 82 ls [va_rf (rgR ad s0)]) := by
    intro s0 cx zx σ H locs ls hT hI hB hl
    unfold U_X2_question_82 at hT
    refine x_astore_n (lv' := [(3, va_rf (rgR ad s0)), (0, .ref (ad 9))]) hx hb dX2_question_82 rfl hl (Nat.le_of_ble_eq_true rfl) rfl (fun ls hl => ?_)
    refine lv_aload_n hx hb dX2_question_83 rfl (lv_at hl 1 rfl) ?_
    refine x_call (x_runV (i := 9) hC hI (xst hI (Nat.le_of_ble_eq_true rfl) sl_9) rfl (um_X2_here l D dA ad Hs hC.2.2 σ _ hT) (lw_V q564 q566 qs4 q163 q567) 0 hdV_X2_here ⟨rfl, rfl⟩ ⟨Nat.le_of_ble_eq_true rfl, Nat.le_of_ble_eq_true rfl⟩ rfl hl.1 rfl (Nat.le_of_ble_eq_true rfl) hB dX2_question_84) hI (fun r2 σ1 H locs hT hI => ?_)
    refine W.eq (g2 := F0 m 87 ls [.int r2]) rfl ?_
    refine lv_iconst (v := -1) hx hb dX2_question_87 (by decide) ?_
    refine lv_icmp_eq (tgt := 101) hx hb dX2_question_88 (by decide) (fun hc => ?_) (fun hc => ?_)
    · replace hT := hT.1 hc
      refine x_aload_n hx hb dX2_question_101 rfl (lv_at hl 0 rfl) ?_
      exact hret s0 _ _ _ _ _ _ _ hT hI hB dX2_question_102
    · replace hT := hT.2 hc
      refine lv_aload_n hx hb dX2_question_91 rfl (lv_at hl 1 rfl) ?_
      refine lv_iconst (v := 1) hx hb dX2_question_92 (by decide) ?_
      refine lv_aload_n hx hb dX2_question_93 rfl (lv_at hl 1 rfl) ?_
      refine xg2_2 (i := 9) hC hI (xst hI (Nat.le_of_ble_eq_true rfl) sl_9) q366 (fun _ h => h) dX2_question_94 ?_
      refine x_call (x_runV (i := 9) hC hI (xst hI (Nat.le_of_ble_eq_true rfl) sl_9) rfl (um_X2_wrong l D dA ad Hs hC.2.2 σ1 1 (gI σ1 9 2) _ hT) (lw_V q576 q578 qs7 q163 q579) 2 hdV_X2_wrong ⟨rfl, rfl⟩ ⟨Nat.le_of_ble_eq_true rfl, Nat.le_of_ble_eq_true rfl⟩ rfl hl.1 rfl (Nat.le_of_ble_eq_true rfl) hB dX2_question_97) hI (fun r4 σ3 H locs hT hI => ?_)
      refine W.eq (g2 := F0 m 100 ls [va_rf (rgR ad r4)]) rfl ?_
      obtain ⟨h11, hT⟩ := hT
      refine W.eq (congrArg (fun z => F0 m 100 ls [z]) (xrq h11)) ?_
      exact vq_athrow hx hb dX2_question_100 (hthr _ _ _ _ _ _ _ _ hT hI (xst hI (Nat.le_of_ble_eq_true rfl) sl_10) hB)
  unfold U_X2_question at hT
  refine lv_aload_n hx hb dX2_question_0 rfl (lv_at hl 0 rfl) ?_
  refine lv_iload_n hx hb dX2_question_1 rfl (lv_at hl 1 rfl) ?_
  refine xp2_1 (i := 9) (v := x1) hC hI (Nat.lt_of_lt_of_le (show _ < 1296 from (Nat.le_of_ble_eq_true rfl)) (by decide)) (xst hI (Nat.le_of_ble_eq_true rfl) sl_9) hT q365 (fun _ h => h) dX2_question_2 (fun σ5 H locs hT hI => ?_)
  refine lv_aload_n hx hb dX2_question_5 rfl (lv_at hl 0 rfl) ?_
  refine lv_iconst (v := 0) hx hb dX2_question_6 (by decide) ?_
  refine xp2_2 (i := 9) (v := 0) hC hI (Nat.lt_of_lt_of_le (show _ < 1296 from (Nat.le_of_ble_eq_true rfl)) (by decide)) (xst hI (Nat.le_of_ble_eq_true rfl) sl_9) hT q366 (fun _ h => h) dX2_question_7 (fun σ6 H locs hT hI => ?_)
  refine lv_aload_n hx hb dX2_question_10 rfl (lv_at hl 0 rfl) ?_
  refine lv_iconst (v := 0) hx hb dX2_question_11 (by decide) ?_
  refine xp2_4 (i := 9) (v := 0) hC hI (Nat.lt_of_lt_of_le (show _ < 1296 from (Nat.le_of_ble_eq_true rfl)) (by decide)) (xst hI (Nat.le_of_ble_eq_true rfl) sl_9) hT q368 (fun _ h => h) dX2_question_12 (fun σ7 H locs hT hI => ?_)
  refine lv_aload_n hx hb dX2_question_15 rfl (lv_at hl 0 rfl) ?_
  refine lv_sipush (v := 895) hx hb dX2_question_16 (by decide) ?_
  refine xp2_5 (i := 9) (v := 895) hC hI (Nat.lt_of_lt_of_le (show _ < 1296 from (Nat.le_of_ble_eq_true rfl)) (by decide)) (xst hI (Nat.le_of_ble_eq_true rfl) sl_9) hT q369 (fun _ h => h) dX2_question_19 (fun σ8 H locs hT hI => ?_)
  refine lv_aload_n hx hb dX2_question_22 rfl (lv_at hl 0 rfl) ?_
  obtain ⟨mc11, ms12, hB, hT⟩ := hT
  refine t_call (t_runV (i := 9) hC hI (xst hI (Nat.le_of_ble_eq_true rfl) sl_9) rfl (um_X2_word l D dA ad Hs hC.2.2 mc11 ms12 σ8 _ _ hT) (lw_V q580 q582 qs8 q163 q583) 0 hdV_X2_word ⟨rfl, rfl⟩ ⟨Nat.le_of_ble_eq_true rfl, Nat.le_of_ble_eq_true rfl⟩ rfl hl.1 rfl (Nat.le_of_ble_eq_true rfl) hB dX2_question_23) hI (fun σ1 H1 locs1 hE h10 hI => hthr _ _ _ _ _ _ _ _ hE hI h10 hB) (fun r10 σ9 H locs hT hI => ?_)
  refine W.eq (g2 := F0 m 26 ls [va_rf (rgR ad r10)]) rfl ?_
  refine x_getsN (w := .ref (ad 1048579)) hC hI (List.mem_of_getElem? (i := 4) rfl) q1630 rfl dX2_question_26 ?_
  obtain ⟨q13, hqe_q13, hT_q13⟩ := hT
  have hl_q13 := hl
  subst hqe_q13
  replace hT := hT_q13
  refine W.eq (g2 := F0 m 29 ls [.ref (ad 1048579), .ref (ad q13)]) rfl ?_
  have hl : lv_has ls 4 [(0, .ref (ad 9)), (1, .int x1)] := hl_q13
  refine x_call (x_runSN hC hI (um_X0_find l D dA ad 1296 Hs hC.2.2 σ9 q13 1048579 _ hT) q759 q760 q158 q761 2 hdS_X0_find ⟨rfl, rfl⟩ ⟨Nat.le_of_ble_eq_true rfl, Nat.le_of_ble_eq_true rfl⟩ rfl hl.1 rfl (Nat.le_of_ble_eq_true rfl) hB dX2_question_29) hI (fun r15 σ14 H locs hT hI => ?_)
  refine W.eq (g2 := F0 m 32 ls [.int r15]) rfl ?_
  refine lv_istore_n (lv' := [(2, .int r15), (0, .ref (ad 9)), (1, .int x1)]) hx hb dX2_question_32 rfl hl (Nat.le_of_ble_eq_true rfl) rfl (fun ls hl => ?_)
  refine lv_iload_n hx hb dX2_question_33 rfl (lv_at hl 0 rfl) ?_
  refine lv_iconst (v := -1) hx hb dX2_question_34 (by decide) ?_
  refine lv_icmp_ne (tgt := 48) hx hb dX2_question_35 (by decide) (fun hc => ?_) (fun hc => ?_)
  · replace hT := hT.1 hc
    refine lv_iload_n hx hb dX2_question_48 rfl (lv_at hl 0 rfl) ?_
    refine lv_iconst (v := 3) hx hb dX2_question_49 (by decide) ?_
    refine lv_icmp_ge (tgt := 69) hx hb dX2_question_50 (by decide) (fun hc => ?_) (fun hc => ?_)
    · replace hT := hT.1 hc
      have hB := hT.1
      refine xnew19 hC hI q1632 hT dX2_question_69 (fun σ16 H hT hI => ?_)
      refine lv_dup hx hb dX2_question_72 rfl ?_
      refine lv_iload_n hx hb dX2_question_73 rfl (lv_at hl 0 rfl) ?_
      refine lv_null hx hb dX2_question_74 ?_
      refine lv_aload_n hx hb dX2_question_75 rfl (lv_at hl 1 rfl) ?_
      obtain ⟨mc19, ms20, hB, hT⟩ := hT
      refine t_call (t_runV (i := 9) hC hI (xst hI (Nat.le_of_ble_eq_true rfl) sl_9) rfl (um_X2_sum l D dA ad Hs hC.2.2 144 3120 _ _ (rd_AF l D dA ad Hs hC.2.2 12).1 (rd_AF l D dA ad Hs hC.2.2 12).2 mc19 ms20 σ16 _ _ hT) (lw_V q1008 q1010 qs25 q163 q1011) 0 hdV_X2_sum ⟨rfl, rfl⟩ ⟨Nat.le_of_ble_eq_true rfl, Nat.le_of_ble_eq_true rfl⟩ rfl hl.1 rfl (Nat.le_of_ble_eq_true rfl) hB dX2_question_76) hI (fun σ1 H1 locs1 hE h10 hI => hthr _ _ _ _ _ _ _ _ hE hI h10 hB) (fun r18 σ17 H locs hT hI => ?_)
      refine W.eq (g2 := F0 m 79 ls [va_rf (rgR ad r18), .null, .int r15, .ref (ad (σ14.1)), .ref (ad (σ14.1))]) rfl ?_
      refine x_call (x_runI (i := σ14.1) hC hI (um_X22_init l D dA ad 1296 Hs hC.2.2 σ17 (σ14.1) r15 0 r18 _ hT) q1636 q198 q1634 q1635 rfl 3 hdS_X22_init ⟨rfl, rfl⟩ ⟨Nat.le_of_ble_eq_true rfl, Nat.le_of_ble_eq_true rfl⟩ rfl hl.1 rfl (Nat.le_of_ble_eq_true rfl) hB dX2_question_79) hI (fun _ σ21 H locs hT hI => ?_)
      refine W.eq (g2 := F0 m 82 ls [.ref (ad (σ14.1))]) rfl ?_
      exact w_82 ((σ14.1) + 1) (0 + mc11 + 1 + mc19) (0 + ms12 + 5 + ms20) σ21 _ _ _ hT hI hB (lv_sub hl [1] rfl)
    · replace hT := hT.2 hc
      have hB := hT.1
      refine xnew19 hC hI q1632 hT dX2_question_53 (fun σ23 H hT hI => ?_)
      refine lv_dup hx hb dX2_question_56 rfl ?_
      refine lv_iload_n hx hb dX2_question_57 rfl (lv_at hl 0 rfl) ?_
      refine lv_aload_n hx hb dX2_question_58 rfl (lv_at hl 1 rfl) ?_
      obtain ⟨mc26, ms27, hB, hT⟩ := hT
      refine t_call (t_runV (i := 9) hC hI (xst hI (Nat.le_of_ble_eq_true rfl) sl_9) rfl (um_X2_test l D dA ad Hs hC.2.2 144 3120 _ _ (rd_AF l D dA ad Hs hC.2.2 12).1 (rd_AF l D dA ad Hs hC.2.2 12).2 mc26 ms27 σ23 _ _ hT) (lw_V q946 q948 qs19 q163 q949) 0 hdV_X2_test ⟨rfl, rfl⟩ ⟨Nat.le_of_ble_eq_true rfl, Nat.le_of_ble_eq_true rfl⟩ rfl hl.1 rfl (Nat.le_of_ble_eq_true rfl) hB dX2_question_59) hI (fun σ1 H1 locs1 hE h10 hI => hthr _ _ _ _ _ _ _ _ hE hI h10 hB) (fun r25 σ24 H locs hT hI => ?_)
      refine W.eq (g2 := F0 m 62 ls [va_rf (rgR ad r25), .int r15, .ref (ad (σ14.1)), .ref (ad (σ14.1))]) rfl ?_
      refine lv_null hx hb dX2_question_62 ?_
      refine x_call (x_runI (i := σ14.1) hC hI (um_X22_init l D dA ad 1296 Hs hC.2.2 σ24 (σ14.1) r15 r25 0 _ hT) q1636 q198 q1634 q1635 rfl 3 hdS_X22_init ⟨rfl, rfl⟩ ⟨Nat.le_of_ble_eq_true rfl, Nat.le_of_ble_eq_true rfl⟩ rfl hl.1 rfl (Nat.le_of_ble_eq_true rfl) hB dX2_question_63) hI (fun _ σ28 H locs hT hI => ?_)
      refine W.eq (g2 := F0 m 66 ls [.ref (ad (σ14.1))]) rfl ?_
      refine lv_goto (tgt := 82) hx hb dX2_question_66 (by decide) ?_
      exact w_82 ((σ14.1) + 1) (0 + mc11 + 1 + mc26) (0 + ms12 + 5 + ms27) σ28 _ _ _ hT hI hB (lv_sub hl [1] rfl)
  · replace hT := hT.2 hc
    refine lv_aload_n hx hb dX2_question_38 rfl (lv_at hl 1 rfl) ?_
    refine lv_iconst (v := 1) hx hb dX2_question_39 (by decide) ?_
    refine lv_aload_n hx hb dX2_question_40 rfl (lv_at hl 1 rfl) ?_
    refine xg2_3 (i := 9) hC hI (xst hI (Nat.le_of_ble_eq_true rfl) sl_9) q367 (fun _ h => h) dX2_question_41 ?_
    refine x_call (x_runV (i := 9) hC hI (xst hI (Nat.le_of_ble_eq_true rfl) sl_9) rfl (um_X2_wrong l D dA ad Hs hC.2.2 σ14 1 (gI σ14 9 3) _ hT) (lw_V q576 q578 qs7 q163 q579) 2 hdV_X2_wrong ⟨rfl, rfl⟩ ⟨Nat.le_of_ble_eq_true rfl, Nat.le_of_ble_eq_true rfl⟩ rfl hl.1 rfl (Nat.le_of_ble_eq_true rfl) hB dX2_question_44) hI (fun r31 σ30 H locs hT hI => ?_)
    refine W.eq (g2 := F0 m 47 ls [va_rf (rgR ad r31)]) rfl ?_
    obtain ⟨h11, hT⟩ := hT
    refine W.eq (congrArg (fun z => F0 m 47 ls [z]) (xrq h11)) ?_
    exact vq_athrow hx hb dX2_question_47 (hthr _ _ _ _ _ _ _ _ hT hI (xst hI (Nat.le_of_ble_eq_true rfl) sl_10) hB)
