def U_X0_put_3 (K : Unit → CS → Prop) (x1 : Int32) : Nat → Int32 → CS → Prop
  | 0 => fun _ _ => False
  | n + 1 => fun x2 σ => ((x2 < 0 → (K () σ)) ∧ (¬ x2 < 0 → (∀ σ1 : CS, σ1 = wI σ 0 2 ((gI σ 0 2) + 1) → (vp_in (gI σ 0 2) 1600 ∧ (∀ σ2 : CS, σ2 = wI σ1 8 (Int32.toNatClampNeg (gI σ 0 2)) (vp_nar .byte ((Int32.toInt8 (x1 >>> (x2 &&& 31))).toInt32)) → (U_X0_put_3 K x1 n (x2 + (-8)) σ2))))))
def U_X0_put (σ : CS) (x1 : Int32) (K : Unit → CS → Prop) : Prop := ∃ n3, U_X0_put_3 K x1 n3 24 σ
def U_X0_refuses (σ : CS) (x1 : Int32) (K : Int32 → CS → Prop) : Prop := vp_in x1 6 ∧ (vp_in x1 6 ∧ (∀ σ1 : CS, σ1 = wI σ 15 (Int32.toNatClampNeg x1) ((gI σ 15 (Int32.toNatClampNeg x1)) + 1) → (K (-1) σ1)))
def U_X0_feed (σ : CS) (x1 : Int32) (x2 : Int32) (x3 : Int32) (x4 : Int32) (x5 : Int32) (K : Int32 → CS → Prop) : Prop := ((((gI σ 0 2) + 20) ≤ (1600 : Int32) → (U_X0_put σ x1 (fun _ σ1 => (U_X0_put σ1 x2 (fun _ σ3 => (U_X0_put σ3 x3 (fun _ σ5 => (U_X0_put σ5 x4 (fun _ σ7 => (U_X0_put σ7 x5 (fun _ σ9 => (K (gI σ9 0 2) σ9)))))))))))) ∧ (¬ ((gI σ 0 2) + 20) ≤ (1600 : Int32) → (U_X0_refuses σ 0 (fun r12 σ11 => (K r12 σ11)))))
def U_X0_end_12 (K : Int32 → CS → Prop) (σ : CS) : Prop := U_X0_refuses σ 0 (fun r2 σ1 => (((r2 < 0 → (K 0 σ1)) ∧ (¬ r2 < 0 → (K 1 σ1)))))
def U_X0_end (σ : CS) (x1 : Int32) (K : Int32 → CS → Prop) : Prop := ((x1 < 0 → (U_X0_end_12 K σ)) ∧ (¬ x1 < 0 → (((x1 ≤ (gI σ 0 2) → (∀ σ3 : CS, σ3 = wI σ 0 2 x1 → (K 1 σ3))) ∧ (¬ x1 ≤ (gI σ 0 2) → (U_X0_end_12 K σ))))))
def U_X0_taken (σ : CS) (K : Int32 → CS → Prop) : Prop := ∀ σ1 : CS, σ1 = wI σ 0 2 0 → (K (gI σ 0 2) σ1)
def U_X0_fault (σ : CS) (x1 : Int32) (K : Int32 → CS → Prop) : Prop := ((¬ x1 = 0 → (((¬ x1 = 1 → (K (-1) σ)) ∧ (x1 = 1 → (K (gI σ 0 4) σ))))) ∧ (x1 = 0 → (K (gI σ 0 3) σ)))
def U_X0_useOf_4 (K : Int32 → CS → Prop) (x1 : Int32) : Nat → Int32 → Int32 → CS → Prop
  | 0 => fun _ _ _ => False
  | n + 1 => fun x2 x3 σ => U_X0_things σ (fun r2 σ1 => (((r2 ≤ x3 → (K x2 σ1)) ∧ (¬ r2 ≤ x3 → (U_X0_has σ1 x1 x3 (fun r4 σ3 => (((r4 = 0 → (U_X0_useOf_4 K x1 n (x2 + 0) (x3 + 1) σ3)) ∧ (¬ r4 = 0 → (U_X0_thingOf σ3 x3 (fun r6 σ5 => (∃ q7, r6 = q7 + 1 ∧ (gK σ5 q7 = some kO7 ∧ (U_X0_useOf_4 K x1 n (x2 + (gI σ5 q7 2)) (x3 + 1) σ5))))))))))))))
def U_X0_useOf (σ : CS) (x1 : Int32) (K : Int32 → CS → Prop) : Prop := ∃ n4, U_X0_useOf_4 K x1 n4 0 0 σ
def U_X5_are_4 (K : Int32 → CS → Prop) (ob : Nat) (x1 : Int32) : Nat → Int32 → Int32 → CS → Prop
  | 0 => fun _ _ _ => False
  | n + 1 => fun x2 x3 σ => U_X0_things σ (fun r2 σ1 => (((r2 ≤ x3 → (K x2 σ1)) ∧ (¬ r2 ≤ x3 → (vp_in x3 8 ∧ (((¬ (gI σ1 (ob + 1) (Int32.toNatClampNeg x3)) = x1 → (U_X5_are_4 K ob x1 n (x2 ||| 0) (x3 + 1) σ1)) ∧ ((gI σ1 (ob + 1) (Int32.toNatClampNeg x3)) = x1 → (U_X5_are_4 K ob x1 n (x2 ||| (1 <<< (x3 &&& 31))) (x3 + 1) σ1)))))))))
def U_X5_are (σ : CS) (ob : Nat) (x1 : Int32) (K : Int32 → CS → Prop) : Prop := ∃ n4, U_X5_are_4 K ob x1 n4 0 0 σ
def U_X5_forged_4 (K : Int32 → CS → Prop) (ob : Nat) : Nat → Int32 → Int32 → CS → Prop
  | 0 => fun _ _ _ => False
  | n + 1 => fun x1 x2 σ => U_X0_things σ (fun r2 σ1 => (((r2 ≤ x2 → (K x1 σ1)) ∧ (¬ r2 ≤ x2 → (vp_in x2 8 ∧ ((((gI σ1 (ob + 5) (Int32.toNatClampNeg x2)) = (0 : Int32) → (U_X5_forged_4 K ob n (x1 ||| 0) (x2 + 1) σ1)) ∧ (¬ (gI σ1 (ob + 5) (Int32.toNatClampNeg x2)) = (0 : Int32) → (U_X5_forged_4 K ob n (x1 ||| (1 <<< (x2 &&& 31))) (x2 + 1) σ1)))))))))
def U_X5_forged (σ : CS) (ob : Nat) (K : Int32 → CS → Prop) : Prop := ∃ n4, U_X5_forged_4 K ob n4 0 0 σ
def U_X5_stands (σ : CS) (ob : Nat) (x1 : Int32) (K : Int32 → CS → Prop) : Prop := vp_in x1 8 ∧ (((¬ (gI σ (ob + 1) (Int32.toNatClampNeg x1)) = (2 : Int32) → (K 0 σ)) ∧ ((gI σ (ob + 1) (Int32.toNatClampNeg x1)) = (2 : Int32) → (∃ q1, (gR σ 0 0) = q1 + 1 ∧ (gK σ q1 = some kO1 ∧ (((¬ (gR σ q1 5) = 0 → (∃ q3, (gR σ 0 0) = q3 + 1 ∧ (gK σ q3 = some kO1 ∧ (∃ q5, (gR σ q3 5) = q5 + 1 ∧ (U_X5_holds (U_ev 100).1 (U_ev 100).2 σ ob q5 x1 (fun r8 σ7 => (((r8 = 0 → (K 0 σ7)) ∧ (¬ r8 = 0 → (K 1 σ7)))))))))) ∧ ((gR σ q1 5) = 0 → (vp_in x1 8 ∧ ((((gI σ (ob + 3) (Int32.toNatClampNeg x1)) ≤ (0 : Int32) → (K 0 σ)) ∧ (¬ (gI σ (ob + 3) (Int32.toNatClampNeg x1)) ≤ (0 : Int32) → (K 1 σ)))))))))))))
def U_X5_standing_4 (K : Int32 → CS → Prop) (ob : Nat) : Nat → Int32 → Int32 → CS → Prop
  | 0 => fun _ _ _ => False
  | n + 1 => fun x1 x2 σ => U_X0_things σ (fun r2 σ1 => (((r2 ≤ x2 → (K x1 σ1)) ∧ (¬ r2 ≤ x2 → (U_X5_stands σ1 ob x2 (fun r4 σ3 => (((r4 = 0 → (U_X5_standing_4 K ob n (x1 ||| 0) (x2 + 1) σ3)) ∧ (¬ r4 = 0 → (U_X5_standing_4 K ob n (x1 ||| (1 <<< (x2 &&& 31))) (x2 + 1) σ3))))))))))
def U_X5_standing (σ : CS) (ob : Nat) (K : Int32 → CS → Prop) : Prop := ∃ n4, U_X5_standing_4 K ob n4 0 0 σ
def U_X0_has_2 (σ : CS) (x1 : Int32) (K : Int32 → CS → Prop) : Prop := ((x1 = 0 → (U_X0_things σ (fun r2 σ1 => (K r2 σ1)))) ∧ (¬ x1 = 0 → (((x1 = 1 → (U_X0_menders σ (fun r4 σ3 => (K r4 σ3)))) ∧ (¬ x1 = 1 → (((x1 = 2 → (U_X0_trials σ (fun r6 σ5 => (K r6 σ5)))) ∧ (¬ x1 = 2 → (((x1 = 3 → (K (gI σ 16 0) σ)) ∧ (¬ x1 = 3 → (((x1 = 4 → (U_X5_are σ 16 1 (fun r8 σ7 => (U_J16_bitCount σ7 r8 (fun r10 σ9 => (K r10 σ9)))))) ∧ (¬ x1 = 4 → (((x1 = 5 → (U_X5_are σ 16 2 (fun r12 σ11 => (U_J16_bitCount σ11 r12 (fun r14 σ13 => (K r14 σ13)))))) ∧ (¬ x1 = 5 → (((x1 = 6 → (U_X5_standing σ 16 (fun r16 σ15 => (U_J16_bitCount σ15 r16 (fun r18 σ17 => (K r18 σ17)))))) ∧ (¬ x1 = 6 → (((x1 = 7 → (U_X5_forged σ 16 (fun r20 σ19 => (U_J16_bitCount σ19 r20 (fun r22 σ21 => (K r22 σ21)))))) ∧ (¬ x1 = 7 → (((x1 = 8 → (U_X5_standing σ 16 (fun r24 σ23 => (U_X0_useOf σ23 r24 (fun r26 σ25 => (K r26 σ25)))))) ∧ (¬ x1 = 8 → (((x1 = 9 → (K (gI σ 16 1) σ)) ∧ (¬ x1 = 9 → (((x1 = 10 → (K (gI σ 0 15) σ)) ∧ (¬ x1 = 10 → (K (-1) σ)))))))))))))))))))))))))))))))))
def U_X0_letter_60 (K : Int32 → CS → Prop) (x2 : Int32) (x3 : Int32) (s0 : Nat) (σ : CS) : Prop := ∃ q1, s0 = q1 + 1 ∧ (gK σ q1 = some kO20 ∧ (U_J2_size σ q1 (fun r3 σ2 => (((r3 ≤ x2 → (K (-1) σ2)) ∧ (¬ r3 ≤ x2 → (gK σ2 q1 = some kO20 ∧ (U_J2_get σ2 q1 x2 (fun r5 σ4 => (∃ q6, r5 = q6 + 1 ∧ (isC "MendedThings$Named" σ4 q6 ∧ (isNm σ4 q6 ∧ (U_X7_letter σ4 q6 x3 (fun r8 σ7 => (K r8 σ7)))))))))))))))
def U_X0_letter (σ : CS) (x1 : Int32) (x2 : Int32) (x3 : Int32) (K : Int32 → CS → Prop) : Prop := U_X0_is σ x3 0 5 (fun r10 σ9 => (((r10 = 0 → (K (-1) σ9)) ∧ (¬ r10 = 0 → (U_X0_is σ9 x1 0 2 (fun r12 σ11 => (((r12 = 0 → (K (-1) σ11)) ∧ (¬ r12 = 0 → (((0 ≤ x2 → (((¬ x1 = 0 → (((¬ x1 = 1 → (∃ q13, (gR σ11 0 0) = q13 + 1 ∧ (gK σ11 q13 = some kO1 ∧ (U_X0_letter_60 K x2 x3 (gR σ11 q13 4) σ11)))) ∧ (x1 = 1 → (∃ q15, (gR σ11 0 0) = q15 + 1 ∧ (gK σ11 q15 = some kO1 ∧ (U_X0_letter_60 K x2 x3 (gR σ11 q15 3) σ11))))))) ∧ (x1 = 0 → (∃ q17, (gR σ11 0 0) = q17 + 1 ∧ (gK σ11 q17 = some kO1 ∧ (U_X0_letter_60 K x2 x3 (gR σ11 q17 2) σ11))))))) ∧ (¬ 0 ≤ x2 → (K (-1) σ11)))))))))))))
def U_X0_isThing (σ : CS) (x1 : Int32) (K : Int32 → CS → Prop) : Prop := ((x1 < 0 → (K 0 σ)) ∧ (¬ x1 < 0 → (U_X0_things σ (fun r2 σ1 => (((r2 ≤ x1 → (K 0 σ1)) ∧ (¬ r2 ≤ x1 → (K 1 σ1))))))))
def U_X0_thing (σ : CS) (x1 : Int32) (x2 : Int32) (K : Int32 → CS → Prop) : Prop := U_X0_isThing σ x1 (fun r2 σ1 => (((¬ r2 = 0 → (U_X0_thingOf σ1 x1 (fun r4 σ3 => (((x2 = 0 → (∃ q5, r4 = q5 + 1 ∧ (gK σ3 q5 = some kO7 ∧ (K (gI σ3 q5 1) σ3)))) ∧ (¬ x2 = 0 → (((x2 = 1 → (∃ q6, r4 = q6 + 1 ∧ (gK σ3 q6 = some kO7 ∧ (K (gI σ3 q6 2) σ3)))) ∧ (¬ x2 = 1 → (((x2 = 2 → (∃ q7, r4 = q7 + 1 ∧ (gK σ3 q7 = some kO7 ∧ (K (gI σ3 q7 3) σ3)))) ∧ (¬ x2 = 2 → (((x2 = 3 → (vp_in x1 8 ∧ (K (gI σ3 17 (Int32.toNatClampNeg x1)) σ3))) ∧ (¬ x2 = 3 → (((x2 = 4 → (vp_in x1 8 ∧ (K (gI σ3 18 (Int32.toNatClampNeg x1)) σ3))) ∧ (¬ x2 = 4 → (((x2 = 5 → (vp_in x1 8 ∧ (K (gI σ3 19 (Int32.toNatClampNeg x1)) σ3))) ∧ (¬ x2 = 5 → (((x2 = 6 → (vp_in x1 8 ∧ (K (gI σ3 20 (Int32.toNatClampNeg x1)) σ3))) ∧ (¬ x2 = 6 → (((x2 = 7 → (vp_in x1 8 ∧ ((((gI σ3 21 (Int32.toNatClampNeg x1)) = (0 : Int32) → (K 0 σ3)) ∧ (¬ (gI σ3 21 (Int32.toNatClampNeg x1)) = (0 : Int32) → (K 1 σ3)))))) ∧ (¬ x2 = 7 → (((x2 = 8 → (U_X5_stands σ3 16 x1 (fun r9 σ8 => (((r9 = 0 → (K 0 σ8)) ∧ (¬ r9 = 0 → (K 1 σ8))))))) ∧ (¬ x2 = 8 → (K (-1) σ3))))))))))))))))))))))))))))))) ∧ (r2 = 0 → (K (-1) σ1)))))
def U_X0_isMender (σ : CS) (x1 : Int32) (K : Int32 → CS → Prop) : Prop := ((x1 < 0 → (K 0 σ)) ∧ (¬ x1 < 0 → (U_X0_menders σ (fun r2 σ1 => (((r2 ≤ x1 → (K 0 σ1)) ∧ (¬ r2 ≤ x1 → (K 1 σ1))))))))
def U_X0_mender (σ : CS) (x1 : Int32) (x2 : Int32) (K : Int32 → CS → Prop) : Prop := U_X0_isMender σ x1 (fun r2 σ1 => (((¬ r2 = 0 → (((¬ x2 = 0 → (((¬ x2 = 1 → (K (-1) σ1)) ∧ (x2 = 1 → (U_X0_menderOf σ1 x1 (fun r4 σ3 => (∃ q5, r4 = q5 + 1 ∧ (gK σ3 q5 = some kO8 ∧ (K (gI σ3 q5 2) σ3))))))))) ∧ (x2 = 0 → (U_X0_menderOf σ1 x1 (fun r7 σ6 => (∃ q8, r7 = q8 + 1 ∧ (gK σ6 q8 = some kO8 ∧ (K (gI σ6 q8 1) σ6))))))))) ∧ (r2 = 0 → (K (-1) σ1)))))
def U_X5_sum (σ : CS) (ob : Nat) (x1 : Nat) (x2 : Int32) (x3 : Int32) (K : Int64 → CS → Prop) : Prop := U_X5_asks σ ob x2 (fun _ σ1 => (((¬ x3 = (-1) → (U_X0_menderOf σ1 x3 (fun r4 σ3 => (∃ q5, r4 = q5 + 1 ∧ (gK σ3 q5 = some kO8 ∧ (vp_in 7 10 ∧ (∀ σ6 : CS, σ6 = wL σ3 12 (Int32.toNatClampNeg 7) (Int32.toInt64 (gI σ3 q5 1)) → ((U_ev 100).1 σ6 x1 11 (fun r8 σ7 => (K r8 σ7)))))))))) ∧ (x3 = (-1) → (vp_in 7 10 ∧ (∀ σ9 : CS, σ9 = wL σ1 12 (Int32.toNatClampNeg 7) 0 → ((U_ev 100).1 σ9 x1 11 (fun r11 σ10 => (K r11 σ10)))))))))
def U_X5_takes (σ : CS) (ob : Nat) (x1 : Int32) (x2 : Int32) (K : Int32 → CS → Prop) : Prop := ∃ q1, (gR σ 0 0) = q1 + 1 ∧ (gK σ q1 = some kO1 ∧ (((¬ (gR σ q1 7) = 0 → (∃ q3, (gR σ 0 0) = q3 + 1 ∧ (gK σ q3 = some kO1 ∧ (∃ q5, (gR σ q3 7) = q5 + 1 ∧ (U_X5_sum σ ob q5 x1 x2 (fun r8 σ7 => (U_J12_min_2 σ7 99 r8 (fun r10 σ9 => (U_J12_max_2 σ9 1 r10 (fun r12 σ11 => (K (Int64.toInt32 r12) σ11))))))))))) ∧ ((gR σ q1 7) = 0 → (K 4 σ)))))
def U_X0_takes (σ : CS) (x1 : Int32) (x2 : Int32) (K : Int32 → CS → Prop) : Prop := U_X0_isThing σ x1 (fun r2 σ1 => (((r2 = 0 → (K (-1) σ1)) ∧ (¬ r2 = 0 → (U_X0_isMender σ1 x2 (fun r4 σ3 => (((r4 = 0 → (K (-1) σ3)) ∧ (¬ r4 = 0 → (U_X5_takes σ3 16 x1 x2 (fun r6 σ5 => (K r6 σ5))))))))))))
def U_X5_fine (σ : CS) (ob : Nat) (x1 : Int32) (x2 : Int32) (K : Int32 → CS → Prop) : Prop := ∃ q1, (gR σ 0 0) = q1 + 1 ∧ (gK σ q1 = some kO1 ∧ (((¬ (gR σ q1 8) = 0 → (∃ q3, (gR σ 0 0) = q3 + 1 ∧ (gK σ q3 = some kO1 ∧ (∃ q5, (gR σ q3 8) = q5 + 1 ∧ (U_X5_sum σ ob q5 x1 x2 (fun r8 σ7 => (U_J12_min_2 σ7 99 r8 (fun r10 σ9 => (U_J12_max_2 σ9 0 r10 (fun r12 σ11 => (K (Int64.toInt32 r12) σ11))))))))))) ∧ ((gR σ q1 8) = 0 → (U_X0_menderOf σ x2 (fun r14 σ13 => (∃ q15, r14 = q15 + 1 ∧ (gK σ13 q15 = some kO8 ∧ (K (gI σ13 q15 1) σ13)))))))))
def U_X0_fine (σ : CS) (x1 : Int32) (x2 : Int32) (K : Int32 → CS → Prop) : Prop := U_X0_isThing σ x1 (fun r2 σ1 => (((r2 = 0 → (K (-1) σ1)) ∧ (¬ r2 = 0 → (U_X0_isMender σ1 x2 (fun r4 σ3 => (((r4 = 0 → (K (-1) σ3)) ∧ (¬ r4 = 0 → (U_X5_fine σ3 16 x1 x2 (fun r6 σ5 => (K r6 σ5))))))))))))
def U_X0_isTrial (σ : CS) (x1 : Int32) (K : Int32 → CS → Prop) : Prop := ((x1 < 0 → (K 0 σ)) ∧ (¬ x1 < 0 → (U_X0_trials σ (fun r2 σ1 => (((r2 ≤ x1 → (K 0 σ1)) ∧ (¬ r2 ≤ x1 → (K 1 σ1))))))))
def U_X0_trial (σ : CS) (x1 : Int32) (x2 : Int32) (K : Int32 → CS → Prop) : Prop := U_X0_isTrial σ x1 (fun r2 σ1 => (((r2 = 0 → (K (-1) σ1)) ∧ (¬ r2 = 0 → (U_X0_isThing σ1 x2 (fun r4 σ3 => (((r4 = 0 → (K (-1) σ3)) ∧ (¬ r4 = 0 → (U_X0_holdsFor (U_ev 100).1 (U_ev 100).2 σ3 x1 x2 (fun r6 σ5 => (((r6 = 0 → (K 0 σ5)) ∧ (¬ r6 = 0 → (K 1 σ5)))))))))))))))
def U_X0_kept (σ : CS) (x1 : Int32) (x2 : Int32) (K : Int32 → CS → Prop) : Prop := U_X0_is σ x1 0 ((gI σ 16 1) - 1) (fun r2 σ1 => (((r2 = 0 → (K (-1) σ1)) ∧ (¬ r2 = 0 → (U_X0_is σ1 x2 0 2 (fun r4 σ3 => (((r4 = 0 → (K (-1) σ3)) ∧ (¬ r4 = 0 → (vp_in x1 50 ∧ (∃ q5, (gR σ3 22 (Int32.toNatClampNeg x1)) = q5 + 1 ∧ (gK σ3 q5 = some (.inr (0, gN σ3 q5)) ∧ (vp_in x2 (gN σ3 q5) ∧ (K (gI σ3 q5 (Int32.toNatClampNeg x2)) σ3))))))))))))))
def U_X0_isAhead (σ : CS) (x1 : Int32) (x2 : Int32) (x3 : Int32) (K : Int32 → CS → Prop) : Prop := U_X0_is σ x1 x2 x3 (fun r2 σ1 => (((r2 = 0 → (K 0 σ1)) ∧ (¬ r2 = 0 → ((((999 : Int32) < ((gI σ1 16 0) + x1) → (K 0 σ1)) ∧ (¬ (999 : Int32) < ((gI σ1 16 0) + x1) → (K 1 σ1))))))))
def U_X5_copy_107 (K : Nat → CS → Prop) (ob : Nat) (x1 : Nat) (k97 : Int32 → CS → Prop) (x2 : Int32) : Nat → Int32 → CS → Prop
  | 0 => fun _ _ => False
  | n + 1 => fun x3 σ => ((3 ≤ x3 → (k97 (x2 + 1) σ)) ∧ (¬ 3 ≤ x3 → (vp_in x2 50 ∧ (vp_in x2 50 ∧ (∃ q1, (gR σ (x1 + 6) (Int32.toNatClampNeg x2)) = q1 + 1 ∧ (gK σ q1 = some (.inr (0, gN σ q1)) ∧ (vp_in x3 (gN σ q1) ∧ (∃ q3, (gR σ (ob + 6) (Int32.toNatClampNeg x2)) = q3 + 1 ∧ (q3 < CB ∧ (gK σ q3 = some (.inr (0, gN σ q3)) ∧ (vp_in x3 (gN σ q3) ∧ (∀ σ5 : CS, σ5 = wI σ q3 (Int32.toNatClampNeg x3) (gI σ q1 (Int32.toNatClampNeg x3)) → (U_X5_copy_107 K ob x1 k97 x2 n (x3 + 1) σ5)))))))))))))
def U_X5_copy_97 (K : Nat → CS → Prop) (ob : Nat) (x1 : Nat) : Nat → Int32 → CS → Prop
  | 0 => fun _ _ => False
  | n + 1 => fun x2 σ => (((gI σ ob 1) ≤ x2 → (K (ob + 1) σ)) ∧ (¬ (gI σ ob 1) ≤ x2 → (∃ n107, U_X5_copy_107 K ob x1 (U_X5_copy_97 K ob x1 n) x2 n107 0 σ)))
def U_X5_copy_23 (K : Nat → CS → Prop) (ob : Nat) (x1 : Nat) : Nat → Int32 → CS → Prop
  | 0 => fun _ _ => False
  | n + 1 => fun x2 σ => ((8 ≤ x2 → (∃ n97, U_X5_copy_97 K ob x1 n97 0 σ)) ∧ (¬ 8 ≤ x2 → (vp_in x2 8 ∧ (vp_in x2 8 ∧ (∀ σ6 : CS, σ6 = wI σ (ob + 1) (Int32.toNatClampNeg x2) (gI σ (x1 + 1) (Int32.toNatClampNeg x2)) → (vp_in x2 8 ∧ (vp_in x2 8 ∧ (∀ σ7 : CS, σ7 = wI σ6 (ob + 2) (Int32.toNatClampNeg x2) (gI σ6 (x1 + 2) (Int32.toNatClampNeg x2)) → (vp_in x2 8 ∧ (vp_in x2 8 ∧ (∀ σ8 : CS, σ8 = wI σ7 (ob + 3) (Int32.toNatClampNeg x2) (gI σ7 (x1 + 3) (Int32.toNatClampNeg x2)) → (vp_in x2 8 ∧ (vp_in x2 8 ∧ (∀ σ9 : CS, σ9 = wI σ8 (ob + 4) (Int32.toNatClampNeg x2) (gI σ8 (x1 + 4) (Int32.toNatClampNeg x2)) → (vp_in x2 8 ∧ (vp_in x2 8 ∧ (∀ σ10 : CS, σ10 = wI σ9 (ob + 5) (Int32.toNatClampNeg x2) (vp_nar .boolean (gI σ9 (x1 + 5) (Int32.toNatClampNeg x2))) → (U_X5_copy_23 K ob x1 n (x2 + 1) σ10))))))))))))))))))
def U_X5_copy (σ : CS) (ob : Nat) (x1 : Nat) (K : Nat → CS → Prop) : Prop := ∀ σ11 : CS, σ11 = wI σ ob 0 (gI σ x1 0) → (∀ σ12 : CS, σ12 = wI σ11 ob 1 (gI σ11 x1 1) → (∀ σ13 : CS, σ13 = wI σ12 ob 9 (-1) → (∃ n23, U_X5_copy_23 K ob x1 n23 0 σ13)))
def U_X5_tells_66 (K : Unit → CS → Prop) (ob : Nat) (x1 : Int32) (x2 : Int32) (σ : CS) : Prop := vp_in (gI σ ob 1) 50 ∧ (∃ q1, (gR σ (ob + 6) (Int32.toNatClampNeg (gI σ ob 1))) = q1 + 1 ∧ (q1 < CB ∧ (gK σ q1 = some (.inr (0, gN σ q1)) ∧ (vp_in 0 (gN σ q1) ∧ (∀ σ3 : CS, σ3 = wI σ q1 (Int32.toNatClampNeg 0) (gI σ ob 0) → (vp_in (gI σ3 ob 1) 50 ∧ (∃ q4, (gR σ3 (ob + 6) (Int32.toNatClampNeg (gI σ3 ob 1))) = q4 + 1 ∧ (q4 < CB ∧ (gK σ3 q4 = some (.inr (0, gN σ3 q4)) ∧ (vp_in 1 (gN σ3 q4) ∧ (∀ σ6 : CS, σ6 = wI σ3 q4 (Int32.toNatClampNeg 1) x1 → (vp_in (gI σ6 ob 1) 50 ∧ (∃ q7, (gR σ6 (ob + 6) (Int32.toNatClampNeg (gI σ6 ob 1))) = q7 + 1 ∧ (q7 < CB ∧ (gK σ6 q7 = some (.inr (0, gN σ6 q7)) ∧ (vp_in 2 (gN σ6 q7) ∧ (∀ σ9 : CS, σ9 = wI σ6 q7 (Int32.toNatClampNeg 2) x2 → (∀ σ10 : CS, σ10 = wI σ9 ob 1 ((gI σ9 ob 1) + 1) → (K () σ10)))))))))))))))))))
def U_X5_tells_19 (K : Unit → CS → Prop) (ob : Nat) (x1 : Int32) (x2 : Int32) (x3 : Nat) : Nat → Int32 → CS → Prop
  | 0 => fun _ _ => False
  | n + 1 => fun x4 σ => ((50 ≤ x4 → (∃ q11, x3 = q11 + 1 ∧ (gK σ q11 = some (.inr (0, gN σ q11)) ∧ (vp_in 49 50 ∧ (∀ σ12 : CS, σ12 = wR σ (ob + 6) (Int32.toNatClampNeg 49) (q11 + 1) → (∀ σ13 : CS, σ13 = wI σ12 ob 1 ((gI σ12 ob 1) - 1) → (U_X5_tells_66 K ob x1 x2 σ13))))))) ∧ (¬ 50 ≤ x4 → (vp_in x4 50 ∧ (∃ q14, (gR σ (ob + 6) (Int32.toNatClampNeg x4)) = q14 + 1 ∧ (gK σ q14 = some (.inr (0, gN σ q14)) ∧ (vp_in (x4 - 1) 50 ∧ (∀ σ16 : CS, σ16 = wR σ (ob + 6) (Int32.toNatClampNeg (x4 - 1)) (q14 + 1) → (U_X5_tells_19 K ob x1 x2 x3 n (x4 + 1) σ16))))))))
def U_X5_tells (σ : CS) (ob : Nat) (x1 : Int32) (x2 : Int32) (K : Unit → CS → Prop) : Prop := ((¬ (gI σ ob 1) = (50 : Int32) → (U_X5_tells_66 K ob x1 x2 σ)) ∧ ((gI σ ob 1) = (50 : Int32) → (vp_in 0 50 ∧ (∃ n19, U_X5_tells_19 K ob x1 x2 (gR σ (ob + 6) (Int32.toNatClampNeg 0)) n19 1 σ))))
def U_X5_breaks (σ : CS) (ob : Nat) (x1 : Int32) (K : Unit → CS → Prop) : Prop := vp_in x1 8 ∧ (U_J12_min σ 99 ((gI σ (ob + 2) (Int32.toNatClampNeg x1)) + 1) (fun r2 σ1 => (vp_in x1 8 ∧ (∀ σ3 : CS, σ3 = wI σ1 (ob + 2) (Int32.toNatClampNeg x1) r2 → (vp_in x1 8 ∧ (∀ σ4 : CS, σ4 = wI σ3 (ob + 1) (Int32.toNatClampNeg x1) 1 → (vp_in x1 8 ∧ (∀ σ5 : CS, σ5 = wI σ4 (ob + 5) (Int32.toNatClampNeg x1) (vp_nar .boolean 0) → (U_X5_tells σ5 ob x1 0 (fun _ σ6 => (K () σ6)))))))))))
def U_X5_by_2 (K : Int32 → CS → Prop) (ob : Nat) (x1 : Int32) : Nat → Int32 → CS → Prop
  | 0 => fun _ _ => False
  | n + 1 => fun x2 σ => U_X0_menders σ (fun r2 σ1 => (((r2 ≤ x2 → (K (-1) σ1)) ∧ (¬ r2 ≤ x2 → (vp_in x2 4 ∧ (U_X5_takes σ1 ob x1 x2 (fun r4 σ3 => ((((gI σ1 (ob + 57) (Int32.toNatClampNeg x2)) < r4 → (U_X5_by_2 K ob x1 n (x2 + 1) σ3)) ∧ (¬ (gI σ1 (ob + 57) (Int32.toNatClampNeg x2)) < r4 → (K x2 σ3)))))))))))
def U_X5_by (σ : CS) (ob : Nat) (x1 : Int32) (K : Int32 → CS → Prop) : Prop := ∃ n2, U_X5_by_2 K ob x1 n2 0 σ
def U_X5_isMended (σ : CS) (ob : Nat) (x1 : Int32) (x2 : Int32) (K : Unit → CS → Prop) : Prop := U_X5_fine σ ob x1 x2 (fun r2 σ1 => (vp_in x1 8 ∧ (U_J12_min σ1 99 ((gI σ1 (ob + 3) (Int32.toNatClampNeg x1)) + 1) (fun r4 σ3 => (vp_in x1 8 ∧ (∀ σ5 : CS, σ5 = wI σ3 (ob + 3) (Int32.toNatClampNeg x1) r4 → (vp_in x1 8 ∧ (∀ σ6 : CS, σ6 = wI σ5 (ob + 4) (Int32.toNatClampNeg x1) r2 → (vp_in x1 8 ∧ (∀ σ7 : CS, σ7 = wI σ6 (ob + 1) (Int32.toNatClampNeg x1) 2 → (U_X5_tells σ7 ob x1 (x2 + 1) (fun _ σ8 => (K () σ8)))))))))))))
def U_X5_first (σ : CS) (ob : Nat) (x1 : Int32) (K : Int64 → CS → Prop) : Prop := ∃ q1, (gR σ 0 0) = q1 + 1 ∧ (gK σ q1 = some kO1 ∧ (((¬ (gR σ q1 9) = 0 → (∃ q3, (gR σ 0 0) = q3 + 1 ∧ (gK σ q3 = some kO1 ∧ (∃ q5, (gR σ q3 9) = q5 + 1 ∧ (U_X5_sum σ ob q5 x1 (-1) (fun r8 σ7 => (K r8 σ7))))))) ∧ ((gR σ q1 9) = 0 → (U_X0_thingOf σ x1 (fun r10 σ9 => (∃ q11, r10 = q11 + 1 ∧ (gK σ9 q11 = some kO7 ∧ (K (Int32.toInt64 (gI σ9 q11 2)) σ9)))))))))
def U_X5_next_9 (K : Int32 → CS → Prop) (ob : Nat) : Nat → Int32 → Int64 → Int32 → CS → Prop
  | 0 => fun _ _ _ _ => False
  | n + 1 => fun x1 x2 x4 σ => U_X0_things σ (fun r2 σ1 => (((r2 ≤ x4 → (K x1 σ1)) ∧ (¬ r2 ≤ x4 → (vp_in x4 8 ∧ (((¬ (gI σ1 (ob + 1) (Int32.toNatClampNeg x4)) = (1 : Int32) → (U_X5_next_9 K ob n x1 x2 (x4 + 1) σ1)) ∧ ((gI σ1 (ob + 1) (Int32.toNatClampNeg x4)) = (1 : Int32) → (U_X5_by σ1 ob x4 (fun r4 σ3 => (((r4 = (-1) → (U_X5_next_9 K ob n x1 x2 (x4 + 1) σ3)) ∧ (¬ r4 = (-1) → (U_X5_first σ3 ob x4 (fun r6 σ5 => (((x2 < r6 → (U_X5_first σ5 ob x4 (fun r8 σ7 => (U_X5_next_9 K ob n x4 r8 (x4 + 1) σ7)))) ∧ (¬ x2 < r6 → (U_X5_next_9 K ob n x1 x2 (x4 + 1) σ5)))))))))))))))))))
def U_X5_next (σ : CS) (ob : Nat) (K : Int32 → CS → Prop) : Prop := ∃ n9, U_X5_next_9 K ob n9 (-1) (-9223372036854775808) 0 σ
def U_X5_passes_157 (K : Int32 → CS → Prop) (ob : Nat) : Nat → Int32 → CS → Prop
  | 0 => fun _ _ => False
  | n + 1 => fun x1 σ => ((x1 = (-1) → (∀ σ1 : CS, σ1 = wI σ ob 0 ((gI σ ob 0) + 1) → (U_J16_bitCount σ1 (gI σ1 ob 8) (fun r3 σ2 => (K r3 σ2))))) ∧ (¬ x1 = (-1) → (U_X5_by σ ob x1 (fun r5 σ4 => (vp_in r5 4 ∧ (U_X5_takes σ4 ob x1 r5 (fun r7 σ6 => (vp_in r5 4 ∧ (∀ σ8 : CS, σ8 = wI σ6 (ob + 57) (Int32.toNatClampNeg r5) ((gI σ4 (ob + 57) (Int32.toNatClampNeg r5)) - r7) → (U_X5_isMended σ8 ob x1 r5 (fun _ σ9 => (U_X5_next σ9 ob (fun r12 σ11 => (U_X5_passes_157 K ob n r12 σ11))))))))))))))
def U_X5_passes_118 (K : Int32 → CS → Prop) (ob : Nat) : Nat → Int32 → CS → Prop
  | 0 => fun _ _ => False
  | n + 1 => fun x1 σ => U_X0_menders σ (fun r14 σ13 => (((r14 ≤ x1 → (U_X5_next σ13 ob (fun r16 σ15 => (∃ n157, U_X5_passes_157 K ob n157 r16 σ15)))) ∧ (¬ r14 ≤ x1 → (U_X0_menderOf σ13 x1 (fun r18 σ17 => (∃ q19, r18 = q19 + 1 ∧ (gK σ17 q19 = some kO8 ∧ (vp_in x1 4 ∧ (∀ σ20 : CS, σ20 = wI σ17 (ob + 57) (Int32.toNatClampNeg x1) (gI σ17 q19 2) → (U_X5_passes_118 K ob n (x1 + 1) σ20)))))))))))
def U_X5_passes_83 (K : Int32 → CS → Prop) (ob : Nat) : Nat → Int32 → CS → Prop
  | 0 => fun _ _ => False
  | n + 1 => fun x1 σ => U_X0_things σ (fun r22 σ21 => (((r22 ≤ x1 → (∃ n118, U_X5_passes_118 K ob n118 0 σ21)) ∧ (¬ r22 ≤ x1 → (U_X0_has σ21 (gI σ21 ob 8) x1 (fun r24 σ23 => (((r24 = 0 → (U_X5_passes_83 K ob n (x1 + 1) σ23)) ∧ (¬ r24 = 0 → (U_X5_breaks σ23 ob x1 (fun _ σ25 => (U_X5_passes_83 K ob n (x1 + 1) σ25))))))))))))
def U_X5_passes_7 (K : Int32 → CS → Prop) (ob : Nat) : Nat → Int32 → CS → Prop
  | 0 => fun _ _ => False
  | n + 1 => fun x1 σ => U_X0_things σ (fun r28 σ27 => (((r28 ≤ x1 → (∃ n83, U_X5_passes_83 K ob n83 0 σ27)) ∧ (¬ r28 ≤ x1 → (∃ q29, (gR σ27 0 0) = q29 + 1 ∧ (gK σ27 q29 = some kO1 ∧ ((((gR σ27 q29 6) = 0 → (∃ n83, U_X5_passes_83 K ob n83 0 σ27)) ∧ (¬ (gR σ27 q29 6) = 0 → (vp_in x1 8 ∧ ((((gI σ27 (ob + 1) (Int32.toNatClampNeg x1)) = (1 : Int32) → (∀ σ31 : CS, σ31 = wI σ27 ob 8 ((gI σ27 ob 8) ||| 0) → (U_X5_passes_7 K ob n (x1 + 1) σ31))) ∧ (¬ (gI σ27 (ob + 1) (Int32.toNatClampNeg x1)) = (1 : Int32) → (∃ q32, (gR σ27 0 0) = q32 + 1 ∧ (gK σ27 q32 = some kO1 ∧ (∃ q34, (gR σ27 q32 6) = q34 + 1 ∧ (U_X5_holds (U_ev 100).1 (U_ev 100).2 σ27 ob q34 x1 (fun r37 σ36 => (((r37 = 0 → (∀ σ38 : CS, σ38 = wI σ36 ob 8 ((gI σ27 ob 8) ||| 0) → (U_X5_passes_7 K ob n (x1 + 1) σ38))) ∧ (¬ r37 = 0 → (∀ σ39 : CS, σ39 = wI σ36 ob 8 ((gI σ27 ob 8) ||| (1 <<< (x1 &&& 31))) → (U_X5_passes_7 K ob n (x1 + 1) σ39)))))))))))))))))))))))
def U_X5_passes (σ : CS) (ob : Nat) (K : Int32 → CS → Prop) : Prop := ∀ σ40 : CS, σ40 = wI σ ob 8 0 → (∃ n7, U_X5_passes_7 K ob n7 0 σ40)
def U_X0_later_39 (K : Int32 → CS → Prop) (x1 : Int32) (x2 : Int32) : Nat → Int32 → Int32 → CS → Prop
  | 0 => fun _ _ _ => False
  | n + 1 => fun x3 x4 σ => ((x1 ≤ x4 → (((¬ x2 = 0 → (((¬ x2 = 1 → (((¬ x2 = 2 → (K x3 σ)) ∧ (x2 = 2 → (U_X5_standing σ 74 (fun r2 σ1 => (U_X0_useOf σ1 r2 (fun r4 σ3 => (K r4 σ3))))))))) ∧ (x2 = 1 → (U_X5_are σ 74 1 (fun r6 σ5 => (K r6 σ5))))))) ∧ (x2 = 0 → (U_X5_standing σ 74 (fun r8 σ7 => (K r8 σ7))))))) ∧ (¬ x1 ≤ x4 → (U_X5_passes σ 74 (fun r10 σ9 => (U_X0_later_39 K x1 x2 n (x3 + r10) (x4 + 1) σ9)))))
def U_X0_later (σ : CS) (x1 : Int32) (x2 : Int32) (K : Int32 → CS → Prop) : Prop := U_X0_isAhead σ x1 0 60 (fun r12 σ11 => (((r12 = 0 → (K (-1) σ11)) ∧ (¬ r12 = 0 → (U_X0_is σ11 x2 0 3 (fun r14 σ13 => (((¬ r14 = 0 → (U_X5_copy σ13 74 16 (fun r16 σ15 => (∃ n39, U_X0_later_39 K x1 x2 n39 0 0 σ15)))) ∧ (r14 = 0 → (K (-1) σ13))))))))))
def U_X0_breaks_24 (K : Int32 → CS → Prop) (x1 : Int32) : Nat → Int32 → CS → Prop
  | 0 => fun _ _ => False
  | n + 1 => fun x2 σ => U_X0_isAhead σ x2 1 60 (fun r2 σ1 => (((r2 = 0 → (K (-1) σ1)) ∧ (¬ r2 = 0 → (U_X5_passes σ1 74 (fun r4 σ3 => (U_X0_has σ3 (gI σ3 74 8) x1 (fun r6 σ5 => (((r6 = 0 → (U_X0_breaks_24 K x1 n (x2 + 1) σ5)) ∧ (¬ r6 = 0 → (K x2 σ5))))))))))))
def U_X0_breaks (σ : CS) (x1 : Int32) (K : Int32 → CS → Prop) : Prop := U_X0_isThing σ x1 (fun r8 σ7 => (((¬ r8 = 0 → (U_X5_copy σ7 74 16 (fun r10 σ9 => (∃ n24, U_X0_breaks_24 K x1 n24 1 σ9)))) ∧ (r8 = 0 → (K (-1) σ7)))))
def U_X0_worthOf_4 (K : Int32 → CS → Prop) (x1 : Int32) : Nat → Int32 → Int32 → CS → Prop
  | 0 => fun _ _ _ => False
  | n + 1 => fun x2 x3 σ => U_X0_things σ (fun r2 σ1 => (((r2 ≤ x3 → (K x2 σ1)) ∧ (¬ r2 ≤ x3 → (U_X0_has σ1 x1 x3 (fun r4 σ3 => (((r4 = 0 → (U_X0_worthOf_4 K x1 n (x2 + 0) (x3 + 1) σ3)) ∧ (¬ r4 = 0 → (U_X0_thingOf σ3 x3 (fun r6 σ5 => (∃ q7, r6 = q7 + 1 ∧ (gK σ5 q7 = some kO7 ∧ (U_X0_worthOf_4 K x1 n (x2 + (gI σ5 q7 1)) (x3 + 1) σ5))))))))))))))
def U_X0_worthOf (σ : CS) (x1 : Int32) (K : Int32 → CS → Prop) : Prop := ∃ n4, U_X0_worthOf_4 K x1 n4 0 0 σ
def U_X0_house_137 (K : Int32 → CS → Prop) (k34 : Int32 → Int32 → CS → Prop) (x1 : Int32) (x2 : Int32) (x3 : Int32) (x4 : Int32) : Nat → Int32 → CS → Prop
  | 0 => fun _ _ => False
  | n + 1 => fun x7 σ => U_X0_things σ (fun r2 σ1 => (((r2 ≤ x7 → (U_X5_standing σ1 74 (fun r4 σ3 => (U_X0_useOf σ3 r4 (fun r6 σ5 => (((r6 < x1 → (k34 x3 (x4 + 1) σ5)) ∧ (¬ r6 < x1 → (k34 x4 (x4 + 1) σ5))))))))) ∧ (¬ r2 ≤ x7 → (U_X0_has σ1 x4 x7 (fun r8 σ7 => (((¬ r8 = 0 → (U_X5_breaks σ7 74 x7 (fun _ σ9 => (U_X5_isMended σ9 74 x7 0 (fun _ σ11 => (U_X0_house_137 K k34 x1 x2 x3 x4 n (x7 + 1) σ11)))))) ∧ (r8 = 0 → (U_X0_house_137 K k34 x1 x2 x3 x4 n (x7 + 1) σ7))))))))))
def U_X0_house_112 (K : Int32 → CS → Prop) (k34 : Int32 → Int32 → CS → Prop) (x1 : Int32) (x2 : Int32) (x3 : Int32) (x4 : Int32) (s0 : Int32) (σ : CS) : Prop := ((s0 = 0 → (U_X5_copy σ 74 16 (fun r14 σ13 => (∃ n137, U_X0_house_137 K (k34) x1 x2 x3 x4 n137 0 σ13)))) ∧ (¬ s0 = 0 → (k34 x3 (x4 + 1) σ)))
def U_X0_house_34 (K : Int32 → CS → Prop) (x1 : Int32) (x2 : Int32) : Nat → Int32 → Int32 → CS → Prop
  | 0 => fun _ _ _ => False
  | n + 1 => fun x3 x4 σ => U_X0_things σ (fun r16 σ15 => ((((1 <<< (r16 &&& 31)) ≤ x4 → (((x3 = (-1) → (K x3 σ15)) ∧ (¬ x3 = (-1) → (((¬ x2 = 0 → (U_X0_worthOf σ15 x3 (fun r18 σ17 => (K r18 σ17)))) ∧ (x2 = 0 → (K x3 σ15)))))))) ∧ (¬ (1 <<< (r16 &&& 31)) ≤ x4 → (U_X5_are σ15 16 1 (fun r20 σ19 => ((((x4 &&& r20) = (0 : Int32) → (U_X0_worthOf σ19 x4 (fun r22 σ21 => (((x3 = (-1) → (U_X0_house_112 K (U_X0_house_34 K x1 x2 n) x1 x2 x3 x4 0 σ21)) ∧ (¬ x3 = (-1) → (U_X0_worthOf σ21 x3 (fun r24 σ23 => (((r24 < r22 → (U_X0_house_112 K (U_X0_house_34 K x1 x2 n) x1 x2 x3 x4 1 σ23)) ∧ (¬ r24 < r22 → (U_X0_worthOf σ23 x3 (fun r26 σ25 => (((¬ r22 = r26 → (U_X0_house_112 K (U_X0_house_34 K x1 x2 n) x1 x2 x3 x4 0 σ25)) ∧ (r22 = r26 → (U_J16_bitCount σ25 x4 (fun r28 σ27 => (U_J16_bitCount σ27 x3 (fun r30 σ29 => (((r28 < r30 → (U_X0_house_112 K (U_X0_house_34 K x1 x2 n) x1 x2 x3 x4 0 σ29)) ∧ (¬ r28 < r30 → (U_X0_house_112 K (U_X0_house_34 K x1 x2 n) x1 x2 x3 x4 1 σ29)))))))))))))))))))))))) ∧ (¬ (x4 &&& r20) = (0 : Int32) → (U_X0_house_34 K x1 x2 n x3 (x4 + 1) σ19))))))))))
def U_X0_house (σ : CS) (x1 : Int32) (x2 : Int32) (K : Int32 → CS → Prop) : Prop := U_X0_menders σ (fun r32 σ31 => (((r32 = 0 → (K (-1) σ31)) ∧ (¬ r32 = 0 → (U_X0_is σ31 x1 0 999 (fun r34 σ33 => (((r34 = 0 → (K (-1) σ33)) ∧ (¬ r34 = 0 → (U_X0_is σ33 x2 0 1 (fun r36 σ35 => (((¬ r36 = 0 → (∃ n34, U_X0_house_34 K x1 x2 n34 (-1) 0 σ35)) ∧ (r36 = 0 → (K (-1) σ35)))))))))))))))
def U_X0_gain (σ : CS) (x1 : Int32) (x2 : Int32) (K : Int64 → CS → Prop) : Prop := U_X0_isThing σ x1 (fun r2 σ1 => (((r2 = 0 → (K (-1000000000000000) σ1)) ∧ (¬ r2 = 0 → (U_X0_isMender σ1 x2 (fun r4 σ3 => (((r4 = 0 → (K (-1000000000000000) σ3)) ∧ (¬ r4 = 0 → (vp_in x1 8 ∧ ((((gI σ3 17 (Int32.toNatClampNeg x1)) = (1 : Int32) → (U_X5_copy σ3 74 16 (fun r6 σ5 => (∃ q7, r6 = q7 + 1 ∧ (stOK q7 ∧ (gK σ5 q7 = some kO5 ∧ (U_X5_isMended σ5 q7 x1 x2 (fun _ σ8 => (U_X5_standing σ8 74 (fun r11 σ10 => (U_X0_useOf σ10 r11 (fun r13 σ12 => (U_X5_standing σ12 16 (fun r15 σ14 => (U_X0_useOf σ14 r15 (fun r17 σ16 => (K (Int32.toInt64 (r13 - r17)) σ16))))))))))))))))) ∧ (¬ (gI σ3 17 (Int32.toNatClampNeg x1)) = (1 : Int32) → (K (-1000000000000000) σ3))))))))))))))
def U_X0_isParted_66 (K : Int32 → CS → Prop) (k2 : Int32 → CS → Prop) (k12 : Int32 → CS → Prop) (x1 : Int32) (x2 : Int32) (x3 : Int32) : Nat → Int32 → Int32 → CS → Prop
  | 0 => fun _ _ _ => False
  | n + 1 => fun x4 x5 σ => U_X0_trials σ (fun r2 σ1 => (((r2 ≤ x5 → (((¬ x4 = 0 → (k12 (x3 + 1) σ1)) ∧ (x4 = 0 → (K 0 σ1))))) ∧ (¬ r2 ≤ x5 → (((¬ x4 = 0 → (U_X0_isParted_66 K k2 k12 x1 x2 x3 n 1 (x5 + 1) σ1)) ∧ (x4 = 0 → (U_X0_has σ1 x1 x5 (fun r4 σ3 => (((r4 = 0 → (U_X0_isParted_66 K k2 k12 x1 x2 x3 n 0 (x5 + 1) σ3)) ∧ (¬ r4 = 0 → (U_X0_holdsFor (U_ev 100).1 (U_ev 100).2 σ3 x5 x2 (fun r6 σ5 => (U_X0_holdsFor (U_ev 100).1 (U_ev 100).2 σ5 x5 x3 (fun r8 σ7 => (((r6 = r8 → (U_X0_isParted_66 K k2 k12 x1 x2 x3 n 0 (x5 + 1) σ7)) ∧ (¬ r6 = r8 → (U_X0_isParted_66 K k2 k12 x1 x2 x3 n 1 (x5 + 1) σ7))))))))))))))))))))
def U_X0_isParted_12 (K : Int32 → CS → Prop) (k2 : Int32 → CS → Prop) (x1 : Int32) (x2 : Int32) : Nat → Int32 → CS → Prop
  | 0 => fun _ _ => False
  | n + 1 => fun x3 σ => U_X0_things σ (fun r10 σ9 => (((r10 ≤ x3 → (k2 (x2 + 1) σ9)) ∧ (¬ r10 ≤ x3 → (vp_in x2 8 ∧ ((((gI σ9 21 (Int32.toNatClampNeg x2)) = (0 : Int32) → (U_X0_isParted_12 K k2 x1 x2 n (x3 + 1) σ9)) ∧ (¬ (gI σ9 21 (Int32.toNatClampNeg x2)) = (0 : Int32) → (vp_in x3 8 ∧ (((¬ (gI σ9 17 (Int32.toNatClampNeg x3)) = (2 : Int32) → (U_X0_isParted_12 K k2 x1 x2 n (x3 + 1) σ9)) ∧ ((gI σ9 17 (Int32.toNatClampNeg x3)) = (2 : Int32) → (vp_in x3 8 ∧ ((((gI σ9 21 (Int32.toNatClampNeg x3)) = (0 : Int32) → (∃ n66, U_X0_isParted_66 K (k2) (U_X0_isParted_12 K k2 x1 x2 n) x1 x2 x3 n66 0 0 σ9)) ∧ (¬ (gI σ9 21 (Int32.toNatClampNeg x3)) = (0 : Int32) → (U_X0_isParted_12 K k2 x1 x2 n (x3 + 1) σ9)))))))))))))))))
def U_X0_isParted_2 (K : Int32 → CS → Prop) (x1 : Int32) : Nat → Int32 → CS → Prop
  | 0 => fun _ _ => False
  | n + 1 => fun x2 σ => U_X0_things σ (fun r12 σ11 => (((r12 ≤ x2 → (K 1 σ11)) ∧ (¬ r12 ≤ x2 → (∃ n12, U_X0_isParted_12 K (U_X0_isParted_2 K x1 n) x1 x2 n12 0 σ11)))))
def U_X0_isParted (σ : CS) (x1 : Int32) (K : Int32 → CS → Prop) : Prop := ∃ n2, U_X0_isParted_2 K x1 n2 0 σ
def U_X0_parts_30 (K : Int32 → CS → Prop) (k4 : Int32 → Int32 → CS → Prop) (x1 : Int32) (x2 : Int32) (σ : CS) : Prop := U_X0_isParted σ x2 (fun r2 σ1 => (((r2 = 0 → (k4 x1 (x2 + 1) σ1)) ∧ (¬ r2 = 0 → (k4 x2 (x2 + 1) σ1)))))
def U_X0_parts_4 (K : Int32 → CS → Prop) : Nat → Int32 → Int32 → CS → Prop
  | 0 => fun _ _ _ => False
  | n + 1 => fun x1 x2 σ => U_X0_trials σ (fun r4 σ3 => ((((1 <<< (r4 &&& 31)) ≤ x2 → (K x1 σ3)) ∧ (¬ (1 <<< (r4 &&& 31)) ≤ x2 → (((x1 = (-1) → (U_X0_parts_30 K (U_X0_parts_4 K n) x1 x2 σ3)) ∧ (¬ x1 = (-1) → (U_J16_bitCount σ3 x2 (fun r6 σ5 => (U_J16_bitCount σ5 x1 (fun r8 σ7 => (((r8 ≤ r6 → (U_X0_parts_4 K n x1 (x2 + 1) σ7)) ∧ (¬ r8 ≤ r6 → (U_X0_parts_30 K (U_X0_parts_4 K n) x1 x2 σ7)))))))))))))))
def U_X0_parts (σ : CS) (K : Int32 → CS → Prop) : Prop := ∃ n4, U_X0_parts_4 K n4 (-1) 0 σ
def U_X0_lawed_94 (K : Int32 → CS → Prop) (k34 : Int32 → Int32 → CS → Prop) (x1 : Int32) (x2 : Int32) (x3 : Int32) (x4 : Int32) (x5 : Int32) (s0 : Int32) (σ : CS) : Prop := ((s0 = 0 → (k34 (x4 ||| 0) (x5 + 1) σ)) ∧ (¬ s0 = 0 → (k34 (x4 ||| (1 <<< (x5 &&& 31))) (x5 + 1) σ)))
def U_X0_lawed_34 (K : Int32 → CS → Prop) (x1 : Int32) (x2 : Int32) (x3 : Int32) : Nat → Int32 → Int32 → CS → Prop
  | 0 => fun _ _ _ => False
  | n + 1 => fun x4 x5 σ => U_X0_things σ (fun r2 σ1 => (((r2 ≤ x5 → (((¬ x2 = 0 → (K (x4 ^^^ x3) σ1)) ∧ (x2 = 0 → (U_X0_useOf σ1 x4 (fun r4 σ3 => (K r4 σ3))))))) ∧ (¬ r2 ≤ x5 → (((¬ x1 = 0 → (vp_in x5 8 ∧ (((¬ (gI σ1 17 (Int32.toNatClampNeg x5)) = (2 : Int32) → (U_X0_lawed_94 K (U_X0_lawed_34 K x1 x2 x3 n) x1 x2 x3 x4 x5 0 σ1)) ∧ ((gI σ1 17 (Int32.toNatClampNeg x5)) = (2 : Int32) → (((x1 = 1 → (U_X0_lawed_94 K (U_X0_lawed_34 K x1 x2 x3 n) x1 x2 x3 x4 x5 1 σ1)) ∧ (¬ x1 = 1 → (vp_in x5 8 ∧ ((((gI σ1 19 (Int32.toNatClampNeg x5)) ≤ (1 : Int32) → (U_X0_lawed_94 K (U_X0_lawed_34 K x1 x2 x3 n) x1 x2 x3 x4 x5 0 σ1)) ∧ (¬ (gI σ1 19 (Int32.toNatClampNeg x5)) ≤ (1 : Int32) → (U_X0_lawed_94 K (U_X0_lawed_34 K x1 x2 x3 n) x1 x2 x3 x4 x5 1 σ1))))))))))))) ∧ (x1 = 0 → (U_X0_has σ1 x3 x5 (fun r6 σ5 => (U_X0_lawed_94 K (U_X0_lawed_34 K x1 x2 x3 n) x1 x2 x3 x4 x5 r6 σ5))))))))))
def U_X0_lawed (σ : CS) (x1 : Int32) (x2 : Int32) (K : Int32 → CS → Prop) : Prop := U_X0_is σ x1 0 2 (fun r8 σ7 => (((r8 = 0 → (K (-1) σ7)) ∧ (¬ r8 = 0 → (U_X0_is σ7 x2 0 1 (fun r10 σ9 => (((¬ r10 = 0 → (U_X5_standing σ9 16 (fun r12 σ11 => (∃ n34, U_X0_lawed_34 K x1 x2 r12 n34 0 0 σ11)))) ∧ (r10 = 0 → (K (-1) σ9))))))))))
def U_X0_breaksBy_34 (K : Int64 → CS → Prop) (x1 : Int32) (x3 : Int32) : Nat → Int64 → Int32 → CS → Prop
  | 0 => fun _ _ _ => False
  | n + 1 => fun x4 x6 σ => ((x3 < x6 → (∀ σ1 : CS, σ1 = wI σ 74 9 (-1) → (K x4 σ1))) ∧ (¬ x3 < x6 → (U_X5_passes σ 74 (fun r3 σ2 => (U_X0_has σ2 (gI σ2 74 8) x1 (fun r5 σ4 => (((r5 = 0 → (U_X0_breaksBy_34 K x1 x3 n x4 (x6 + 1) σ4)) ∧ (¬ r5 = 0 → (U_X0_breaksBy_34 K x1 x3 n (x4 ||| (1 <<< (Int32.toInt64 x6 &&& 63))) (x6 + 1) σ4))))))))))
def U_X0_breaksBy (σ : CS) (x1 : Int32) (x2 : Int32) (x3 : Int32) (K : Int64 → CS → Prop) : Prop := U_X5_copy σ 74 16 (fun r7 σ6 => (∀ σ8 : CS, σ8 = wI σ6 74 9 x1 → (∀ σ9 : CS, σ9 = wI σ8 74 10 x2 → (∃ n34, U_X0_breaksBy_34 K x1 x3 n34 0 1 σ9))))
def U_X0_byteAt (σ : CS) (x1 : Int32) (K : Int32 → CS → Prop) : Prop := vp_in x1 1600 ∧ (K ((gI σ 8 (Int32.toNatClampNeg x1)) &&& 255) σ)
def U_X0_see_123 (K : Int32 → CS → Prop) (x1 : Int32) (x4 : Int64) (x6 : Int32) : Nat → Int32 → Int32 → CS → Prop
  | 0 => fun _ _ _ => False
  | n + 1 => fun x7 x8 σ => ((10 ≤ x8 → (K x7 σ)) ∧ (¬ 10 ≤ x8 → (U_X0_breaksBy σ x1 x8 x6 (fun r2 σ1 => (((¬ r2 = x4 → (U_X0_see_123 K x1 x4 x6 n (x7 ||| 0) (x8 + 1) σ1)) ∧ (r2 = x4 → (U_X0_see_123 K x1 x4 x6 n (x7 ||| (1 <<< (x8 &&& 31))) (x8 + 1) σ1))))))))
def U_X0_see_95 (K : Int32 → CS → Prop) (x1 : Int32) (x3 : Int32) (x4 : Int64) (x6 : Int32) (σ : CS) : Prop := ((x3 = 0 → (U_X0_refuses σ 1 (fun r4 σ3 => (K r4 σ3)))) ∧ (¬ x3 = 0 → (U_X0_isAhead σ x6 1 30 (fun r6 σ5 => (((¬ r6 = 0 → (∃ n123, U_X0_see_123 K x1 x4 x6 n123 0 0 σ5)) ∧ (r6 = 0 → (U_X0_refuses σ5 1 (fun r8 σ7 => (K r8 σ7))))))))))
def U_X0_see_38 (K : Int32 → CS → Prop) (x1 : Int32) (x2 : Int32) : Nat → Int32 → Int64 → Int32 → Int32 → CS → Prop
  | 0 => fun _ _ _ _ _ => False
  | n + 1 => fun x3 x4 x6 x7 σ => ((x2 ≤ x7 → (U_X0_see_95 K x1 x3 x4 x6 σ)) ∧ (¬ x2 ≤ x7 → (((x3 = 0 → (U_X0_see_95 K x1 x3 x4 x6 σ)) ∧ (¬ x3 = 0 → (U_X0_byteAt σ x7 (fun r10 σ9 => (U_X0_is σ9 r10 (x6 + 1) 30 (fun r12 σ11 => (U_X0_byteAt σ11 x7 (fun r14 σ13 => (((r12 = 0 → (U_X0_see_38 K x1 x2 n r12 (x4 ||| 0) r14 (x7 + 1) σ13)) ∧ (¬ r12 = 0 → (U_X0_see_38 K x1 x2 n r12 (x4 ||| (1 <<< (Int32.toInt64 r14 &&& 63))) r14 (x7 + 1) σ13)))))))))))))))
def U_X0_see (σ : CS) (x1 : Int32) (K : Int32 → CS → Prop) : Prop := U_X0_taken σ (fun r16 σ15 => (U_X0_isThing σ15 x1 (fun r18 σ17 => (((r18 = 0 → (∃ n38, U_X0_see_38 K x1 r16 n38 0 0 0 0 σ17)) ∧ (¬ r18 = 0 → (U_X0_is σ17 r16 1 20 (fun r20 σ19 => (((r20 = 0 → (∃ n38, U_X0_see_38 K x1 r16 n38 0 0 0 0 σ19)) ∧ (¬ r20 = 0 → (∃ n38, U_X0_see_38 K x1 r16 n38 1 0 0 0 σ19))))))))))))
def U_X0_tells_106 (mc ms : Nat) (K : Int32 → CS → Prop) (x2 : Int32) (x3 : Nat) : Nat → Int32 → Int32 → Int32 → Nat → Nat → CS → Prop
  | 0 => fun _ _ _ _ _ _ => False
  | n + 1 => fun x4 x5 x6 cx zx σ => ((30 < x6 → (((¬ x2 = 0 → (K x5 σ)) ∧ (x2 = 0 → (K x4 σ))))) ∧ (¬ 30 < x6 → (∃ q1, x3 = q1 + 1 ∧ (gK σ q1 = some (.inr (0, gN σ q1)) ∧ (vp_in x6 (gN σ q1) ∧ (gK σ q1 = some (.inr (0, gN σ q1)) ∧ (vp_in x6 (gN σ q1) ∧ (U_J12_max σ (gI σ q1 (Int32.toNatClampNeg x6)) (10 - (gI σ q1 (Int32.toNatClampNeg x6))) (fun r3 σ2 => (((r3 < x5 → (U_X0_tells_106 mc ms K x2 x3 n x6 r3 (x6 + 1) cx zx σ2)) ∧ (¬ r3 < x5 → (U_X0_tells_106 mc ms K x2 x3 n x4 x5 (x6 + 1) cx zx σ2)))))))))))))
def U_X0_tells_61 (mc ms : Nat) (K : Int32 → CS → Prop) (k40 : Int32 → Nat → Nat → CS → Prop) (x1 : Int32) (x2 : Int32) (x3 : Nat) (x4 : Int32) (x5 : Int64) : Nat → Int32 → Nat → Nat → CS → Prop
  | 0 => fun _ _ _ _ => False
  | n + 1 => fun x7 cx zx σ => ((30 < x7 → (k40 (x4 + 1) cx zx σ)) ∧ (¬ 30 < x7 → (∃ q4, x3 = q4 + 1 ∧ (gK σ q4 = some (.inr (0, gN σ q4)) ∧ (vp_in x7 (gN σ q4) ∧ (q4 < CB ∧ (gK σ q4 = some (.inr (0, gN σ q4)) ∧ (vp_in x7 (gN σ q4) ∧ (∀ σ5 : CS, σ5 = wI σ q4 (Int32.toNatClampNeg x7) ((gI σ q4 (Int32.toNatClampNeg x7)) + (Int64.toInt32 ((x5 >>> (Int32.toInt64 x7 &&& 63)) &&& 1))) → (U_X0_tells_61 mc ms K k40 x1 x2 x3 x4 x5 n (x7 + 1) cx zx σ5))))))))))
def U_X0_tells_40 (mc ms : Nat) (K : Int32 → CS → Prop) (x1 : Int32) (x2 : Int32) (x3 : Nat) : Nat → Int32 → Nat → Nat → CS → Prop
  | 0 => fun _ _ _ _ => False
  | n + 1 => fun x4 cx zx σ => ((10 ≤ x4 → (∃ n106, U_X0_tells_106 mc ms K x2 x3 n106 (-1) 100000000 1 cx zx σ)) ∧ (¬ 10 ≤ x4 → (U_X0_breaksBy σ x1 x4 30 (fun r7 σ6 => (∃ n61, U_X0_tells_61 mc ms K (U_X0_tells_40 mc ms K x1 x2 x3 n) x1 x2 x3 x4 r7 n61 1 cx zx σ6)))))
def U_X0_tells (mc ms : Nat) (σ : CS) (x1 : Int32) (x2 : Int32) (K : Int32 → CS → Prop) : Prop := U_X0_isThing σ x1 (fun r9 σ8 => (((r9 = 0 → (K (-1) σ8)) ∧ (¬ r9 = 0 → (U_X0_isAhead σ8 30 30 30 (fun r11 σ10 => (((r11 = 0 → (K (-1) σ10)) ∧ (¬ r11 = 0 → (U_X0_is σ10 x2 0 1 (fun r13 σ12 => (((¬ r13 = 0 → (¬ (31 : Int32) < 0 ∧ ((Int32.toNatClampNeg 31) ≤ 1000000 ∧ ((1 ≤ mc ∧ 0 + (Int32.toNatClampNeg 31) ≤ ms) ∧ (σ12.1 < CB ∧ (∀ σ14 : CS, σ14 = nC σ12 (.inr (0, (Int32.toNatClampNeg 31))) → (∃ n40, U_X0_tells_40 mc ms K x1 x2 ((σ12.1) + 1) n40 0 1 (0 + (Int32.toNatClampNeg 31)) σ14))))))) ∧ (r13 = 0 → (K (-1) σ12)))))))))))))))
def U_X0_undo (σ : CS) (K : Int32 → CS → Prop) : Prop := ((¬ (gI σ 0 15) = (0 : Int32) → (∀ σ1 : CS, σ1 = wI σ 0 15 ((gI σ 0 15) - 1) → (vp_in (gI σ1 0 15) 20 ∧ (∃ q2, (gR σ1 134 (Int32.toNatClampNeg (gI σ1 0 15))) = q2 + 1 ∧ (stOK q2 ∧ (U_X5_copy σ1 16 q2 (fun r5 σ4 => (K 1 σ4)))))))) ∧ ((gI σ 0 15) = (0 : Int32) → (U_X0_refuses σ 4 (fun r7 σ6 => (((r7 < 0 → (K 0 σ6)) ∧ (¬ r7 < 0 → (K 1 σ6))))))))
def U_X0_keeps_62 (K : Unit → CS → Prop) (σ : CS) : Prop := vp_in (gI σ 0 15) 20 ∧ (∃ q1, (gR σ 134 (Int32.toNatClampNeg (gI σ 0 15))) = q1 + 1 ∧ (stOK q1 ∧ (gK σ q1 = some kO5 ∧ (U_X5_copy σ q1 16 (fun r4 σ3 => (∀ σ5 : CS, σ5 = wI σ3 0 15 ((gI σ3 0 15) + 1) → (K () σ5)))))))
def U_X0_keeps_18 (K : Unit → CS → Prop) (x1 : Nat) : Nat → Int32 → CS → Prop
  | 0 => fun _ _ => False
  | n + 1 => fun x2 σ => ((20 ≤ x2 → (∃ q6, x1 = q6 + 1 ∧ (gK σ q6 = some kO5 ∧ (vp_in 19 20 ∧ (∀ σ7 : CS, σ7 = wR σ 134 (Int32.toNatClampNeg 19) (q6 + 1) → (∀ σ8 : CS, σ8 = wI σ7 0 15 ((gI σ7 0 15) - 1) → (U_X0_keeps_62 K σ8))))))) ∧ (¬ 20 ≤ x2 → (vp_in x2 20 ∧ (∃ q9, (gR σ 134 (Int32.toNatClampNeg x2)) = q9 + 1 ∧ (gK σ q9 = some kO5 ∧ (vp_in (x2 - 1) 20 ∧ (∀ σ11 : CS, σ11 = wR σ 134 (Int32.toNatClampNeg (x2 - 1)) (q9 + 1) → (U_X0_keeps_18 K x1 n (x2 + 1) σ11))))))))
def U_X0_keeps (σ : CS) (K : Unit → CS → Prop) : Prop := ((¬ (gI σ 0 15) = (20 : Int32) → (U_X0_keeps_62 K σ)) ∧ ((gI σ 0 15) = (20 : Int32) → (vp_in 0 20 ∧ (∃ n18, U_X0_keeps_18 K (gR σ 134 (Int32.toNatClampNeg 0)) n18 1 σ))))
def U_X0_strike_21 (K : Int32 → CS → Prop) (σ : CS) : Prop := U_X0_refuses σ 2 (fun r2 σ1 => (((r2 < 0 → (K 0 σ1)) ∧ (¬ r2 < 0 → (K 1 σ1)))))
def U_X0_strike (σ : CS) (x1 : Int32) (K : Int32 → CS → Prop) : Prop := U_X0_isThing σ x1 (fun r4 σ3 => (((r4 = 0 → (U_X0_strike_21 K σ3)) ∧ (¬ r4 = 0 → (vp_in x1 8 ∧ (((¬ (gI σ3 17 (Int32.toNatClampNeg x1)) = (1 : Int32) → (U_X0_keeps σ3 (fun _ σ5 => (U_X5_breaks σ5 16 x1 (fun _ σ7 => (K 1 σ7)))))) ∧ ((gI σ3 17 (Int32.toNatClampNeg x1)) = (1 : Int32) → (U_X0_strike_21 K σ3)))))))))
def U_X0_mend (σ : CS) (x1 : Int32) (x2 : Int32) (K : Int32 → CS → Prop) : Prop := U_X0_isThing σ x1 (fun r2 σ1 => (((r2 = 0 → (U_X0_refuses σ1 2 (fun r4 σ3 => (K r4 σ3)))) ∧ (¬ r2 = 0 → (U_X0_isMender σ1 x2 (fun r6 σ5 => (((r6 = 0 → (U_X0_refuses σ5 2 (fun r8 σ7 => (K r8 σ7)))) ∧ (¬ r6 = 0 → (vp_in x1 8 ∧ ((((gI σ5 17 (Int32.toNatClampNeg x1)) = (1 : Int32) → (U_X0_keeps σ5 (fun _ σ9 => (U_X5_isMended σ9 16 x1 x2 (fun _ σ11 => (vp_in x1 8 ∧ (K (gI σ11 20 (Int32.toNatClampNeg x1)) σ11))))))) ∧ (¬ (gI σ5 17 (Int32.toNatClampNeg x1)) = (1 : Int32) → (U_X0_refuses σ5 2 (fun r14 σ13 => (K r14 σ13))))))))))))))))
def U_X0_forge_20 (K : Int32 → CS → Prop) (σ : CS) : Prop := U_X0_refuses σ 2 (fun r2 σ1 => (((r2 < 0 → (K 0 σ1)) ∧ (¬ r2 < 0 → (K 1 σ1)))))
def U_X0_forge (σ : CS) (x1 : Int32) (K : Int32 → CS → Prop) : Prop := U_X0_isThing σ x1 (fun r4 σ3 => (((r4 = 0 → (U_X0_forge_20 K σ3)) ∧ (¬ r4 = 0 → (vp_in x1 8 ∧ ((((gI σ3 17 (Int32.toNatClampNeg x1)) = (0 : Int32) → (U_X0_keeps σ3 (fun _ σ5 => (vp_in x1 8 ∧ (∀ σ7 : CS, σ7 = wI σ5 17 (Int32.toNatClampNeg x1) 2 → (vp_in x1 8 ∧ (∀ σ8 : CS, σ8 = wI σ7 20 (Int32.toNatClampNeg x1) 50 → (vp_in x1 8 ∧ (∀ σ9 : CS, σ9 = wI σ8 21 (Int32.toNatClampNeg x1) (vp_nar .boolean 1) → (K 1 σ9)))))))))) ∧ (¬ (gI σ3 17 (Int32.toNatClampNeg x1)) = (0 : Int32) → (U_X0_forge_20 K σ3)))))))))
def U_X0_days_25 (K : Int32 → CS → Prop) (x1 : Int32) : Nat → Int32 → Int32 → CS → Prop
  | 0 => fun _ _ _ => False
  | n + 1 => fun x2 x3 σ => ((x1 ≤ x3 → (K x2 σ)) ∧ (¬ x1 ≤ x3 → (U_X5_passes σ 16 (fun r2 σ1 => (U_X0_days_25 K x1 n (x2 + r2) (x3 + 1) σ1)))))
def U_X0_days (σ : CS) (x1 : Int32) (K : Int32 → CS → Prop) : Prop := U_X0_isAhead σ x1 1 100 (fun r4 σ3 => (((¬ r4 = 0 → (U_X0_keeps σ3 (fun _ σ5 => (∃ n25, U_X0_days_25 K x1 n25 0 0 σ5)))) ∧ (r4 = 0 → (U_X0_refuses σ3 3 (fun r8 σ7 => (K r8 σ7)))))))
def U_X0_draw (σ : CS) (x1 : Int32) (K : Int32 → CS → Prop) : Prop := ∀ σ1 : CS, σ1 = wL σ 0 16 (((1103515245 * (gL σ 0 16)) + 12345) - ((1103515245 * (gL σ 0 16)) + 12345) / 2147483648 * 2147483648) → (¬ Int32.toInt64 x1 = 0 ∧ (K (Int64.toInt32 (((gL σ1 0 16) / 64) - ((gL σ1 0 16) / 64) / (Int32.toInt64 x1) * (Int32.toInt64 x1))) σ1))
def U_X0_chance_86 (K : Int32 → CS → Prop) (k25 : Int32 → Int32 → CS → Prop) (x1 : Int32) (x2 : Int32) (x3 : Int32) (σ : CS) : Prop := U_X5_passes σ 16 (fun r2 σ1 => (k25 (x2 + 1) (x3 + 1) σ1))
def U_X0_chance_25 (K : Int32 → CS → Prop) (x1 : Int32) : Nat → Int32 → Int32 → CS → Prop
  | 0 => fun _ _ _ => False
  | n + 1 => fun x2 x3 σ => ((x1 ≤ x3 → (K x2 σ)) ∧ (¬ x1 ≤ x3 → (U_X0_draw σ 100 (fun r4 σ3 => (∃ q5, (gR σ3 0 0) = q5 + 1 ∧ (gK σ3 q5 = some kO1 ∧ ((((gI σ3 q5 1) ≤ r4 → (U_X5_passes σ3 16 (fun r8 σ7 => (U_X0_chance_25 K x1 n x2 (x3 + 1) σ7)))) ∧ (¬ (gI σ3 q5 1) ≤ r4 → (U_X0_things σ3 (fun r10 σ9 => (((r10 ≤ 0 → (U_X5_passes σ9 16 (fun r12 σ11 => (U_X0_chance_25 K x1 n x2 (x3 + 1) σ11)))) ∧ (¬ r10 ≤ 0 → (U_X0_things σ9 (fun r14 σ13 => (U_X0_draw σ13 r14 (fun r16 σ15 => (vp_in r16 8 ∧ ((((gI σ15 17 (Int32.toNatClampNeg r16)) = (1 : Int32) → (U_X0_chance_86 K (U_X0_chance_25 K x1 n) x1 x2 x3 σ15)) ∧ (¬ (gI σ15 17 (Int32.toNatClampNeg r16)) = (1 : Int32) → (U_X5_breaks σ15 16 r16 (fun _ σ17 => (U_X0_chance_86 K (U_X0_chance_25 K x1 n) x1 x2 x3 σ17)))))))))))))))))))))))))
def U_X0_chance (σ : CS) (x1 : Int32) (K : Int32 → CS → Prop) : Prop := U_X0_isAhead σ x1 1 100 (fun r20 σ19 => (((¬ r20 = 0 → (U_X0_keeps σ19 (fun _ σ21 => (∃ n25, U_X0_chance_25 K x1 n25 0 0 σ21)))) ∧ (r20 = 0 → (U_X0_refuses σ19 3 (fun r24 σ23 => (K r24 σ23)))))))
def U_X0_seed (σ : CS) (x1 : Int32) (K : Int32 → CS → Prop) : Prop := ((0 ≤ x1 → (∀ σ1 : CS, σ1 = wL σ 0 16 (Int32.toInt64 x1) → (K 1 σ1))) ∧ (¬ 0 ≤ x1 → (U_X0_refuses σ 5 (fun r3 σ2 => (((r3 < 0 → (K 0 σ2)) ∧ (¬ r3 < 0 → (K 1 σ2))))))))
def U_X0_writes (σ : CS) (x1 : Int32) (K : Unit → CS → Prop) : Prop := ∀ σ1 : CS, σ1 = wI σ 0 19 ((gI σ 0 19) + 1) → (vp_in (gI σ 0 19) 43 ∧ (∀ σ2 : CS, σ2 = wI σ1 1295 (Int32.toNatClampNeg (gI σ 0 19)) (vp_nar .byte ((Int32.toInt8 x1).toInt32)) → (K () σ2)))
def U_X0_image_32 (K : Int32 → CS → Prop) : Nat → Int32 → CS → Prop
  | 0 => fun _ _ => False
  | n + 1 => fun x1 σ => U_X0_things σ (fun r2 σ1 => (((r2 ≤ x1 → (U_X0_check σ1 1295 (gI σ1 0 19) (fun r4 σ3 => (U_X0_writes σ3 r4 (fun _ σ5 => (K (gI σ5 0 19) σ5)))))) ∧ (¬ r2 ≤ x1 → (vp_in x1 8 ∧ (U_X0_writes σ1 (gI σ1 17 (Int32.toNatClampNeg x1)) (fun _ σ7 => (vp_in x1 8 ∧ (U_X0_writes σ7 (gI σ7 18 (Int32.toNatClampNeg x1)) (fun _ σ9 => (vp_in x1 8 ∧ (U_X0_writes σ9 (gI σ9 19 (Int32.toNatClampNeg x1)) (fun _ σ11 => (vp_in x1 8 ∧ (U_X0_writes σ11 (gI σ11 20 (Int32.toNatClampNeg x1)) (fun _ σ13 => (vp_in x1 8 ∧ ((((gI σ13 21 (Int32.toNatClampNeg x1)) = (0 : Int32) → (U_X0_writes σ13 0 (fun _ σ15 => (U_X0_image_32 K n (x1 + 1) σ15)))) ∧ (¬ (gI σ13 21 (Int32.toNatClampNeg x1)) = (0 : Int32) → (U_X0_writes σ13 1 (fun _ σ17 => (U_X0_image_32 K n (x1 + 1) σ17)))))))))))))))))))))))
def U_X0_image (σ : CS) (K : Int32 → CS → Prop) : Prop := ∀ σ19 : CS, σ19 = wI σ 0 19 0 → (U_X0_writes σ19 ((gI σ19 16 0) >>> (8 &&& 31)) (fun _ σ20 => (U_X0_writes σ20 (gI σ20 16 0) (fun _ σ22 => (∃ n32, U_X0_image_32 K n32 0 σ22)))))
def U_X0_octet (σ : CS) (x1 : Int32) (K : Int32 → CS → Prop) : Prop := ((x1 < 0 → (K (-1) σ)) ∧ (¬ x1 < 0 → (((x1 < (gI σ 0 19) → (vp_in x1 43 ∧ (K ((gI σ 1295 (Int32.toNatClampNeg x1)) &&& 255) σ))) ∧ (¬ x1 < (gI σ 0 19) → (K (-1) σ))))))
def U_X0_thingOn_148 (K : Int32 → CS → Prop) (x1 : Int32) (s0 : Int32) (σ : CS) : Prop := ((s0 = 0 → (K 0 σ)) ∧ (¬ s0 = 0 → (vp_in x1 8 ∧ ((((gI σ 79 (Int32.toNatClampNeg x1)) = (0 : Int32) → (K 1 σ)) ∧ (¬ (gI σ 79 (Int32.toNatClampNeg x1)) = (0 : Int32) → (vp_in x1 8 ∧ (((¬ (gI σ 75 (Int32.toNatClampNeg x1)) = (2 : Int32) → (K 0 σ)) ∧ ((gI σ 75 (Int32.toNatClampNeg x1)) = (2 : Int32) → (K 1 σ)))))))))))
def U_X0_thingOn_86 (K : Int32 → CS → Prop) (x1 : Int32) (x2 : Int32) (s0 : Int32) (s1 : Int32) (σ : CS) : Prop := vp_in s1 8 ∧ (∀ σ1 : CS, σ1 = wI σ 79 (Int32.toNatClampNeg s1) (vp_nar .boolean s0) → (U_X0_byteAt σ1 x2 (fun r3 σ2 => (((2 < r3 → (U_X0_thingOn_148 K x1 0 σ2)) ∧ (¬ 2 < r3 → (U_X0_byteAt σ2 (x2 + 1) (fun r5 σ4 => (((99 < r5 → (U_X0_thingOn_148 K x1 0 σ4)) ∧ (¬ 99 < r5 → (U_X0_byteAt σ4 (x2 + 2) (fun r7 σ6 => (((99 < r7 → (U_X0_thingOn_148 K x1 0 σ6)) ∧ (¬ 99 < r7 → (U_X0_byteAt σ6 (x2 + 3) (fun r9 σ8 => (((99 < r9 → (U_X0_thingOn_148 K x1 0 σ8)) ∧ (¬ 99 < r9 → (U_X0_byteAt σ8 (x2 + 4) (fun r11 σ10 => (((1 < r11 → (U_X0_thingOn_148 K x1 0 σ10)) ∧ (¬ 1 < r11 → (U_X0_thingOn_148 K x1 1 σ10)))))))))))))))))))))))))))
def U_X0_thingOn (σ : CS) (x1 : Int32) (x2 : Int32) (K : Int32 → CS → Prop) : Prop := U_X0_byteAt σ x2 (fun r13 σ12 => (vp_in x1 8 ∧ (∀ σ14 : CS, σ14 = wI σ12 75 (Int32.toNatClampNeg x1) r13 → (U_X0_byteAt σ14 (x2 + 1) (fun r16 σ15 => (vp_in x1 8 ∧ (∀ σ17 : CS, σ17 = wI σ15 76 (Int32.toNatClampNeg x1) r16 → (U_X0_byteAt σ17 (x2 + 2) (fun r19 σ18 => (vp_in x1 8 ∧ (∀ σ20 : CS, σ20 = wI σ18 77 (Int32.toNatClampNeg x1) r19 → (U_X0_byteAt σ20 (x2 + 3) (fun r22 σ21 => (vp_in x1 8 ∧ (∀ σ23 : CS, σ23 = wI σ21 78 (Int32.toNatClampNeg x1) r22 → (U_X0_byteAt σ23 (x2 + 4) (fun r25 σ24 => (((¬ r25 = 1 → (U_X0_thingOn_86 K x1 x2 0 x1 σ24)) ∧ (r25 = 1 → (U_X0_thingOn_86 K x1 x2 1 x1 σ24)))))))))))))))))))))
def U_X0_on_123 (K : Int32 → CS → Prop) (x3 : Int32) (σ : CS) : Prop := ((¬ x3 = 0 → (U_X5_copy σ 16 74 (fun r2 σ1 => (∀ σ3 : CS, σ3 = wI σ1 0 15 0 → (K 1 σ3))))) ∧ (x3 = 0 → (U_X0_refuses σ 5 (fun r5 σ4 => (((r5 < 0 → (K 0 σ4)) ∧ (¬ r5 < 0 → (K 1 σ4))))))))
def U_X0_on_91 (K : Int32 → CS → Prop) : Nat → Int32 → Int32 → CS → Prop
  | 0 => fun _ _ _ => False
  | n + 1 => fun x3 x4 σ => U_X0_things σ (fun r7 σ6 => (((r7 ≤ x4 → (U_X0_on_123 K x3 σ6)) ∧ (¬ r7 ≤ x4 → (((x3 = 0 → (U_X0_on_123 K x3 σ6)) ∧ (¬ x3 = 0 → (U_X0_thingOn σ6 x4 (2 + (5 * x4)) (fun r9 σ8 => (U_X0_on_91 K n r9 (x4 + 1) σ8))))))))))
def U_X0_on_64 (K : Int32 → CS → Prop) (x2 : Int32) (s0 : Int32) (σ : CS) : Prop := U_X5_copy σ 74 16 (fun r11 σ10 => (∃ q12, r11 = q12 + 1 ∧ (q12 < CB ∧ (gK σ10 q12 = some kO5 ∧ (∀ σ13 : CS, σ13 = wI σ10 q12 0 x2 → (∀ σ14 : CS, σ14 = wI σ13 74 1 0 → (∃ n91, U_X0_on_91 K n91 s0 0 σ14)))))))
def U_X0_on (σ : CS) (K : Int32 → CS → Prop) : Prop := U_X0_taken σ (fun r16 σ15 => (U_X0_byteAt σ15 0 (fun r18 σ17 => (U_X0_byteAt σ17 1 (fun r20 σ19 => (U_X0_things σ19 (fun r22 σ21 => (((¬ r16 = (3 + (5 * r22)) → (U_X0_on_64 K ((r18 <<< (8 &&& 31)) ||| r20) 0 σ21)) ∧ (r16 = (3 + (5 * r22)) → (U_X0_byteAt σ21 (r16 - 1) (fun r24 σ23 => (U_X0_check σ23 8 (r16 - 1) (fun r26 σ25 => (((¬ r24 = r26 → (U_X0_on_64 K ((r18 <<< (8 &&& 31)) ||| r20) 0 σ25)) ∧ (r24 = r26 → ((((999 : Int32) < ((r18 <<< (8 &&& 31)) ||| r20) → (U_X0_on_64 K ((r18 <<< (8 &&& 31)) ||| r20) 0 σ25)) ∧ (¬ (999 : Int32) < ((r18 <<< (8 &&& 31)) ||| r20) → (U_X0_on_64 K ((r18 <<< (8 &&& 31)) ||| r20) 1 σ25)))))))))))))))))))))
def U_X0_status (σ : CS) (x1 : Int32) (K : Int32 → CS → Prop) : Prop := U_X0_is σ x1 0 5 (fun r2 σ1 => (((r2 = 0 → (K (-1) σ1)) ∧ (¬ r2 = 0 → (vp_in x1 6 ∧ (K (gI σ1 15 (Int32.toNatClampNeg x1)) σ1))))))
def U_X22_meets (σ : CS) (ob : Nat) (x1 : Int32) (x2 : Nat) (K : Unit → CS → Prop) : Prop := gK σ ob = some kO19 ∧ ((((3 : Int32) ≤ (gI σ ob 0) → (gK σ ob = some kO19 ∧ (∃ q1, (gR σ ob 2) = q1 + 1 ∧ ((U_ev 100).1 σ q1 x2 (fun r4 σ3 => (gK σ3 ob = some kO19 ∧ (((¬ (gI σ3 ob 4) = (0 : Int32) → (gK σ3 ob = some kO19 ∧ (((¬ (gI σ3 ob 0) = (3 : Int32) → (gK σ3 ob = some kO19 ∧ (((¬ (gI σ3 ob 0) = (4 : Int32) → (gK σ3 ob = some kO19 ∧ (U_J12_min_2 σ3 (gL σ3 ob 3) r4 (fun r6 σ5 => (ob < CB ∧ (gK σ5 ob = some kO19 ∧ (∀ σ7 : CS, σ7 = wL σ5 ob 3 r6 → (ob < CB ∧ (gK σ7 ob = some kO19 ∧ (∀ σ8 : CS, σ8 = wI σ7 ob 4 1 → (K () σ8))))))))))) ∧ ((gI σ3 ob 0) = (4 : Int32) → (gK σ3 ob = some kO19 ∧ (U_J12_max_2 σ3 (gL σ3 ob 3) r4 (fun r10 σ9 => (ob < CB ∧ (gK σ9 ob = some kO19 ∧ (∀ σ11 : CS, σ11 = wL σ9 ob 3 r10 → (ob < CB ∧ (gK σ11 ob = some kO19 ∧ (∀ σ12 : CS, σ12 = wI σ11 ob 4 1 → (K () σ12))))))))))))))) ∧ ((gI σ3 ob 0) = (3 : Int32) → (gK σ3 ob = some kO19 ∧ (ob < CB ∧ (gK σ3 ob = some kO19 ∧ (∀ σ13 : CS, σ13 = wL σ3 ob 3 ((gL σ3 ob 3) + r4) → (ob < CB ∧ (gK σ13 ob = some kO19 ∧ (∀ σ14 : CS, σ14 = wI σ13 ob 4 1 → (K () σ14))))))))))))) ∧ ((gI σ3 ob 4) = (0 : Int32) → (ob < CB ∧ (gK σ3 ob = some kO19 ∧ (∀ σ15 : CS, σ15 = wL σ3 ob 3 r4 → (ob < CB ∧ (gK σ15 ob = some kO19 ∧ (∀ σ16 : CS, σ16 = wI σ15 ob 4 1 → (K () σ16)))))))))))))))) ∧ (¬ (3 : Int32) ≤ (gI σ ob 0) → (gK σ ob = some kO19 ∧ (∃ q17, (gR σ ob 1) = q17 + 1 ∧ ((U_ev 100).2 σ q17 x2 (fun r20 σ19 => (((¬ r20 = 0 → (gK σ19 ob = some kO19 ∧ (((¬ (gI σ19 ob 0) = (2 : Int32) → (gK σ19 ob = some kO19 ∧ (((¬ (gI σ19 ob 0) = (0 : Int32) → (ob < CB ∧ (gK σ19 ob = some kO19 ∧ (∀ σ21 : CS, σ21 = wL σ19 ob 3 (Int32.toInt64 x1) → (ob < CB ∧ (gK σ21 ob = some kO19 ∧ (∀ σ22 : CS, σ22 = wI σ21 ob 4 1 → (K () σ22)))))))) ∧ ((gI σ19 ob 0) = (0 : Int32) → (gK σ19 ob = some kO19 ∧ ((((gI σ19 ob 4) = (0 : Int32) → (ob < CB ∧ (gK σ19 ob = some kO19 ∧ (∀ σ23 : CS, σ23 = wL σ19 ob 3 (Int32.toInt64 x1) → (ob < CB ∧ (gK σ23 ob = some kO19 ∧ (∀ σ24 : CS, σ24 = wI σ23 ob 4 1 → (K () σ24)))))))) ∧ (¬ (gI σ19 ob 4) = (0 : Int32) → (gK σ19 ob = some kO19 ∧ (ob < CB ∧ (gK σ19 ob = some kO19 ∧ (∀ σ25 : CS, σ25 = wL σ19 ob 3 (gL σ19 ob 3) → (ob < CB ∧ (gK σ25 ob = some kO19 ∧ (∀ σ26 : CS, σ26 = wI σ25 ob 4 1 → (K () σ26))))))))))))))))) ∧ ((gI σ19 ob 0) = (2 : Int32) → (gK σ19 ob = some kO19 ∧ (U_J12_max_2 σ19 0 (gL σ19 ob 3) (fun r28 σ27 => (ob < CB ∧ (gK σ27 ob = some kO19 ∧ (∀ σ29 : CS, σ29 = wL σ27 ob 3 (r28 + 1) → (ob < CB ∧ (gK σ29 ob = some kO19 ∧ (∀ σ30 : CS, σ30 = wI σ29 ob 4 1 → (K () σ30))))))))))))))) ∧ (r20 = 0 → (K () σ19)))))))))))
def U_X22_answer (σ : CS) (ob : Nat) (K : Int64 → CS → Prop) : Prop := gK σ ob = some kO19 ∧ (((¬ (gI σ ob 4) = (0 : Int32) → (gK σ ob = some kO19 ∧ (K (gL σ ob 3) σ))) ∧ ((gI σ ob 4) = (0 : Int32) → (gK σ ob = some kO19 ∧ ((((2 : Int32) ≤ (gI σ ob 0) → (K 0 σ)) ∧ (¬ (2 : Int32) ≤ (gI σ ob 0) → (gK σ ob = some kO19 ∧ (K (gL σ ob 3) σ)))))))))
def U_X5_begins_17 (K : Unit → CS → Prop) (ob : Nat) : Nat → Int32 → CS → Prop
  | 0 => fun _ _ => False
  | n + 1 => fun x1 σ => ((8 ≤ x1 → (K () σ)) ∧ (¬ 8 ≤ x1 → (vp_in x1 8 ∧ (∀ σ1 : CS, σ1 = wI σ (ob + 1) (Int32.toNatClampNeg x1) 0 → (vp_in x1 8 ∧ (∀ σ2 : CS, σ2 = wI σ1 (ob + 2) (Int32.toNatClampNeg x1) 0 → (vp_in x1 8 ∧ (∀ σ3 : CS, σ3 = wI σ2 (ob + 3) (Int32.toNatClampNeg x1) 0 → (vp_in x1 8 ∧ (∀ σ4 : CS, σ4 = wI σ3 (ob + 4) (Int32.toNatClampNeg x1) 0 → (vp_in x1 8 ∧ (∀ σ5 : CS, σ5 = wI σ4 (ob + 5) (Int32.toNatClampNeg x1) (vp_nar .boolean 0) → (U_X5_begins_17 K ob n (x1 + 1) σ5)))))))))))))
def U_X5_begins (σ : CS) (ob : Nat) (K : Unit → CS → Prop) : Prop := ∀ σ6 : CS, σ6 = wI σ ob 0 0 → (∀ σ7 : CS, σ7 = wI σ6 ob 1 0 → (∀ σ8 : CS, σ8 = wI σ7 ob 9 (-1) → (∃ n17, U_X5_begins_17 K ob n17 0 σ8)))
theorem hdS_J16_bitCount : yJ16_bitCount.cls ≠ "java/lang/invoke/MethodHandle" ∧ yJ16_bitCount.cls ≠ "java/lang/invoke/VarHandle" ∧ (parseMethodDescriptor yJ16_bitCount.desc).map (fun d => d.parameters.length) = some 1 := by decide +kernel
theorem hdS_X0_check : yX0_check.cls ≠ "java/lang/invoke/MethodHandle" ∧ yX0_check.cls ≠ "java/lang/invoke/VarHandle" ∧ (parseMethodDescriptor yX0_check.desc).map (fun d => d.parameters.length) = some 2 := by decide +kernel
theorem hdS_X0_has : yX0_has.cls ≠ "java/lang/invoke/MethodHandle" ∧ yX0_has.cls ≠ "java/lang/invoke/VarHandle" ∧ (parseMethodDescriptor yX0_has.desc).map (fun d => d.parameters.length) = some 2 := by decide +kernel
theorem hdS_X0_is : yX0_is.cls ≠ "java/lang/invoke/MethodHandle" ∧ yX0_is.cls ≠ "java/lang/invoke/VarHandle" ∧ (parseMethodDescriptor yX0_is.desc).map (fun d => d.parameters.length) = some 3 := by decide +kernel
theorem hdS_X0_menderOf : yX0_menderOf.cls ≠ "java/lang/invoke/MethodHandle" ∧ yX0_menderOf.cls ≠ "java/lang/invoke/VarHandle" ∧ (parseMethodDescriptor yX0_menderOf.desc).map (fun d => d.parameters.length) = some 1 := by decide +kernel
theorem hdS_X0_menders : yX0_menders.cls ≠ "java/lang/invoke/MethodHandle" ∧ yX0_menders.cls ≠ "java/lang/invoke/VarHandle" ∧ (parseMethodDescriptor yX0_menders.desc).map (fun d => d.parameters.length) = some 0 := by decide +kernel
theorem hdS_X0_things : yX0_things.cls ≠ "java/lang/invoke/MethodHandle" ∧ yX0_things.cls ≠ "java/lang/invoke/VarHandle" ∧ (parseMethodDescriptor yX0_things.desc).map (fun d => d.parameters.length) = some 0 := by decide +kernel
theorem hdV_X0_breaksBy : yX0_breaksBy.cls = RX0 ∧ yX0_breaksBy.cls ≠ "java/lang/invoke/MethodHandle" ∧ yX0_breaksBy.cls ≠ "java/lang/invoke/VarHandle" ∧ (parseMethodDescriptor yX0_breaksBy.desc).map (fun d => d.parameters.length) = some 3 := by decide +kernel
theorem hdV_X0_byteAt : yX0_byteAt.cls = RX0 ∧ yX0_byteAt.cls ≠ "java/lang/invoke/MethodHandle" ∧ yX0_byteAt.cls ≠ "java/lang/invoke/VarHandle" ∧ (parseMethodDescriptor yX0_byteAt.desc).map (fun d => d.parameters.length) = some 1 := by decide +kernel
theorem hdV_X0_draw : yX0_draw.cls = RX0 ∧ yX0_draw.cls ≠ "java/lang/invoke/MethodHandle" ∧ yX0_draw.cls ≠ "java/lang/invoke/VarHandle" ∧ (parseMethodDescriptor yX0_draw.desc).map (fun d => d.parameters.length) = some 1 := by decide +kernel
theorem hdV_X0_isAhead : yX0_isAhead.cls = RX0 ∧ yX0_isAhead.cls ≠ "java/lang/invoke/MethodHandle" ∧ yX0_isAhead.cls ≠ "java/lang/invoke/VarHandle" ∧ (parseMethodDescriptor yX0_isAhead.desc).map (fun d => d.parameters.length) = some 3 := by decide +kernel
theorem hdV_X0_isMender : yX0_isMender.cls = RX0 ∧ yX0_isMender.cls ≠ "java/lang/invoke/MethodHandle" ∧ yX0_isMender.cls ≠ "java/lang/invoke/VarHandle" ∧ (parseMethodDescriptor yX0_isMender.desc).map (fun d => d.parameters.length) = some 1 := by decide +kernel
theorem hdV_X0_isParted : yX0_isParted.cls = RX0 ∧ yX0_isParted.cls ≠ "java/lang/invoke/MethodHandle" ∧ yX0_isParted.cls ≠ "java/lang/invoke/VarHandle" ∧ (parseMethodDescriptor yX0_isParted.desc).map (fun d => d.parameters.length) = some 1 := by decide +kernel
theorem hdV_X0_isThing : yX0_isThing.cls = RX0 ∧ yX0_isThing.cls ≠ "java/lang/invoke/MethodHandle" ∧ yX0_isThing.cls ≠ "java/lang/invoke/VarHandle" ∧ (parseMethodDescriptor yX0_isThing.desc).map (fun d => d.parameters.length) = some 1 := by decide +kernel
theorem hdV_X0_isTrial : yX0_isTrial.cls = RX0 ∧ yX0_isTrial.cls ≠ "java/lang/invoke/MethodHandle" ∧ yX0_isTrial.cls ≠ "java/lang/invoke/VarHandle" ∧ (parseMethodDescriptor yX0_isTrial.desc).map (fun d => d.parameters.length) = some 1 := by decide +kernel
theorem hdV_X0_keeps : yX0_keeps.cls = RX0 ∧ yX0_keeps.cls ≠ "java/lang/invoke/MethodHandle" ∧ yX0_keeps.cls ≠ "java/lang/invoke/VarHandle" ∧ (parseMethodDescriptor yX0_keeps.desc).map (fun d => d.parameters.length) = some 0 := by decide +kernel
theorem hdV_X0_menderOf : yX0_menderOf.cls = RX0 ∧ yX0_menderOf.cls ≠ "java/lang/invoke/MethodHandle" ∧ yX0_menderOf.cls ≠ "java/lang/invoke/VarHandle" ∧ (parseMethodDescriptor yX0_menderOf.desc).map (fun d => d.parameters.length) = some 1 := by decide +kernel
theorem hdV_X0_menders : yX0_menders.cls = RX0 ∧ yX0_menders.cls ≠ "java/lang/invoke/MethodHandle" ∧ yX0_menders.cls ≠ "java/lang/invoke/VarHandle" ∧ (parseMethodDescriptor yX0_menders.desc).map (fun d => d.parameters.length) = some 0 := by decide +kernel
theorem hdV_X0_put : yX0_put.cls = RX0 ∧ yX0_put.cls ≠ "java/lang/invoke/MethodHandle" ∧ yX0_put.cls ≠ "java/lang/invoke/VarHandle" ∧ (parseMethodDescriptor yX0_put.desc).map (fun d => d.parameters.length) = some 1 := by decide +kernel
theorem hdV_X0_refuses : yX0_refuses.cls = RX0 ∧ yX0_refuses.cls ≠ "java/lang/invoke/MethodHandle" ∧ yX0_refuses.cls ≠ "java/lang/invoke/VarHandle" ∧ (parseMethodDescriptor yX0_refuses.desc).map (fun d => d.parameters.length) = some 1 := by decide +kernel
theorem hdV_X0_taken : yX0_taken.cls = RX0 ∧ yX0_taken.cls ≠ "java/lang/invoke/MethodHandle" ∧ yX0_taken.cls ≠ "java/lang/invoke/VarHandle" ∧ (parseMethodDescriptor yX0_taken.desc).map (fun d => d.parameters.length) = some 0 := by decide +kernel
theorem hdV_X0_thingOf : yX0_thingOf.cls = RX0 ∧ yX0_thingOf.cls ≠ "java/lang/invoke/MethodHandle" ∧ yX0_thingOf.cls ≠ "java/lang/invoke/VarHandle" ∧ (parseMethodDescriptor yX0_thingOf.desc).map (fun d => d.parameters.length) = some 1 := by decide +kernel
theorem hdV_X0_thingOn : yX0_thingOn.cls = RX0 ∧ yX0_thingOn.cls ≠ "java/lang/invoke/MethodHandle" ∧ yX0_thingOn.cls ≠ "java/lang/invoke/VarHandle" ∧ (parseMethodDescriptor yX0_thingOn.desc).map (fun d => d.parameters.length) = some 2 := by decide +kernel
theorem hdV_X0_things : yX0_things.cls = RX0 ∧ yX0_things.cls ≠ "java/lang/invoke/MethodHandle" ∧ yX0_things.cls ≠ "java/lang/invoke/VarHandle" ∧ (parseMethodDescriptor yX0_things.desc).map (fun d => d.parameters.length) = some 0 := by decide +kernel
theorem hdV_X0_useOf : yX0_useOf.cls = RX0 ∧ yX0_useOf.cls ≠ "java/lang/invoke/MethodHandle" ∧ yX0_useOf.cls ≠ "java/lang/invoke/VarHandle" ∧ (parseMethodDescriptor yX0_useOf.desc).map (fun d => d.parameters.length) = some 1 := by decide +kernel
theorem hdV_X0_worthOf : yX0_worthOf.cls = RX0 ∧ yX0_worthOf.cls ≠ "java/lang/invoke/MethodHandle" ∧ yX0_worthOf.cls ≠ "java/lang/invoke/VarHandle" ∧ (parseMethodDescriptor yX0_worthOf.desc).map (fun d => d.parameters.length) = some 1 := by decide +kernel
theorem hdV_X0_writes : yX0_writes.cls = RX0 ∧ yX0_writes.cls ≠ "java/lang/invoke/MethodHandle" ∧ yX0_writes.cls ≠ "java/lang/invoke/VarHandle" ∧ (parseMethodDescriptor yX0_writes.desc).map (fun d => d.parameters.length) = some 1 := by decide +kernel
theorem hdV_X5_are : yX5_are.cls = RX5 ∧ yX5_are.cls ≠ "java/lang/invoke/MethodHandle" ∧ yX5_are.cls ≠ "java/lang/invoke/VarHandle" ∧ (parseMethodDescriptor yX5_are.desc).map (fun d => d.parameters.length) = some 1 := by decide +kernel
theorem hdV_X5_breaks : yX5_breaks.cls = RX5 ∧ yX5_breaks.cls ≠ "java/lang/invoke/MethodHandle" ∧ yX5_breaks.cls ≠ "java/lang/invoke/VarHandle" ∧ (parseMethodDescriptor yX5_breaks.desc).map (fun d => d.parameters.length) = some 1 := by decide +kernel
theorem hdV_X5_by : yX5_by.cls = RX5 ∧ yX5_by.cls ≠ "java/lang/invoke/MethodHandle" ∧ yX5_by.cls ≠ "java/lang/invoke/VarHandle" ∧ (parseMethodDescriptor yX5_by.desc).map (fun d => d.parameters.length) = some 1 := by decide +kernel
theorem hdV_X5_copy : yX5_copy.cls = RX5 ∧ yX5_copy.cls ≠ "java/lang/invoke/MethodHandle" ∧ yX5_copy.cls ≠ "java/lang/invoke/VarHandle" ∧ (parseMethodDescriptor yX5_copy.desc).map (fun d => d.parameters.length) = some 1 := by decide +kernel
theorem hdV_X5_fine : yX5_fine.cls = RX5 ∧ yX5_fine.cls ≠ "java/lang/invoke/MethodHandle" ∧ yX5_fine.cls ≠ "java/lang/invoke/VarHandle" ∧ (parseMethodDescriptor yX5_fine.desc).map (fun d => d.parameters.length) = some 2 := by decide +kernel
theorem hdV_X5_first : yX5_first.cls = RX5 ∧ yX5_first.cls ≠ "java/lang/invoke/MethodHandle" ∧ yX5_first.cls ≠ "java/lang/invoke/VarHandle" ∧ (parseMethodDescriptor yX5_first.desc).map (fun d => d.parameters.length) = some 1 := by decide +kernel
theorem hdV_X5_forged : yX5_forged.cls = RX5 ∧ yX5_forged.cls ≠ "java/lang/invoke/MethodHandle" ∧ yX5_forged.cls ≠ "java/lang/invoke/VarHandle" ∧ (parseMethodDescriptor yX5_forged.desc).map (fun d => d.parameters.length) = some 0 := by decide +kernel
theorem hdV_X5_holds : yX5_holds.cls = RX5 ∧ yX5_holds.cls ≠ "java/lang/invoke/MethodHandle" ∧ yX5_holds.cls ≠ "java/lang/invoke/VarHandle" ∧ (parseMethodDescriptor yX5_holds.desc).map (fun d => d.parameters.length) = some 2 := by decide +kernel
theorem hdV_X5_isMended : yX5_isMended.cls = RX5 ∧ yX5_isMended.cls ≠ "java/lang/invoke/MethodHandle" ∧ yX5_isMended.cls ≠ "java/lang/invoke/VarHandle" ∧ (parseMethodDescriptor yX5_isMended.desc).map (fun d => d.parameters.length) = some 2 := by decide +kernel
theorem hdV_X5_next : yX5_next.cls = RX5 ∧ yX5_next.cls ≠ "java/lang/invoke/MethodHandle" ∧ yX5_next.cls ≠ "java/lang/invoke/VarHandle" ∧ (parseMethodDescriptor yX5_next.desc).map (fun d => d.parameters.length) = some 0 := by decide +kernel
theorem hdV_X5_passes : yX5_passes.cls = RX5 ∧ yX5_passes.cls ≠ "java/lang/invoke/MethodHandle" ∧ yX5_passes.cls ≠ "java/lang/invoke/VarHandle" ∧ (parseMethodDescriptor yX5_passes.desc).map (fun d => d.parameters.length) = some 0 := by decide +kernel
theorem hdV_X5_standing : yX5_standing.cls = RX5 ∧ yX5_standing.cls ≠ "java/lang/invoke/MethodHandle" ∧ yX5_standing.cls ≠ "java/lang/invoke/VarHandle" ∧ (parseMethodDescriptor yX5_standing.desc).map (fun d => d.parameters.length) = some 0 := by decide +kernel
theorem hdV_X5_stands : yX5_stands.cls = RX5 ∧ yX5_stands.cls ≠ "java/lang/invoke/MethodHandle" ∧ yX5_stands.cls ≠ "java/lang/invoke/VarHandle" ∧ (parseMethodDescriptor yX5_stands.desc).map (fun d => d.parameters.length) = some 1 := by decide +kernel
theorem hdV_X5_sum : yX5_sum.cls = RX5 ∧ yX5_sum.cls ≠ "java/lang/invoke/MethodHandle" ∧ yX5_sum.cls ≠ "java/lang/invoke/VarHandle" ∧ (parseMethodDescriptor yX5_sum.desc).map (fun d => d.parameters.length) = some 3 := by decide +kernel
theorem hdV_X5_takes : yX5_takes.cls = RX5 ∧ yX5_takes.cls ≠ "java/lang/invoke/MethodHandle" ∧ yX5_takes.cls ≠ "java/lang/invoke/VarHandle" ∧ (parseMethodDescriptor yX5_takes.desc).map (fun d => d.parameters.length) = some 2 := by decide +kernel
theorem hdV_X5_tells : yX5_tells.cls = RX5 ∧ yX5_tells.cls ≠ "java/lang/invoke/MethodHandle" ∧ yX5_tells.cls ≠ "java/lang/invoke/VarHandle" ∧ (parseMethodDescriptor yX5_tells.desc).map (fun d => d.parameters.length) = some 2 := by decide +kernel
set_option maxHeartbeats 4000000 in
set_option maxRecDepth 100000 in
theorem um_X0_put (l : Launch) (D : va_G) (dA : Nat → ClassId) (ad : Nat → Nat) (Hs : Heap) (hA : cAd ad 1296 Hs.size) (σ : CS) (x1 : Int32) (K : Unit → CS → Prop) (hT : U_X0_put σ x1 K) : Met l yX0_put (ws_ yX0_put cX0_put 3 (none)) ({ frames := 1, cells := 0, slots := 0, locals := 12 }) (va_Pc [.ref (ad 0), .int x1] (cU D dA ad 1296 Hs σ)) (xQ rvU K (cU D dA ad 1296 Hs) (cA ad)) 0 0 (cA ad) := by
  refine xm_v hA (by decide) rfl (Nat.le_of_ble_eq_true rfl) ?_
  intro p e s m args below meth c Q hC hN hret hI ls hl
  have hx := hC.1.1
  have hb := hC.1.2.1
  have hB : 0 ≤ 0 ∧ 0 ≤ 0 := ⟨Nat.zero_le _, Nat.zero_le _⟩
  have hl : lv_has ls 3 [(0, .ref (ad 0)), (1, .int x1)] := hl
  have w_3 : ∀ (x1 : Int32) (n : Nat) (x2 : Int32) (σ : CS) (H : Heap) (locs : List Loc) (ls : Array Slot), U_X0_put_3 K x1 n x2 σ → xI D dA ad 1296 Hs s.heap σ H locs → lv_has ls 3 [(0, .ref (ad 0)), (1, .int x1), (2, .int x2)] → W p l e ({ frames := 1, cells := 0, slots := 0, locals := 12 }) s m args below meth c H locs 0 0 Q (F0 m 3 ls []) := by
    intro x1 n
    induction n with
    | zero => intro x2 σ H locs ls hT; exact hT.elim
    | succ n ih =>
      intro x2 σ H locs ls hT hI hl
      unfold U_X0_put_3 at hT
      refine lv_iload_n hx hb dX0_put_3 rfl (lv_at hl 2 rfl) ?_
      refine lv_if_lt (tgt := 33) hx hb dX0_put_4 (by decide) (fun hc => ?_) (fun hc => ?_)
      · replace hT := hT.1 hc
        exact hret _ _ _ _ _ _ _ _ hT hI hB dX0_put_33
      · replace hT := hT.2 hc
        refine lv_aload_n hx hb dX0_put_7 rfl (lv_at hl 0 rfl) ?_
        refine xg0_1 (i := 0) hC hI (xst hI (Nat.le_of_ble_eq_true rfl) sl_0) q472 (fun _ h => h) dX0_put_8 ?_
        refine lv_aload_n hx hb dX0_put_11 rfl (lv_at hl 0 rfl) ?_
        refine lv_dup hx hb dX0_put_12 rfl ?_
        refine xg0_2 (i := 0) hC hI (xst hI (Nat.le_of_ble_eq_true rfl) sl_0) q473 (fun _ h => h) dX0_put_13 ?_
        refine lv_dup_x1 hx hb dX0_put_16 rfl rfl ?_
        refine lv_iconst (v := 1) hx hb dX0_put_17 (by decide) ?_
        refine lv_iadd hx hb dX0_put_18 ?_
        refine xp0_2 (i := 0) (v := (gI σ 0 2) + 1) hC hI (Nat.lt_of_lt_of_le (show _ < 1296 from (Nat.le_of_ble_eq_true rfl)) (by decide)) (xst hI (Nat.le_of_ble_eq_true rfl) sl_0) hT q473 (fun _ h => h) dX0_put_19 (fun σ1 H locs hT hI => ?_)
        refine lv_iload_n hx hb dX0_put_22 rfl (lv_at hl 1 rfl) ?_
        refine lv_iload_n hx hb dX0_put_23 rfl (lv_at hl 2 rfl) ?_
        refine lv_ishr hx hb dX0_put_24 ?_
        refine lv_i2b hx hb dX0_put_25 rfl ?_
        refine x_bast (i := 8) hC hI (Nat.lt_of_lt_of_le (show _ < 1296 from (Nat.le_of_ble_eq_true rfl)) (by decide)) (xst hI (Nat.le_of_ble_eq_true rfl) sl_8) hT dX0_put_26 (fun σ2 H locs hT hI => ?_)
        refine lv_iinc (v := x2 + (-8)) (lv' := [(2, .int (x2 + (-8))), (0, .ref (ad 0)), (1, .int x1)]) hx hb dX0_put_27 hl (k := 2) rfl rfl (Nat.le_of_ble_eq_true rfl) rfl (fun ls hl => ?_)
        refine lv_goto (tgt := 3) hx hb dX0_put_30 (by decide) ?_
        exact ih (x2 + (-8)) σ2 _ _ _ hT hI (lv_sub hl [1, 2, 0] rfl)
  unfold U_X0_put at hT
  refine lv_bipush (v := 24) hx hb dX0_put_0 (by decide) ?_
  refine lv_istore_n (lv' := [(2, .int 24), (0, .ref (ad 0)), (1, .int x1)]) hx hb dX0_put_2 rfl hl (Nat.le_of_ble_eq_true rfl) rfl (fun ls hl => ?_)
  obtain ⟨n3, hT⟩ := hT
  exact w_3 x1 n3 24 σ _ _ _ hT hI (lv_sub hl [1, 2, 0] rfl)
set_option maxHeartbeats 4000000 in
set_option maxRecDepth 100000 in
theorem um_X0_refuses (l : Launch) (D : va_G) (dA : Nat → ClassId) (ad : Nat → Nat) (Hs : Heap) (hA : cAd ad 1296 Hs.size) (σ : CS) (x1 : Int32) (K : Int32 → CS → Prop) (hT : U_X0_refuses σ x1 K) : Met l yX0_refuses (ws_ yX0_refuses cX0_refuses 2 (some .int)) ({ frames := 1, cells := 0, slots := 0, locals := 12 }) (va_Pc [.ref (ad 0), .int x1] (cU D dA ad 1296 Hs σ)) (xQ rvI K (cU D dA ad 1296 Hs) (cA ad)) 0 0 (cA ad) := by
  refine xm_i hA (by decide) rfl (Nat.le_of_ble_eq_true rfl) ?_
  intro p e s m args below meth c Q hC hN hret hI ls hl
  have hx := hC.1.1
  have hb := hC.1.2.1
  have hB : 0 ≤ 0 ∧ 0 ≤ 0 := ⟨Nat.zero_le _, Nat.zero_le _⟩
  have hl : lv_has ls 2 [(0, .ref (ad 0)), (1, .int x1)] := hl
  unfold U_X0_refuses at hT
  refine lv_aload_n hx hb dX0_refuses_0 rfl (lv_at hl 0 rfl) ?_
  refine xg0_8 (i := 0) hC hI (xst hI (Nat.le_of_ble_eq_true rfl) sl_0) q480 (fun _ h => h) dX0_refuses_1 ?_
  refine lv_iload_n hx hb dX0_refuses_4 rfl (lv_at hl 1 rfl) ?_
  refine lv_dup2_11 hx hb dX0_refuses_5 rfl rfl ?_
  refine x_iald (i := 15) hC hI (xst hI (Nat.le_of_ble_eq_true rfl) sl_15) hT dX0_refuses_6 (fun hT => ?_)
  refine lv_iconst (v := 1) hx hb dX0_refuses_7 (by decide) ?_
  refine lv_iadd hx hb dX0_refuses_8 ?_
  refine x_iast (i := 15) hC hI (Nat.lt_of_lt_of_le (show _ < 1296 from (Nat.le_of_ble_eq_true rfl)) (by decide)) (xst hI (Nat.le_of_ble_eq_true rfl) sl_15) hT dX0_refuses_9 (fun σ1 H locs hT hI => ?_)
  refine lv_iconst (v := -1) hx hb dX0_refuses_10 (by decide) ?_
  exact hret _ _ _ _ _ _ _ _ hT hI hB dX0_refuses_11
set_option maxHeartbeats 4000000 in
set_option maxRecDepth 100000 in
theorem um_X0_feed (l : Launch) (D : va_G) (dA : Nat → ClassId) (ad : Nat → Nat) (Hs : Heap) (hA : cAd ad 1296 Hs.size) (σ : CS) (x1 : Int32) (x2 : Int32) (x3 : Int32) (x4 : Int32) (x5 : Int32) (K : Int32 → CS → Prop) (hT : U_X0_feed σ x1 x2 x3 x4 x5 K) : Met l yX0_feed (ws_ yX0_feed cX0_feed 6 (some .int)) ({ frames := 2, cells := 0, slots := 0, locals := 34 }) (va_Pc [.ref (ad 0), .int x1, .int x2, .int x3, .int x4, .int x5] (cU D dA ad 1296 Hs σ)) (xQ rvI K (cU D dA ad 1296 Hs) (cA ad)) 0 0 (cA ad) := by
  refine xm_i hA (by decide) rfl (Nat.le_of_ble_eq_true rfl) ?_
  intro p e s m args below meth c Q hC hN hret hI ls hl
  have hx := hC.1.1
  have hb := hC.1.2.1
  have hB : 0 ≤ 0 ∧ 0 ≤ 0 := ⟨Nat.zero_le _, Nat.zero_le _⟩
  have hl : lv_has ls 6 [(0, .ref (ad 0)), (1, .int x1), (2, .int x2), (3, .int x3), (4, .int x4), (5, .int x5)] := hl
  unfold U_X0_feed at hT
  refine lv_aload_n hx hb dX0_feed_0 rfl (lv_at hl 0 rfl) ?_
  refine xg0_2 (i := 0) hC hI (xst hI (Nat.le_of_ble_eq_true rfl) sl_0) q473 (fun _ h => h) dX0_feed_1 ?_
  refine lv_bipush (v := 20) hx hb dX0_feed_4 (by decide) ?_
  refine lv_iadd hx hb dX0_feed_6 ?_
  refine lv_sipush (v := 1600) hx hb dX0_feed_7 (by decide) ?_
  refine lv_icmp_le (tgt := 19) hx hb dX0_feed_10 (by decide) (fun hc => ?_) (fun hc => ?_)
  · replace hT := hT.1 hc
    refine lv_aload_n hx hb dX0_feed_19 rfl (lv_at hl 0 rfl) ?_
    refine lv_iload_n hx hb dX0_feed_20 rfl (lv_at hl 1 rfl) ?_
    refine x_call (x_runV (i := 0) hC hI (xst hI (Nat.le_of_ble_eq_true rfl) sl_0) rfl (um_X0_put l D dA ad Hs hC.2.2 σ x1 _ hT) (lw_V q541 q543 qs2 q158 q544) 1 hdV_X0_put ⟨rfl, rfl⟩ ⟨Nat.le_of_ble_eq_true rfl, Nat.le_of_ble_eq_true rfl⟩ rfl hl.1 rfl (Nat.le_of_ble_eq_true rfl) hB dX0_feed_21) hI (fun _ σ1 H locs hT hI => ?_)
    refine W.eq (g2 := F0 m 24 ls []) rfl ?_
    refine lv_aload_n hx hb dX0_feed_24 rfl (lv_at hl 0 rfl) ?_
    refine lv_iload_n hx hb dX0_feed_25 rfl (lv_at hl 2 rfl) ?_
    refine x_call (x_runV (i := 0) hC hI (xst hI (Nat.le_of_ble_eq_true rfl) sl_0) rfl (um_X0_put l D dA ad Hs hC.2.2 σ1 x2 _ hT) (lw_V q541 q543 qs2 q158 q544) 1 hdV_X0_put ⟨rfl, rfl⟩ ⟨Nat.le_of_ble_eq_true rfl, Nat.le_of_ble_eq_true rfl⟩ rfl hl.1 rfl (Nat.le_of_ble_eq_true rfl) hB dX0_feed_26) hI (fun _ σ3 H locs hT hI => ?_)
    refine W.eq (g2 := F0 m 29 ls []) rfl ?_
    refine lv_aload_n hx hb dX0_feed_29 rfl (lv_at hl 0 rfl) ?_
    refine lv_iload_n hx hb dX0_feed_30 rfl (lv_at hl 3 rfl) ?_
    refine x_call (x_runV (i := 0) hC hI (xst hI (Nat.le_of_ble_eq_true rfl) sl_0) rfl (um_X0_put l D dA ad Hs hC.2.2 σ3 x3 _ hT) (lw_V q541 q543 qs2 q158 q544) 1 hdV_X0_put ⟨rfl, rfl⟩ ⟨Nat.le_of_ble_eq_true rfl, Nat.le_of_ble_eq_true rfl⟩ rfl hl.1 rfl (Nat.le_of_ble_eq_true rfl) hB dX0_feed_31) hI (fun _ σ5 H locs hT hI => ?_)
    refine W.eq (g2 := F0 m 34 ls []) rfl ?_
    refine lv_aload_n hx hb dX0_feed_34 rfl (lv_at hl 0 rfl) ?_
    refine lv_iload hx hb dX0_feed_35 (lv_at hl 4 rfl) ?_
    refine x_call (x_runV (i := 0) hC hI (xst hI (Nat.le_of_ble_eq_true rfl) sl_0) rfl (um_X0_put l D dA ad Hs hC.2.2 σ5 x4 _ hT) (lw_V q541 q543 qs2 q158 q544) 1 hdV_X0_put ⟨rfl, rfl⟩ ⟨Nat.le_of_ble_eq_true rfl, Nat.le_of_ble_eq_true rfl⟩ rfl hl.1 rfl (Nat.le_of_ble_eq_true rfl) hB dX0_feed_37) hI (fun _ σ7 H locs hT hI => ?_)
    refine W.eq (g2 := F0 m 40 ls []) rfl ?_
    refine lv_aload_n hx hb dX0_feed_40 rfl (lv_at hl 0 rfl) ?_
    refine lv_iload hx hb dX0_feed_41 (lv_at hl 5 rfl) ?_
    refine x_call (x_runV (i := 0) hC hI (xst hI (Nat.le_of_ble_eq_true rfl) sl_0) rfl (um_X0_put l D dA ad Hs hC.2.2 σ7 x5 _ hT) (lw_V q541 q543 qs2 q158 q544) 1 hdV_X0_put ⟨rfl, rfl⟩ ⟨Nat.le_of_ble_eq_true rfl, Nat.le_of_ble_eq_true rfl⟩ rfl hl.1 rfl (Nat.le_of_ble_eq_true rfl) hB dX0_feed_43) hI (fun _ σ9 H locs hT hI => ?_)
    refine W.eq (g2 := F0 m 46 ls []) rfl ?_
    refine lv_aload_n hx hb dX0_feed_46 rfl (lv_at hl 0 rfl) ?_
    refine xg0_2 (i := 0) hC hI (xst hI (Nat.le_of_ble_eq_true rfl) sl_0) q473 (fun _ h => h) dX0_feed_47 ?_
    exact hret _ _ _ _ _ _ _ _ hT hI hB dX0_feed_50
  · replace hT := hT.2 hc
    refine lv_aload_n hx hb dX0_feed_13 rfl (lv_at hl 0 rfl) ?_
    refine lv_iconst (v := 0) hx hb dX0_feed_14 (by decide) ?_
    refine x_call (x_runV (i := 0) hC hI (xst hI (Nat.le_of_ble_eq_true rfl) sl_0) rfl (um_X0_refuses l D dA ad Hs hC.2.2 σ 0 _ hT) (lw_V q537 q539 qs1 q158 q540) 1 hdV_X0_refuses ⟨rfl, rfl⟩ ⟨Nat.le_of_ble_eq_true rfl, Nat.le_of_ble_eq_true rfl⟩ rfl hl.1 rfl (Nat.le_of_ble_eq_true rfl) hB dX0_feed_15) hI (fun r12 σ11 H locs hT hI => ?_)
    refine W.eq (g2 := F0 m 18 ls [.int r12]) rfl ?_
    exact hret _ _ _ _ _ _ _ _ hT hI hB dX0_feed_18
set_option maxHeartbeats 4000000 in
set_option maxRecDepth 100000 in
theorem um_X0_end (l : Launch) (D : va_G) (dA : Nat → ClassId) (ad : Nat → Nat) (Hs : Heap) (hA : cAd ad 1296 Hs.size) (σ : CS) (x1 : Int32) (K : Int32 → CS → Prop) (hT : U_X0_end σ x1 K) : Met l yX0_end (ws_ yX0_end cX0_end 2 (some .boolean)) ({ frames := 2, cells := 0, slots := 0, locals := 33 }) (va_Pc [.ref (ad 0), .int x1] (cU D dA ad 1296 Hs σ)) (xQ rvI K (cU D dA ad 1296 Hs) (cA ad)) 0 0 (cA ad) := by
  refine xm_z hA (by decide) rfl (Nat.le_of_ble_eq_true rfl) ?_
  intro p e s m args below meth c Q hC hN hret hI ls hl
  have hx := hC.1.1
  have hb := hC.1.2.1
  have hB : 0 ≤ 0 ∧ 0 ≤ 0 := ⟨Nat.zero_le _, Nat.zero_le _⟩
  have hl : lv_has ls 2 [(0, .ref (ad 0)), (1, .int x1)] := hl
  have w_12 : ∀ (σ : CS) (H : Heap) (locs : List Loc) (ls : Array Slot), U_X0_end_12 K σ → xI D dA ad 1296 Hs s.heap σ H locs → lv_has ls 2 [(0, .ref (ad 0))] → W p l e ({ frames := 2, cells := 0, slots := 0, locals := 33 }) s m args below meth c H locs 0 0 Q (F0 m 12 ls []) := by
    intro σ H locs ls hT hI hl
    unfold U_X0_end_12 at hT
    refine lv_aload_n hx hb dX0_end_12 rfl (lv_at hl 0 rfl) ?_
    refine lv_iconst (v := 0) hx hb dX0_end_13 (by decide) ?_
    refine x_call (x_runV (i := 0) hC hI (xst hI (Nat.le_of_ble_eq_true rfl) sl_0) rfl (um_X0_refuses l D dA ad Hs hC.2.2 σ 0 _ hT) (lw_V q537 q539 qs1 q158 q540) 1 hdV_X0_refuses ⟨rfl, rfl⟩ ⟨Nat.le_of_ble_eq_true rfl, Nat.le_of_ble_eq_true rfl⟩ rfl hl.1 rfl (Nat.le_of_ble_eq_true rfl) hB dX0_end_14) hI (fun r2 σ1 H locs hT hI => ?_)
    refine W.eq (g2 := F0 m 17 ls [.int r2]) rfl ?_
    refine lv_if_lt (tgt := 24) hx hb dX0_end_17 (by decide) (fun hc => ?_) (fun hc => ?_)
    · replace hT := hT.1 hc
      refine lv_iconst (v := 0) hx hb dX0_end_24 (by decide) ?_
      exact hret _ _ _ _ _ _ _ _ rfl hT hI hB dX0_end_25
    · replace hT := hT.2 hc
      refine lv_iconst (v := 1) hx hb dX0_end_20 (by decide) ?_
      refine lv_goto (tgt := 25) hx hb dX0_end_21 (by decide) ?_
      exact hret _ _ _ _ _ _ _ _ rfl hT hI hB dX0_end_25
  unfold U_X0_end at hT
  refine lv_iload_n hx hb dX0_end_0 rfl (lv_at hl 1 rfl) ?_
  refine lv_if_lt (tgt := 12) hx hb dX0_end_1 (by decide) (fun hc => ?_) (fun hc => ?_)
  · replace hT := hT.1 hc
    exact w_12 σ _ _ _ hT hI (lv_sub hl [0] rfl)
  · replace hT := hT.2 hc
    refine lv_iload_n hx hb dX0_end_4 rfl (lv_at hl 1 rfl) ?_
    refine lv_aload_n hx hb dX0_end_5 rfl (lv_at hl 0 rfl) ?_
    refine xg0_2 (i := 0) hC hI (xst hI (Nat.le_of_ble_eq_true rfl) sl_0) q473 (fun _ h => h) dX0_end_6 ?_
    refine lv_icmp_le (tgt := 26) hx hb dX0_end_9 (by decide) (fun hc => ?_) (fun hc => ?_)
    · replace hT := hT.1 hc
      refine lv_aload_n hx hb dX0_end_26 rfl (lv_at hl 0 rfl) ?_
      refine lv_iload_n hx hb dX0_end_27 rfl (lv_at hl 1 rfl) ?_
      refine xp0_2 (i := 0) (v := x1) hC hI (Nat.lt_of_lt_of_le (show _ < 1296 from (Nat.le_of_ble_eq_true rfl)) (by decide)) (xst hI (Nat.le_of_ble_eq_true rfl) sl_0) hT q473 (fun _ h => h) dX0_end_28 (fun σ3 H locs hT hI => ?_)
      refine lv_iconst (v := 1) hx hb dX0_end_31 (by decide) ?_
      exact hret _ _ _ _ _ _ _ _ rfl hT hI hB dX0_end_32
    · replace hT := hT.2 hc
      exact w_12 σ _ _ _ hT hI (lv_sub hl [0] rfl)
set_option maxHeartbeats 4000000 in
set_option maxRecDepth 100000 in
theorem um_X0_taken (l : Launch) (D : va_G) (dA : Nat → ClassId) (ad : Nat → Nat) (Hs : Heap) (hA : cAd ad 1296 Hs.size) (σ : CS) (K : Int32 → CS → Prop) (hT : U_X0_taken σ K) : Met l yX0_taken (ws_ yX0_taken cX0_taken 2 (some .int)) ({ frames := 1, cells := 0, slots := 0, locals := 12 }) (va_Pc [.ref (ad 0)] (cU D dA ad 1296 Hs σ)) (xQ rvI K (cU D dA ad 1296 Hs) (cA ad)) 0 0 (cA ad) := by
  refine xm_i hA (by decide) rfl (Nat.le_of_ble_eq_true rfl) ?_
  intro p e s m args below meth c Q hC hN hret hI ls hl
  have hx := hC.1.1
  have hb := hC.1.2.1
  have hB : 0 ≤ 0 ∧ 0 ≤ 0 := ⟨Nat.zero_le _, Nat.zero_le _⟩
  have hl : lv_has ls 2 [(0, .ref (ad 0))] := hl
  unfold U_X0_taken at hT
  refine lv_aload_n hx hb dX0_taken_0 rfl (lv_at hl 0 rfl) ?_
  refine xg0_2 (i := 0) hC hI (xst hI (Nat.le_of_ble_eq_true rfl) sl_0) q473 (fun _ h => h) dX0_taken_1 ?_
  refine lv_istore_n (lv' := [(1, .int (gI σ 0 2)), (0, .ref (ad 0))]) hx hb dX0_taken_4 rfl hl (Nat.le_of_ble_eq_true rfl) rfl (fun ls hl => ?_)
  refine lv_aload_n hx hb dX0_taken_5 rfl (lv_at hl 1 rfl) ?_
  refine lv_iconst (v := 0) hx hb dX0_taken_6 (by decide) ?_
  refine xp0_2 (i := 0) (v := 0) hC hI (Nat.lt_of_lt_of_le (show _ < 1296 from (Nat.le_of_ble_eq_true rfl)) (by decide)) (xst hI (Nat.le_of_ble_eq_true rfl) sl_0) hT q473 (fun _ h => h) dX0_taken_7 (fun σ1 H locs hT hI => ?_)
  refine lv_iload_n hx hb dX0_taken_10 rfl (lv_at hl 0 rfl) ?_
  exact hret _ _ _ _ _ _ _ _ hT hI hB dX0_taken_11
set_option maxHeartbeats 4000000 in
set_option maxRecDepth 100000 in
theorem um_X0_fault (l : Launch) (D : va_G) (dA : Nat → ClassId) (ad : Nat → Nat) (Hs : Heap) (hA : cAd ad 1296 Hs.size) (σ : CS) (x1 : Int32) (K : Int32 → CS → Prop) (hT : U_X0_fault σ x1 K) : Met l yX0_fault (ws_ yX0_fault cX0_fault 2 (some .int)) ({ frames := 1, cells := 0, slots := 0, locals := 12 }) (va_Pc [.ref (ad 0), .int x1] (cU D dA ad 1296 Hs σ)) (xQ rvI K (cU D dA ad 1296 Hs) (cA ad)) 0 0 (cA ad) := by
  refine xm_i hA (by decide) rfl (Nat.le_of_ble_eq_true rfl) ?_
  intro p e s m args below meth c Q hC hN hret hI ls hl
  have hx := hC.1.1
  have hb := hC.1.2.1
  have hB : 0 ≤ 0 ∧ 0 ≤ 0 := ⟨Nat.zero_le _, Nat.zero_le _⟩
  have hl : lv_has ls 2 [(0, .ref (ad 0)), (1, .int x1)] := hl
  unfold U_X0_fault at hT
  refine lv_iload_n hx hb dX0_fault_0 rfl (lv_at hl 1 rfl) ?_
  refine lv_if_ne (tgt := 11) hx hb dX0_fault_1 (by decide) (fun hc => ?_) (fun hc => ?_)
  · replace hT := hT.1 hc
    refine lv_iload_n hx hb dX0_fault_11 rfl (lv_at hl 1 rfl) ?_
    refine lv_iconst (v := 1) hx hb dX0_fault_12 (by decide) ?_
    refine lv_icmp_ne (tgt := 23) hx hb dX0_fault_13 (by decide) (fun hc => ?_) (fun hc => ?_)
    · replace hT := hT.1 hc
      refine lv_iconst (v := -1) hx hb dX0_fault_23 (by decide) ?_
      exact hret _ _ _ _ _ _ _ _ hT hI hB dX0_fault_24
    · replace hT := hT.2 hc
      refine lv_aload_n hx hb dX0_fault_16 rfl (lv_at hl 0 rfl) ?_
      refine xg0_4 (i := 0) hC hI (xst hI (Nat.le_of_ble_eq_true rfl) sl_0) q475 (fun _ h => h) dX0_fault_17 ?_
      refine lv_goto (tgt := 24) hx hb dX0_fault_20 (by decide) ?_
      exact hret _ _ _ _ _ _ _ _ hT hI hB dX0_fault_24
  · replace hT := hT.2 hc
    refine lv_aload_n hx hb dX0_fault_4 rfl (lv_at hl 0 rfl) ?_
    refine xg0_3 (i := 0) hC hI (xst hI (Nat.le_of_ble_eq_true rfl) sl_0) q474 (fun _ h => h) dX0_fault_5 ?_
    refine lv_goto (tgt := 24) hx hb dX0_fault_8 (by decide) ?_
    exact hret _ _ _ _ _ _ _ _ hT hI hB dX0_fault_24
set_option maxHeartbeats 4000000 in
set_option maxRecDepth 100000 in
theorem um_X0_useOf (l : Launch) (D : va_G) (dA : Nat → ClassId) (ad : Nat → Nat) (Hs : Heap) (hA : cAd ad 1296 Hs.size) (σ : CS) (x1 : Int32) (K : Int32 → CS → Prop) (hT : U_X0_useOf σ x1 K) : Met l yX0_useOf (ws_ yX0_useOf cX0_useOf 4 (some .int)) ({ frames := 5, cells := 0, slots := 0, locals := 97 }) (va_Pc [.ref (ad 0), .int x1] (cU D dA ad 1296 Hs σ)) (xQ rvI K (cU D dA ad 1296 Hs) (cA ad)) 0 0 (cA ad) := by
  refine xm_i hA (by decide) rfl (Nat.le_of_ble_eq_true rfl) ?_
  intro p e s m args below meth c Q hC hN hret hI ls hl
  have hx := hC.1.1
  have hb := hC.1.2.1
  have hB : 0 ≤ 0 ∧ 0 ≤ 0 := ⟨Nat.zero_le _, Nat.zero_le _⟩
  have hl : lv_has ls 4 [(0, .ref (ad 0)), (1, .int x1)] := hl
  have w_4 : ∀ (x1 : Int32) (n : Nat) (x2 : Int32) (x3 : Int32) (σ : CS) (H : Heap) (locs : List Loc) (ls : Array Slot), U_X0_useOf_4 K x1 n x2 x3 σ → xI D dA ad 1296 Hs s.heap σ H locs → lv_has ls 4 [(0, .ref (ad 0)), (1, .int x1), (2, .int x2), (3, .int x3)] → W p l e ({ frames := 5, cells := 0, slots := 0, locals := 97 }) s m args below meth c H locs 0 0 Q (F0 m 4 ls []) := by
    intro x1 n
    induction n with
    | zero => intro x2 x3 σ H locs ls hT; exact hT.elim
    | succ n ih =>
      intro x2 x3 σ H locs ls hT hI hl
      unfold U_X0_useOf_4 at hT
      refine lv_iload_n hx hb dX0_useOf_4 rfl (lv_at hl 3 rfl) ?_
      refine lv_aload_n hx hb dX0_useOf_5 rfl (lv_at hl 0 rfl) ?_
      refine x_call (x_runV (i := 0) hC hI (xst hI (Nat.le_of_ble_eq_true rfl) sl_0) rfl (um_X0_things l D dA ad Hs hC.2.2 σ _ hT) (lw_V q1249 q1251 qs34 q158 q1252) 0 hdV_X0_things ⟨rfl, rfl⟩ ⟨Nat.le_of_ble_eq_true rfl, Nat.le_of_ble_eq_true rfl⟩ rfl hl.1 rfl (Nat.le_of_ble_eq_true rfl) hB dX0_useOf_6) hI (fun r2 σ1 H locs hT hI => ?_)
      refine W.eq (g2 := F0 m 9 ls [.int r2, .int x3]) rfl ?_
      refine lv_icmp_ge (tgt := 41) hx hb dX0_useOf_9 (by decide) (fun hc => ?_) (fun hc => ?_)
      · replace hT := hT.1 hc
        refine lv_iload_n hx hb dX0_useOf_41 rfl (lv_at hl 2 rfl) ?_
        exact hret _ _ _ _ _ _ _ _ hT hI hB dX0_useOf_42
      · replace hT := hT.2 hc
        refine lv_iload_n hx hb dX0_useOf_12 rfl (lv_at hl 2 rfl) ?_
        refine lv_iload_n hx hb dX0_useOf_13 rfl (lv_at hl 1 rfl) ?_
        refine lv_iload_n hx hb dX0_useOf_14 rfl (lv_at hl 3 rfl) ?_
        refine x_call (x_runS hC hI (um_X0_has l D dA ad 1296 Hs hC.2.2 σ1 x1 x3 _ hT) (lw_S q1392 q1094 q158 q1095) 2 hdS_X0_has ⟨rfl, rfl⟩ ⟨Nat.le_of_ble_eq_true rfl, Nat.le_of_ble_eq_true rfl⟩ rfl hl.1 rfl (Nat.le_of_ble_eq_true rfl) hB dX0_useOf_15) hI (fun r4 σ3 H locs hT hI => ?_)
        refine W.eq (g2 := F0 m 18 ls [.int r4, .int x2]) rfl ?_
        refine lv_if_eq (tgt := 32) hx hb dX0_useOf_18 (by decide) (fun hc => ?_) (fun hc => ?_)
        · replace hT := hT.1 hc
          refine lv_iconst (v := 0) hx hb dX0_useOf_32 (by decide) ?_
          refine lv_iadd hx hb dX0_useOf_33 ?_
          refine lv_istore_n (lv' := [(2, .int (x2 + 0)), (0, .ref (ad 0)), (1, .int x1), (3, .int x3)]) hx hb dX0_useOf_34 rfl hl (Nat.le_of_ble_eq_true rfl) rfl (fun ls hl => ?_)
          refine lv_iinc (v := x3 + 1) (lv' := [(3, .int (x3 + 1)), (2, .int (x2 + 0)), (0, .ref (ad 0)), (1, .int x1)]) hx hb dX0_useOf_35 hl (k := 3) rfl rfl (Nat.le_of_ble_eq_true rfl) rfl (fun ls hl => ?_)
          refine lv_goto (tgt := 4) hx hb dX0_useOf_38 (by decide) ?_
          exact ih (x2 + 0) (x3 + 1) σ3 _ _ _ hT hI (lv_sub hl [2, 3, 1, 0] rfl)
        · replace hT := hT.2 hc
          refine lv_aload_n hx hb dX0_useOf_21 rfl (lv_at hl 0 rfl) ?_
          refine lv_iload_n hx hb dX0_useOf_22 rfl (lv_at hl 3 rfl) ?_
          refine x_call (x_runV (i := 0) hC hI (xst hI (Nat.le_of_ble_eq_true rfl) sl_0) rfl (um_X0_thingOf l D dA ad Hs hC.2.2 σ3 x3 _ hT) (lw_V q1393 q1292 qs39 q158 q1293) 1 hdV_X0_thingOf ⟨rfl, rfl⟩ ⟨Nat.le_of_ble_eq_true rfl, Nat.le_of_ble_eq_true rfl⟩ rfl hl.1 rfl (Nat.le_of_ble_eq_true rfl) hB dX0_useOf_23) hI (fun r6 σ5 H locs hT hI => ?_)
          refine W.eq (g2 := F0 m 26 ls [va_rf (rgR ad r6), .int x2]) rfl ?_
          obtain ⟨q7, hqe_q7, hT_q7⟩ := hT
          have hl_q7 := hl
          subst hqe_q7
          replace hT := hT_q7
          refine W.eq (g2 := F0 m 26 ls [.ref (ad q7), .int x2]) rfl ?_
          have hl : lv_has ls 4 [(0, .ref (ad 0)), (1, .int x1), (2, .int x2), (3, .int x3)] := hl_q7
          obtain ⟨hL, hT⟩ := hT
          refine xgN7_2 (i := q7) hC hI hL q833 (fun _ h => h) dX0_useOf_26 ?_
          refine lv_goto (tgt := 33) hx hb dX0_useOf_29 (by decide) ?_
          refine lv_iadd hx hb dX0_useOf_33 ?_
          refine lv_istore_n (lv' := [(2, .int (x2 + (gI σ5 q7 2))), (0, .ref (ad 0)), (1, .int x1), (3, .int x3)]) hx hb dX0_useOf_34 rfl hl (Nat.le_of_ble_eq_true rfl) rfl (fun ls hl => ?_)
          refine lv_iinc (v := x3 + 1) (lv' := [(3, .int (x3 + 1)), (2, .int (x2 + (gI σ5 q7 2))), (0, .ref (ad 0)), (1, .int x1)]) hx hb dX0_useOf_35 hl (k := 3) rfl rfl (Nat.le_of_ble_eq_true rfl) rfl (fun ls hl => ?_)
          refine lv_goto (tgt := 4) hx hb dX0_useOf_38 (by decide) ?_
          exact ih (x2 + (gI σ5 q7 2)) (x3 + 1) σ5 _ _ _ hT hI (lv_sub hl [2, 3, 1, 0] rfl)
  unfold U_X0_useOf at hT
  refine lv_iconst (v := 0) hx hb dX0_useOf_0 (by decide) ?_
  refine lv_istore_n (lv' := [(2, .int 0), (0, .ref (ad 0)), (1, .int x1)]) hx hb dX0_useOf_1 rfl hl (Nat.le_of_ble_eq_true rfl) rfl (fun ls hl => ?_)
  refine lv_iconst (v := 0) hx hb dX0_useOf_2 (by decide) ?_
  refine lv_istore_n (lv' := [(3, .int 0), (2, .int 0), (0, .ref (ad 0)), (1, .int x1)]) hx hb dX0_useOf_3 rfl hl (Nat.le_of_ble_eq_true rfl) rfl (fun ls hl => ?_)
  obtain ⟨n4, hT⟩ := hT
  exact w_4 x1 n4 0 0 σ _ _ _ hT hI (lv_sub hl [2, 3, 1, 0] rfl)
set_option maxHeartbeats 4000000 in
set_option maxRecDepth 100000 in
theorem um_X5_are (l : Launch) (D : va_G) (dA : Nat → ClassId) (ad : Nat → Nat) (Hs : Heap) (hA : cAd ad 1296 Hs.size) (σ : CS) (ob : Nat) (x1 : Int32) (hp : stOK ob) (K : Int32 → CS → Prop) (hT : U_X5_are σ ob x1 K) : Met l yX5_are (ws_ yX5_are cX5_are 4 (some .int)) ({ frames := 3, cells := 0, slots := 0, locals := 52 }) (va_Pc [.ref (ad ob), .int x1] (cU D dA ad 1296 Hs σ)) (xQ rvI K (cU D dA ad 1296 Hs) (cA ad)) 0 0 (cA ad) := by
  refine xm_i hA (by decide) rfl (Nat.le_of_ble_eq_true rfl) ?_
  intro p e s m args below meth c Q hC hN hret hI ls hl
  have hx := hC.1.1
  have hb := hC.1.2.1
  have hB : 0 ≤ 0 ∧ 0 ≤ 0 := ⟨Nat.zero_le _, Nat.zero_le _⟩
  have hl : lv_has ls 4 [(0, .ref (ad ob)), (1, .int x1)] := hl
  have w_4 : ∀ (x1 : Int32) (n : Nat) (x2 : Int32) (x3 : Int32) (σ : CS) (H : Heap) (locs : List Loc) (ls : Array Slot), U_X5_are_4 K ob x1 n x2 x3 σ → xI D dA ad 1296 Hs s.heap σ H locs → lv_has ls 4 [(0, .ref (ad ob)), (1, .int x1), (2, .int x2), (3, .int x3)] → W p l e ({ frames := 3, cells := 0, slots := 0, locals := 52 }) s m args below meth c H locs 0 0 Q (F0 m 4 ls []) := by
    intro x1 n
    induction n with
    | zero => intro x2 x3 σ H locs ls hT; exact hT.elim
    | succ n ih =>
      intro x2 x3 σ H locs ls hT hI hl
      unfold U_X5_are_4 at hT
      refine lv_iload_n hx hb dX5_are_4 rfl (lv_at hl 3 rfl) ?_
      refine lv_aload_n hx hb dX5_are_5 rfl (lv_at hl 0 rfl) ?_
      refine xg5_12 (i := ob) hC hI (xst hI (st_lt hp (d := 0) (by decide)) (sls_0 hp)) q434 (fun _ h => h) dX5_are_6 ?_
      refine x_call (x_runVN (i := 0) hC hI (xst hI (Nat.le_of_ble_eq_true rfl) sl_0) rfl (um_X0_things l D dA ad Hs hC.2.2 σ _ hT) q1267 q1251 qs34 q158 q1252 0 hdS_X0_things ⟨rfl, rfl⟩ ⟨Nat.le_of_ble_eq_true rfl, Nat.le_of_ble_eq_true rfl⟩ rfl hl.1 rfl (Nat.le_of_ble_eq_true rfl) hB dX5_are_9) hI (fun r2 σ1 H locs hT hI => ?_)
      refine W.eq (g2 := F0 m 12 ls [.int r2, .int x3]) rfl ?_
      refine lv_icmp_ge (tgt := 41) hx hb dX5_are_12 (by decide) (fun hc => ?_) (fun hc => ?_)
      · replace hT := hT.1 hc
        refine lv_iload_n hx hb dX5_are_41 rfl (lv_at hl 2 rfl) ?_
        exact hret _ _ _ _ _ _ _ _ hT hI hB dX5_are_42
      · replace hT := hT.2 hc
        refine lv_iload_n hx hb dX5_are_15 rfl (lv_at hl 2 rfl) ?_
        refine lv_aload_n hx hb dX5_are_16 rfl (lv_at hl 0 rfl) ?_
        refine xg5_2 (i := ob) hC hI (xst hI (st_lt hp (d := 0) (by decide)) (sls_0 hp)) q415 (fun _ h => h) dX5_are_17 ?_
        refine lv_iload_n hx hb dX5_are_20 rfl (lv_at hl 3 rfl) ?_
        refine x_iald (i := ob + 1) hC hI (xst hI (st_lt hp (d := 1) (by decide)) (sls_1 hp)) hT dX5_are_21 (fun hT => ?_)
        refine lv_iload_n hx hb dX5_are_22 rfl (lv_at hl 1 rfl) ?_
        refine lv_icmp_ne (tgt := 32) hx hb dX5_are_23 (by decide) (fun hc => ?_) (fun hc => ?_)
        · replace hT := hT.1 hc
          refine lv_iconst (v := 0) hx hb dX5_are_32 (by decide) ?_
          refine lv_ior hx hb dX5_are_33 ?_
          refine lv_istore_n (lv' := [(2, .int (x2 ||| 0)), (0, .ref (ad ob)), (1, .int x1), (3, .int x3)]) hx hb dX5_are_34 rfl hl (Nat.le_of_ble_eq_true rfl) rfl (fun ls hl => ?_)
          refine lv_iinc (v := x3 + 1) (lv' := [(3, .int (x3 + 1)), (2, .int (x2 ||| 0)), (0, .ref (ad ob)), (1, .int x1)]) hx hb dX5_are_35 hl (k := 3) rfl rfl (Nat.le_of_ble_eq_true rfl) rfl (fun ls hl => ?_)
          refine lv_goto (tgt := 4) hx hb dX5_are_38 (by decide) ?_
          exact ih (x2 ||| 0) (x3 + 1) σ1 _ _ _ hT hI (lv_sub hl [2, 3, 1, 0] rfl)
        · replace hT := hT.2 hc
          refine lv_iconst (v := 1) hx hb dX5_are_26 (by decide) ?_
          refine lv_iload_n hx hb dX5_are_27 rfl (lv_at hl 3 rfl) ?_
          refine lv_ishl hx hb dX5_are_28 ?_
          refine lv_goto (tgt := 33) hx hb dX5_are_29 (by decide) ?_
          refine lv_ior hx hb dX5_are_33 ?_
          refine lv_istore_n (lv' := [(2, .int (x2 ||| (1 <<< (x3 &&& 31)))), (0, .ref (ad ob)), (1, .int x1), (3, .int x3)]) hx hb dX5_are_34 rfl hl (Nat.le_of_ble_eq_true rfl) rfl (fun ls hl => ?_)
          refine lv_iinc (v := x3 + 1) (lv' := [(3, .int (x3 + 1)), (2, .int (x2 ||| (1 <<< (x3 &&& 31)))), (0, .ref (ad ob)), (1, .int x1)]) hx hb dX5_are_35 hl (k := 3) rfl rfl (Nat.le_of_ble_eq_true rfl) rfl (fun ls hl => ?_)
          refine lv_goto (tgt := 4) hx hb dX5_are_38 (by decide) ?_
          exact ih (x2 ||| (1 <<< (x3 &&& 31))) (x3 + 1) σ1 _ _ _ hT hI (lv_sub hl [2, 3, 1, 0] rfl)
  unfold U_X5_are at hT
  refine lv_iconst (v := 0) hx hb dX5_are_0 (by decide) ?_
  refine lv_istore_n (lv' := [(2, .int 0), (0, .ref (ad ob)), (1, .int x1)]) hx hb dX5_are_1 rfl hl (Nat.le_of_ble_eq_true rfl) rfl (fun ls hl => ?_)
  refine lv_iconst (v := 0) hx hb dX5_are_2 (by decide) ?_
  refine lv_istore_n (lv' := [(3, .int 0), (2, .int 0), (0, .ref (ad ob)), (1, .int x1)]) hx hb dX5_are_3 rfl hl (Nat.le_of_ble_eq_true rfl) rfl (fun ls hl => ?_)
  obtain ⟨n4, hT⟩ := hT
  exact w_4 x1 n4 0 0 σ _ _ _ hT hI (lv_sub hl [2, 3, 1, 0] rfl)
set_option maxHeartbeats 4000000 in
set_option maxRecDepth 100000 in
theorem um_X5_forged (l : Launch) (D : va_G) (dA : Nat → ClassId) (ad : Nat → Nat) (Hs : Heap) (hA : cAd ad 1296 Hs.size) (σ : CS) (ob : Nat) (hp : stOK ob) (K : Int32 → CS → Prop) (hT : U_X5_forged σ ob K) : Met l yX5_forged (ws_ yX5_forged cX5_forged 3 (some .int)) ({ frames := 3, cells := 0, slots := 0, locals := 52 }) (va_Pc [.ref (ad ob)] (cU D dA ad 1296 Hs σ)) (xQ rvI K (cU D dA ad 1296 Hs) (cA ad)) 0 0 (cA ad) := by
  refine xm_i hA (by decide) rfl (Nat.le_of_ble_eq_true rfl) ?_
  intro p e s m args below meth c Q hC hN hret hI ls hl
  have hx := hC.1.1
  have hb := hC.1.2.1
  have hB : 0 ≤ 0 ∧ 0 ≤ 0 := ⟨Nat.zero_le _, Nat.zero_le _⟩
  have hl : lv_has ls 3 [(0, .ref (ad ob))] := hl
  have w_4 : ∀ (n : Nat) (x1 : Int32) (x2 : Int32) (σ : CS) (H : Heap) (locs : List Loc) (ls : Array Slot), U_X5_forged_4 K ob n x1 x2 σ → xI D dA ad 1296 Hs s.heap σ H locs → lv_has ls 3 [(0, .ref (ad ob)), (1, .int x1), (2, .int x2)] → W p l e ({ frames := 3, cells := 0, slots := 0, locals := 52 }) s m args below meth c H locs 0 0 Q (F0 m 4 ls []) := by
    intro n
    induction n with
    | zero => intro x1 x2 σ H locs ls hT; exact hT.elim
    | succ n ih =>
      intro x1 x2 σ H locs ls hT hI hl
      unfold U_X5_forged_4 at hT
      refine lv_iload_n hx hb dX5_forged_4 rfl (lv_at hl 2 rfl) ?_
      refine lv_aload_n hx hb dX5_forged_5 rfl (lv_at hl 0 rfl) ?_
      refine xg5_12 (i := ob) hC hI (xst hI (st_lt hp (d := 0) (by decide)) (sls_0 hp)) q434 (fun _ h => h) dX5_forged_6 ?_
      refine x_call (x_runVN (i := 0) hC hI (xst hI (Nat.le_of_ble_eq_true rfl) sl_0) rfl (um_X0_things l D dA ad Hs hC.2.2 σ _ hT) q1267 q1251 qs34 q158 q1252 0 hdS_X0_things ⟨rfl, rfl⟩ ⟨Nat.le_of_ble_eq_true rfl, Nat.le_of_ble_eq_true rfl⟩ rfl hl.1 rfl (Nat.le_of_ble_eq_true rfl) hB dX5_forged_9) hI (fun r2 σ1 H locs hT hI => ?_)
      refine W.eq (g2 := F0 m 12 ls [.int r2, .int x2]) rfl ?_
      refine lv_icmp_ge (tgt := 40) hx hb dX5_forged_12 (by decide) (fun hc => ?_) (fun hc => ?_)
      · replace hT := hT.1 hc
        refine lv_iload_n hx hb dX5_forged_40 rfl (lv_at hl 1 rfl) ?_
        exact hret _ _ _ _ _ _ _ _ hT hI hB dX5_forged_41
      · replace hT := hT.2 hc
        refine lv_iload_n hx hb dX5_forged_15 rfl (lv_at hl 1 rfl) ?_
        refine lv_aload_n hx hb dX5_forged_16 rfl (lv_at hl 0 rfl) ?_
        refine xg5_6 (i := ob) hC hI (xst hI (st_lt hp (d := 0) (by decide)) (sls_0 hp)) q423 (fun _ h => h) dX5_forged_17 ?_
        refine lv_iload_n hx hb dX5_forged_20 rfl (lv_at hl 2 rfl) ?_
        refine x_zald (i := ob + 5) hC hI (xst hI (st_lt hp (d := 5) (by decide)) (sls_5 hp)) hT dX5_forged_21 (fun hT => ?_)
        refine lv_if_eq (tgt := 31) hx hb dX5_forged_22 (by decide) (fun hc => ?_) (fun hc => ?_)
        · replace hT := hT.1 hc
          refine lv_iconst (v := 0) hx hb dX5_forged_31 (by decide) ?_
          refine lv_ior hx hb dX5_forged_32 ?_
          refine lv_istore_n (lv' := [(1, .int (x1 ||| 0)), (0, .ref (ad ob)), (2, .int x2)]) hx hb dX5_forged_33 rfl hl (Nat.le_of_ble_eq_true rfl) rfl (fun ls hl => ?_)
          refine lv_iinc (v := x2 + 1) (lv' := [(2, .int (x2 + 1)), (1, .int (x1 ||| 0)), (0, .ref (ad ob))]) hx hb dX5_forged_34 hl (k := 2) rfl rfl (Nat.le_of_ble_eq_true rfl) rfl (fun ls hl => ?_)
          refine lv_goto (tgt := 4) hx hb dX5_forged_37 (by decide) ?_
          exact ih (x1 ||| 0) (x2 + 1) σ1 _ _ _ hT hI (lv_sub hl [2, 1, 0] rfl)
        · replace hT := hT.2 hc
          refine lv_iconst (v := 1) hx hb dX5_forged_25 (by decide) ?_
          refine lv_iload_n hx hb dX5_forged_26 rfl (lv_at hl 2 rfl) ?_
          refine lv_ishl hx hb dX5_forged_27 ?_
          refine lv_goto (tgt := 32) hx hb dX5_forged_28 (by decide) ?_
          refine lv_ior hx hb dX5_forged_32 ?_
          refine lv_istore_n (lv' := [(1, .int (x1 ||| (1 <<< (x2 &&& 31)))), (0, .ref (ad ob)), (2, .int x2)]) hx hb dX5_forged_33 rfl hl (Nat.le_of_ble_eq_true rfl) rfl (fun ls hl => ?_)
          refine lv_iinc (v := x2 + 1) (lv' := [(2, .int (x2 + 1)), (1, .int (x1 ||| (1 <<< (x2 &&& 31)))), (0, .ref (ad ob))]) hx hb dX5_forged_34 hl (k := 2) rfl rfl (Nat.le_of_ble_eq_true rfl) rfl (fun ls hl => ?_)
          refine lv_goto (tgt := 4) hx hb dX5_forged_37 (by decide) ?_
          exact ih (x1 ||| (1 <<< (x2 &&& 31))) (x2 + 1) σ1 _ _ _ hT hI (lv_sub hl [2, 1, 0] rfl)
  unfold U_X5_forged at hT
  refine lv_iconst (v := 0) hx hb dX5_forged_0 (by decide) ?_
  refine lv_istore_n (lv' := [(1, .int 0), (0, .ref (ad ob))]) hx hb dX5_forged_1 rfl hl (Nat.le_of_ble_eq_true rfl) rfl (fun ls hl => ?_)
  refine lv_iconst (v := 0) hx hb dX5_forged_2 (by decide) ?_
  refine lv_istore_n (lv' := [(2, .int 0), (1, .int 0), (0, .ref (ad ob))]) hx hb dX5_forged_3 rfl hl (Nat.le_of_ble_eq_true rfl) rfl (fun ls hl => ?_)
  obtain ⟨n4, hT⟩ := hT
  exact w_4 n4 0 0 σ _ _ _ hT hI (lv_sub hl [2, 1, 0] rfl)
set_option maxHeartbeats 4000000 in
set_option maxRecDepth 100000 in
theorem um_X5_stands (l : Launch) (D : va_G) (dA : Nat → ClassId) (ad : Nat → Nat) (Hs : Heap) (hA : cAd ad 1296 Hs.size) (σ : CS) (ob : Nat) (x1 : Int32) (hp : stOK ob) (K : Int32 → CS → Prop) (hT : U_X5_stands σ ob x1 K) : Met l yX5_stands (ws_ yX5_stands cX5_stands 2 (some .boolean)) ({ frames := 907, cells := 0, slots := 0, locals := 18640 }) (va_Pc [.ref (ad ob), .int x1] (cU D dA ad 1296 Hs σ)) (xQ rvI K (cU D dA ad 1296 Hs) (cA ad)) 0 0 (cA ad) := by
  refine xm_z hA (by decide) rfl (Nat.le_of_ble_eq_true rfl) ?_
  intro p e s m args below meth c Q hC hN hret hI ls hl
  have hx := hC.1.1
  have hb := hC.1.2.1
  have hB : 0 ≤ 0 ∧ 0 ≤ 0 := ⟨Nat.zero_le _, Nat.zero_le _⟩
  have hl : lv_has ls 2 [(0, .ref (ad ob)), (1, .int x1)] := hl
  unfold U_X5_stands at hT
  refine lv_aload_n hx hb dX5_stands_0 rfl (lv_at hl 0 rfl) ?_
  refine xg5_2 (i := ob) hC hI (xst hI (st_lt hp (d := 0) (by decide)) (sls_0 hp)) q415 (fun _ h => h) dX5_stands_1 ?_
  refine lv_iload_n hx hb dX5_stands_4 rfl (lv_at hl 1 rfl) ?_
  refine x_iald (i := ob + 1) hC hI (xst hI (st_lt hp (d := 1) (by decide)) (sls_1 hp)) hT dX5_stands_5 (fun hT => ?_)
  refine lv_iconst (v := 2) hx hb dX5_stands_6 (by decide) ?_
  refine lv_icmp_ne (tgt := 57) hx hb dX5_stands_7 (by decide) (fun hc => ?_) (fun hc => ?_)
  · replace hT := hT.1 hc
    refine lv_iconst (v := 0) hx hb dX5_stands_57 (by decide) ?_
    exact hret _ _ _ _ _ _ _ _ rfl hT hI hB dX5_stands_58
  · replace hT := hT.2 hc
    refine lv_aload_n hx hb dX5_stands_10 rfl (lv_at hl 0 rfl) ?_
    refine xg5_12 (i := ob) hC hI (xst hI (st_lt hp (d := 0) (by decide)) (sls_0 hp)) q434 (fun _ h => h) dX5_stands_11 ?_
    refine xgN0_0 (i := 0) hC hI (xst hI (Nat.le_of_ble_eq_true rfl) sl_0) q470 (fun _ h => h) dX5_stands_14 ?_
    obtain ⟨q1, hq2, hT⟩ := hT
    refine W.eq (congrArg (fun z => F0 m 17 ls [z]) (xrq hq2)) ?_
    obtain ⟨hL, hT⟩ := hT
    refine xgN1_5 (i := q1) hC hI hL q254 (fun _ h => h) dX5_stands_17 ?_
    refine x_ifnonnull (tgt := 35) hx hb dX5_stands_20 (by decide) (fun hc => ?_) (fun hc => ?_)
    · replace hT := hT.1 hc
      refine lv_aload_n hx hb dX5_stands_35 rfl (lv_at hl 0 rfl) ?_
      refine lv_aload_n hx hb dX5_stands_36 rfl (lv_at hl 0 rfl) ?_
      refine xg5_12 (i := ob) hC hI (xst hI (st_lt hp (d := 0) (by decide)) (sls_0 hp)) q434 (fun _ h => h) dX5_stands_37 ?_
      refine xgN0_0 (i := 0) hC hI (xst hI (Nat.le_of_ble_eq_true rfl) sl_0) q470 (fun _ h => h) dX5_stands_40 ?_
      obtain ⟨q3, hq4, hT⟩ := hT
      refine W.eq (congrArg (fun z => F0 m 43 ls [z, .ref (ad ob)]) (xrq hq4)) ?_
      obtain ⟨hL, hT⟩ := hT
      refine xgN1_5 (i := q3) hC hI hL q254 (fun _ h => h) dX5_stands_43 ?_
      refine lv_iload_n hx hb dX5_stands_46 rfl (lv_at hl 1 rfl) ?_
      obtain ⟨q5, hq6, hT⟩ := hT
      refine W.eq (congrArg (fun z => F0 m 47 ls [.int x1, z, .ref (ad ob)]) (xrq hq6)) ?_
      refine x_call (x_runV (i := ob) hC hI (xst hI (st_lt hp (d := 0) (by decide)) (sls_0 hp)) rfl (um_X5_holds l D dA ad Hs hC.2.2 900 18500 _ _ (ev_V l D dA ad Hs hC.2.2 100) (ev_T l D dA ad Hs hC.2.2 100) σ ob q5 x1 hp _ hT) (lw_V q1282 q1284 qs37 q169 q1285) 2 hdV_X5_holds ⟨rfl, rfl⟩ ⟨Nat.le_of_ble_eq_true rfl, Nat.le_of_ble_eq_true rfl⟩ rfl hl.1 rfl (Nat.le_of_ble_eq_true rfl) hB dX5_stands_47) hI (fun r8 σ7 H locs hT hI => ?_)
      refine W.eq (g2 := F0 m 50 ls [.int r8]) rfl ?_
      refine lv_if_eq (tgt := 57) hx hb dX5_stands_50 (by decide) (fun hc => ?_) (fun hc => ?_)
      · replace hT := hT.1 hc
        refine lv_iconst (v := 0) hx hb dX5_stands_57 (by decide) ?_
        exact hret _ _ _ _ _ _ _ _ rfl hT hI hB dX5_stands_58
      · replace hT := hT.2 hc
        refine lv_iconst (v := 1) hx hb dX5_stands_53 (by decide) ?_
        refine lv_goto (tgt := 58) hx hb dX5_stands_54 (by decide) ?_
        exact hret _ _ _ _ _ _ _ _ rfl hT hI hB dX5_stands_58
    · replace hT := hT.2 hc
      refine lv_aload_n hx hb dX5_stands_23 rfl (lv_at hl 0 rfl) ?_
      refine xg5_4 (i := ob) hC hI (xst hI (st_lt hp (d := 0) (by decide)) (sls_0 hp)) q419 (fun _ h => h) dX5_stands_24 ?_
      refine lv_iload_n hx hb dX5_stands_27 rfl (lv_at hl 1 rfl) ?_
      refine x_iald (i := ob + 3) hC hI (xst hI (st_lt hp (d := 3) (by decide)) (sls_3 hp)) hT dX5_stands_28 (fun hT => ?_)
      refine lv_if_le (tgt := 57) hx hb dX5_stands_29 (by decide) (fun hc => ?_) (fun hc => ?_)
      · replace hT := hT.1 hc
        refine lv_iconst (v := 0) hx hb dX5_stands_57 (by decide) ?_
        exact hret _ _ _ _ _ _ _ _ rfl hT hI hB dX5_stands_58
      · replace hT := hT.2 hc
        refine lv_goto (tgt := 53) hx hb dX5_stands_32 (by decide) ?_
        refine lv_iconst (v := 1) hx hb dX5_stands_53 (by decide) ?_
        refine lv_goto (tgt := 58) hx hb dX5_stands_54 (by decide) ?_
        exact hret _ _ _ _ _ _ _ _ rfl hT hI hB dX5_stands_58
set_option maxHeartbeats 4000000 in
set_option maxRecDepth 100000 in
theorem um_X5_standing (l : Launch) (D : va_G) (dA : Nat → ClassId) (ad : Nat → Nat) (Hs : Heap) (hA : cAd ad 1296 Hs.size) (σ : CS) (ob : Nat) (hp : stOK ob) (K : Int32 → CS → Prop) (hT : U_X5_standing σ ob K) : Met l yX5_standing (ws_ yX5_standing cX5_standing 3 (some .int)) ({ frames := 908, cells := 0, slots := 0, locals := 18661 }) (va_Pc [.ref (ad ob)] (cU D dA ad 1296 Hs σ)) (xQ rvI K (cU D dA ad 1296 Hs) (cA ad)) 0 0 (cA ad) := by
  refine xm_i hA (by decide) rfl (Nat.le_of_ble_eq_true rfl) ?_
  intro p e s m args below meth c Q hC hN hret hI ls hl
  have hx := hC.1.1
  have hb := hC.1.2.1
  have hB : 0 ≤ 0 ∧ 0 ≤ 0 := ⟨Nat.zero_le _, Nat.zero_le _⟩
  have hl : lv_has ls 3 [(0, .ref (ad ob))] := hl
  have w_4 : ∀ (n : Nat) (x1 : Int32) (x2 : Int32) (σ : CS) (H : Heap) (locs : List Loc) (ls : Array Slot), U_X5_standing_4 K ob n x1 x2 σ → xI D dA ad 1296 Hs s.heap σ H locs → lv_has ls 3 [(0, .ref (ad ob)), (1, .int x1), (2, .int x2)] → W p l e ({ frames := 908, cells := 0, slots := 0, locals := 18661 }) s m args below meth c H locs 0 0 Q (F0 m 4 ls []) := by
    intro n
    induction n with
    | zero => intro x1 x2 σ H locs ls hT; exact hT.elim
    | succ n ih =>
      intro x1 x2 σ H locs ls hT hI hl
      unfold U_X5_standing_4 at hT
      refine lv_iload_n hx hb dX5_standing_4 rfl (lv_at hl 2 rfl) ?_
      refine lv_aload_n hx hb dX5_standing_5 rfl (lv_at hl 0 rfl) ?_
      refine xg5_12 (i := ob) hC hI (xst hI (st_lt hp (d := 0) (by decide)) (sls_0 hp)) q434 (fun _ h => h) dX5_standing_6 ?_
      refine x_call (x_runVN (i := 0) hC hI (xst hI (Nat.le_of_ble_eq_true rfl) sl_0) rfl (um_X0_things l D dA ad Hs hC.2.2 σ _ hT) q1267 q1251 qs34 q158 q1252 0 hdS_X0_things ⟨rfl, rfl⟩ ⟨Nat.le_of_ble_eq_true rfl, Nat.le_of_ble_eq_true rfl⟩ rfl hl.1 rfl (Nat.le_of_ble_eq_true rfl) hB dX5_standing_9) hI (fun r2 σ1 H locs hT hI => ?_)
      refine W.eq (g2 := F0 m 12 ls [.int r2, .int x2]) rfl ?_
      refine lv_icmp_ge (tgt := 39) hx hb dX5_standing_12 (by decide) (fun hc => ?_) (fun hc => ?_)
      · replace hT := hT.1 hc
        refine lv_iload_n hx hb dX5_standing_39 rfl (lv_at hl 1 rfl) ?_
        exact hret _ _ _ _ _ _ _ _ hT hI hB dX5_standing_40
      · replace hT := hT.2 hc
        refine lv_iload_n hx hb dX5_standing_15 rfl (lv_at hl 1 rfl) ?_
        refine lv_aload_n hx hb dX5_standing_16 rfl (lv_at hl 0 rfl) ?_
        refine lv_iload_n hx hb dX5_standing_17 rfl (lv_at hl 2 rfl) ?_
        refine x_call (x_runV (i := ob) hC hI (xst hI (st_lt hp (d := 0) (by decide)) (sls_0 hp)) rfl (um_X5_stands l D dA ad Hs hC.2.2 σ1 ob x2 hp _ hT) (lw_V q1278 q1279 q1280 q169 q1281) 1 hdV_X5_stands ⟨rfl, rfl⟩ ⟨Nat.le_of_ble_eq_true rfl, Nat.le_of_ble_eq_true rfl⟩ rfl hl.1 rfl (Nat.le_of_ble_eq_true rfl) hB dX5_standing_18) hI (fun r4 σ3 H locs hT hI => ?_)
        refine W.eq (g2 := F0 m 21 ls [.int r4, .int x1]) rfl ?_
        refine lv_if_eq (tgt := 30) hx hb dX5_standing_21 (by decide) (fun hc => ?_) (fun hc => ?_)
        · replace hT := hT.1 hc
          refine lv_iconst (v := 0) hx hb dX5_standing_30 (by decide) ?_
          refine lv_ior hx hb dX5_standing_31 ?_
          refine lv_istore_n (lv' := [(1, .int (x1 ||| 0)), (0, .ref (ad ob)), (2, .int x2)]) hx hb dX5_standing_32 rfl hl (Nat.le_of_ble_eq_true rfl) rfl (fun ls hl => ?_)
          refine lv_iinc (v := x2 + 1) (lv' := [(2, .int (x2 + 1)), (1, .int (x1 ||| 0)), (0, .ref (ad ob))]) hx hb dX5_standing_33 hl (k := 2) rfl rfl (Nat.le_of_ble_eq_true rfl) rfl (fun ls hl => ?_)
          refine lv_goto (tgt := 4) hx hb dX5_standing_36 (by decide) ?_
          exact ih (x1 ||| 0) (x2 + 1) σ3 _ _ _ hT hI (lv_sub hl [2, 1, 0] rfl)
        · replace hT := hT.2 hc
          refine lv_iconst (v := 1) hx hb dX5_standing_24 (by decide) ?_
          refine lv_iload_n hx hb dX5_standing_25 rfl (lv_at hl 2 rfl) ?_
          refine lv_ishl hx hb dX5_standing_26 ?_
          refine lv_goto (tgt := 31) hx hb dX5_standing_27 (by decide) ?_
          refine lv_ior hx hb dX5_standing_31 ?_
          refine lv_istore_n (lv' := [(1, .int (x1 ||| (1 <<< (x2 &&& 31)))), (0, .ref (ad ob)), (2, .int x2)]) hx hb dX5_standing_32 rfl hl (Nat.le_of_ble_eq_true rfl) rfl (fun ls hl => ?_)
          refine lv_iinc (v := x2 + 1) (lv' := [(2, .int (x2 + 1)), (1, .int (x1 ||| (1 <<< (x2 &&& 31)))), (0, .ref (ad ob))]) hx hb dX5_standing_33 hl (k := 2) rfl rfl (Nat.le_of_ble_eq_true rfl) rfl (fun ls hl => ?_)
          refine lv_goto (tgt := 4) hx hb dX5_standing_36 (by decide) ?_
          exact ih (x1 ||| (1 <<< (x2 &&& 31))) (x2 + 1) σ3 _ _ _ hT hI (lv_sub hl [2, 1, 0] rfl)
  unfold U_X5_standing at hT
  refine lv_iconst (v := 0) hx hb dX5_standing_0 (by decide) ?_
  refine lv_istore_n (lv' := [(1, .int 0), (0, .ref (ad ob))]) hx hb dX5_standing_1 rfl hl (Nat.le_of_ble_eq_true rfl) rfl (fun ls hl => ?_)
  refine lv_iconst (v := 0) hx hb dX5_standing_2 (by decide) ?_
  refine lv_istore_n (lv' := [(2, .int 0), (1, .int 0), (0, .ref (ad ob))]) hx hb dX5_standing_3 rfl hl (Nat.le_of_ble_eq_true rfl) rfl (fun ls hl => ?_)
  obtain ⟨n4, hT⟩ := hT
  exact w_4 n4 0 0 σ _ _ _ hT hI (lv_sub hl [2, 1, 0] rfl)
set_option maxHeartbeats 4000000 in
set_option maxRecDepth 100000 in
theorem um_X0_has_2 (l : Launch) (D : va_G) (dA : Nat → ClassId) (ad : Nat → Nat) (Hs : Heap) (hA : cAd ad 1296 Hs.size) (σ : CS) (x1 : Int32) (K : Int32 → CS → Prop) (hT : U_X0_has_2 σ x1 K) : Met l yX0_has_2 (ws_ yX0_has_2 cX0_has_2 2 (some .int)) ({ frames := 909, cells := 0, slots := 0, locals := 18683 }) (va_Pc [.ref (ad 0), .int x1] (cU D dA ad 1296 Hs σ)) (xQ rvI K (cU D dA ad 1296 Hs) (cA ad)) 0 0 (cA ad) := by
  refine xm_i hA (by decide) rfl (Nat.le_of_ble_eq_true rfl) ?_
  intro p e s m args below meth c Q hC hN hret hI ls hl
  have hx := hC.1.1
  have hb := hC.1.2.1
  have hB : 0 ≤ 0 ∧ 0 ≤ 0 := ⟨Nat.zero_le _, Nat.zero_le _⟩
  have hl : lv_has ls 2 [(0, .ref (ad 0)), (1, .int x1)] := hl
  unfold U_X0_has_2 at hT
  refine lv_iload_n hx hb dX0_has_2_0 rfl (lv_at hl 1 rfl) ?_
  by_cases c0 : x1 = 0
  · replace hT := hT.1 c0
    refine lv_tableIn (tgt := 60) hx hb dX0_has_2_1 (by rw [c0]; decide) (by rw [c0]; decide) (by rw [c0]; rfl) (by decide) ?_
    refine lv_aload_n hx hb dX0_has_2_60 rfl (lv_at hl 0 rfl) ?_
    refine x_call (x_runV (i := 0) hC hI (xst hI (Nat.le_of_ble_eq_true rfl) sl_0) rfl (um_X0_things l D dA ad Hs hC.2.2 σ _ hT) (lw_V q1249 q1251 qs34 q158 q1252) 0 hdV_X0_things ⟨rfl, rfl⟩ ⟨Nat.le_of_ble_eq_true rfl, Nat.le_of_ble_eq_true rfl⟩ rfl hl.1 rfl (Nat.le_of_ble_eq_true rfl) hB dX0_has_2_61) hI (fun r2 σ1 H locs hT hI => ?_)
    refine W.eq (g2 := F0 m 64 ls [.int r2]) rfl ?_
    exact hret _ _ _ _ _ _ _ _ hT hI hB dX0_has_2_64
  replace hT := hT.2 c0
  by_cases c1 : x1 = 1
  · replace hT := hT.1 c1
    refine lv_tableIn (tgt := 65) hx hb dX0_has_2_1 (by rw [c1]; decide) (by rw [c1]; decide) (by rw [c1]; rfl) (by decide) ?_
    refine lv_aload_n hx hb dX0_has_2_65 rfl (lv_at hl 0 rfl) ?_
    refine x_call (x_runV (i := 0) hC hI (xst hI (Nat.le_of_ble_eq_true rfl) sl_0) rfl (um_X0_menders l D dA ad Hs hC.2.2 σ _ hT) (lw_V q1255 q1257 qs35 q158 q1258) 0 hdV_X0_menders ⟨rfl, rfl⟩ ⟨Nat.le_of_ble_eq_true rfl, Nat.le_of_ble_eq_true rfl⟩ rfl hl.1 rfl (Nat.le_of_ble_eq_true rfl) hB dX0_has_2_66) hI (fun r4 σ3 H locs hT hI => ?_)
    refine W.eq (g2 := F0 m 69 ls [.int r4]) rfl ?_
    exact hret _ _ _ _ _ _ _ _ hT hI hB dX0_has_2_69
  replace hT := hT.2 c1
  by_cases c2 : x1 = 2
  · replace hT := hT.1 c2
    refine lv_tableIn (tgt := 70) hx hb dX0_has_2_1 (by rw [c2]; decide) (by rw [c2]; decide) (by rw [c2]; rfl) (by decide) ?_
    refine lv_aload_n hx hb dX0_has_2_70 rfl (lv_at hl 0 rfl) ?_
    refine x_call (x_runV (i := 0) hC hI (xst hI (Nat.le_of_ble_eq_true rfl) sl_0) rfl (um_X0_trials l D dA ad Hs hC.2.2 σ _ hT) (lw_V q1259 q1261 qs36 q158 q1262) 0 hdV_X0_trials ⟨rfl, rfl⟩ ⟨Nat.le_of_ble_eq_true rfl, Nat.le_of_ble_eq_true rfl⟩ rfl hl.1 rfl (Nat.le_of_ble_eq_true rfl) hB dX0_has_2_71) hI (fun r6 σ5 H locs hT hI => ?_)
    refine W.eq (g2 := F0 m 74 ls [.int r6]) rfl ?_
    exact hret _ _ _ _ _ _ _ _ hT hI hB dX0_has_2_74
  replace hT := hT.2 c2
  by_cases c3 : x1 = 3
  · replace hT := hT.1 c3
    refine lv_tableIn (tgt := 75) hx hb dX0_has_2_1 (by rw [c3]; decide) (by rw [c3]; decide) (by rw [c3]; rfl) (by decide) ?_
    refine lv_aload_n hx hb dX0_has_2_75 rfl (lv_at hl 0 rfl) ?_
    refine xg0_9 (i := 0) hC hI (xst hI (Nat.le_of_ble_eq_true rfl) sl_0) q481 (fun _ h => h) dX0_has_2_76 ?_
    refine xgN5_0 (i := 16) hC hI (xst hI (st_lt (Or.inl rfl : stOK 16) (d := 0) (by decide)) (sls_0 (Or.inl rfl : stOK 16))) q412 (fun _ h => h) dX0_has_2_79 ?_
    exact hret _ _ _ _ _ _ _ _ hT hI hB dX0_has_2_82
  replace hT := hT.2 c3
  by_cases c4 : x1 = 4
  · replace hT := hT.1 c4
    refine lv_tableIn (tgt := 83) hx hb dX0_has_2_1 (by rw [c4]; decide) (by rw [c4]; decide) (by rw [c4]; rfl) (by decide) ?_
    refine lv_aload_n hx hb dX0_has_2_83 rfl (lv_at hl 0 rfl) ?_
    refine xg0_9 (i := 0) hC hI (xst hI (Nat.le_of_ble_eq_true rfl) sl_0) q481 (fun _ h => h) dX0_has_2_84 ?_
    refine lv_iconst (v := 1) hx hb dX0_has_2_87 (by decide) ?_
    refine x_call (x_runV (i := 16) hC hI (xst hI (st_lt (Or.inl rfl : stOK 16) (d := 0) (by decide)) (sls_0 (Or.inl rfl : stOK 16))) rfl (um_X5_are l D dA ad Hs hC.2.2 σ 16 1 (Or.inl rfl : stOK 16) _ hT) (lw_V q1263 q1264 q1265 q169 q1266) 1 hdV_X5_are ⟨rfl, rfl⟩ ⟨Nat.le_of_ble_eq_true rfl, Nat.le_of_ble_eq_true rfl⟩ rfl hl.1 rfl (Nat.le_of_ble_eq_true rfl) hB dX0_has_2_88) hI (fun r8 σ7 H locs hT hI => ?_)
    refine W.eq (g2 := F0 m 91 ls [.int r8]) rfl ?_
    refine x_call (x_runS hC hI (um_J16_bitCount l D dA ad 1296 Hs hC.2.2 σ7 r8 _ hT) (lw_S q1268 q1269 q197 q1270) 1 hdS_J16_bitCount ⟨rfl, rfl⟩ ⟨Nat.le_of_ble_eq_true rfl, Nat.le_of_ble_eq_true rfl⟩ rfl hl.1 rfl (Nat.le_of_ble_eq_true rfl) hB dX0_has_2_91) hI (fun r10 σ9 H locs hT hI => ?_)
    refine W.eq (g2 := F0 m 94 ls [.int r10]) rfl ?_
    exact hret _ _ _ _ _ _ _ _ hT hI hB dX0_has_2_94
  replace hT := hT.2 c4
  by_cases c5 : x1 = 5
  · replace hT := hT.1 c5
    refine lv_tableIn (tgt := 95) hx hb dX0_has_2_1 (by rw [c5]; decide) (by rw [c5]; decide) (by rw [c5]; rfl) (by decide) ?_
    refine lv_aload_n hx hb dX0_has_2_95 rfl (lv_at hl 0 rfl) ?_
    refine xg0_9 (i := 0) hC hI (xst hI (Nat.le_of_ble_eq_true rfl) sl_0) q481 (fun _ h => h) dX0_has_2_96 ?_
    refine lv_iconst (v := 2) hx hb dX0_has_2_99 (by decide) ?_
    refine x_call (x_runV (i := 16) hC hI (xst hI (st_lt (Or.inl rfl : stOK 16) (d := 0) (by decide)) (sls_0 (Or.inl rfl : stOK 16))) rfl (um_X5_are l D dA ad Hs hC.2.2 σ 16 2 (Or.inl rfl : stOK 16) _ hT) (lw_V q1263 q1264 q1265 q169 q1266) 1 hdV_X5_are ⟨rfl, rfl⟩ ⟨Nat.le_of_ble_eq_true rfl, Nat.le_of_ble_eq_true rfl⟩ rfl hl.1 rfl (Nat.le_of_ble_eq_true rfl) hB dX0_has_2_100) hI (fun r12 σ11 H locs hT hI => ?_)
    refine W.eq (g2 := F0 m 103 ls [.int r12]) rfl ?_
    refine x_call (x_runS hC hI (um_J16_bitCount l D dA ad 1296 Hs hC.2.2 σ11 r12 _ hT) (lw_S q1268 q1269 q197 q1270) 1 hdS_J16_bitCount ⟨rfl, rfl⟩ ⟨Nat.le_of_ble_eq_true rfl, Nat.le_of_ble_eq_true rfl⟩ rfl hl.1 rfl (Nat.le_of_ble_eq_true rfl) hB dX0_has_2_103) hI (fun r14 σ13 H locs hT hI => ?_)
    refine W.eq (g2 := F0 m 106 ls [.int r14]) rfl ?_
    exact hret _ _ _ _ _ _ _ _ hT hI hB dX0_has_2_106
  replace hT := hT.2 c5
  by_cases c6 : x1 = 6
  · replace hT := hT.1 c6
    refine lv_tableIn (tgt := 107) hx hb dX0_has_2_1 (by rw [c6]; decide) (by rw [c6]; decide) (by rw [c6]; rfl) (by decide) ?_
    refine lv_aload_n hx hb dX0_has_2_107 rfl (lv_at hl 0 rfl) ?_
    refine xg0_9 (i := 0) hC hI (xst hI (Nat.le_of_ble_eq_true rfl) sl_0) q481 (fun _ h => h) dX0_has_2_108 ?_
    refine x_call (x_runV (i := 16) hC hI (xst hI (st_lt (Or.inl rfl : stOK 16) (d := 0) (by decide)) (sls_0 (Or.inl rfl : stOK 16))) rfl (um_X5_standing l D dA ad Hs hC.2.2 σ 16 (Or.inl rfl : stOK 16) _ hT) (lw_V q1274 q1275 q1276 q169 q1277) 0 hdV_X5_standing ⟨rfl, rfl⟩ ⟨Nat.le_of_ble_eq_true rfl, Nat.le_of_ble_eq_true rfl⟩ rfl hl.1 rfl (Nat.le_of_ble_eq_true rfl) hB dX0_has_2_111) hI (fun r16 σ15 H locs hT hI => ?_)
    refine W.eq (g2 := F0 m 114 ls [.int r16]) rfl ?_
    refine x_call (x_runS hC hI (um_J16_bitCount l D dA ad 1296 Hs hC.2.2 σ15 r16 _ hT) (lw_S q1268 q1269 q197 q1270) 1 hdS_J16_bitCount ⟨rfl, rfl⟩ ⟨Nat.le_of_ble_eq_true rfl, Nat.le_of_ble_eq_true rfl⟩ rfl hl.1 rfl (Nat.le_of_ble_eq_true rfl) hB dX0_has_2_114) hI (fun r18 σ17 H locs hT hI => ?_)
    refine W.eq (g2 := F0 m 117 ls [.int r18]) rfl ?_
    exact hret _ _ _ _ _ _ _ _ hT hI hB dX0_has_2_117
  replace hT := hT.2 c6
  by_cases c7 : x1 = 7
  · replace hT := hT.1 c7
    refine lv_tableIn (tgt := 118) hx hb dX0_has_2_1 (by rw [c7]; decide) (by rw [c7]; decide) (by rw [c7]; rfl) (by decide) ?_
    refine lv_aload_n hx hb dX0_has_2_118 rfl (lv_at hl 0 rfl) ?_
    refine xg0_9 (i := 0) hC hI (xst hI (Nat.le_of_ble_eq_true rfl) sl_0) q481 (fun _ h => h) dX0_has_2_119 ?_
    refine x_call (x_runV (i := 16) hC hI (xst hI (st_lt (Or.inl rfl : stOK 16) (d := 0) (by decide)) (sls_0 (Or.inl rfl : stOK 16))) rfl (um_X5_forged l D dA ad Hs hC.2.2 σ 16 (Or.inl rfl : stOK 16) _ hT) (lw_V q1384 q1385 q1386 q169 q1387) 0 hdV_X5_forged ⟨rfl, rfl⟩ ⟨Nat.le_of_ble_eq_true rfl, Nat.le_of_ble_eq_true rfl⟩ rfl hl.1 rfl (Nat.le_of_ble_eq_true rfl) hB dX0_has_2_122) hI (fun r20 σ19 H locs hT hI => ?_)
    refine W.eq (g2 := F0 m 125 ls [.int r20]) rfl ?_
    refine x_call (x_runS hC hI (um_J16_bitCount l D dA ad 1296 Hs hC.2.2 σ19 r20 _ hT) (lw_S q1268 q1269 q197 q1270) 1 hdS_J16_bitCount ⟨rfl, rfl⟩ ⟨Nat.le_of_ble_eq_true rfl, Nat.le_of_ble_eq_true rfl⟩ rfl hl.1 rfl (Nat.le_of_ble_eq_true rfl) hB dX0_has_2_125) hI (fun r22 σ21 H locs hT hI => ?_)
    refine W.eq (g2 := F0 m 128 ls [.int r22]) rfl ?_
    exact hret _ _ _ _ _ _ _ _ hT hI hB dX0_has_2_128
  replace hT := hT.2 c7
  by_cases c8 : x1 = 8
  · replace hT := hT.1 c8
    refine lv_tableIn (tgt := 129) hx hb dX0_has_2_1 (by rw [c8]; decide) (by rw [c8]; decide) (by rw [c8]; rfl) (by decide) ?_
    refine lv_aload_n hx hb dX0_has_2_129 rfl (lv_at hl 0 rfl) ?_
    refine lv_aload_n hx hb dX0_has_2_130 rfl (lv_at hl 0 rfl) ?_
    refine xg0_9 (i := 0) hC hI (xst hI (Nat.le_of_ble_eq_true rfl) sl_0) q481 (fun _ h => h) dX0_has_2_131 ?_
    refine x_call (x_runV (i := 16) hC hI (xst hI (st_lt (Or.inl rfl : stOK 16) (d := 0) (by decide)) (sls_0 (Or.inl rfl : stOK 16))) rfl (um_X5_standing l D dA ad Hs hC.2.2 σ 16 (Or.inl rfl : stOK 16) _ hT) (lw_V q1274 q1275 q1276 q169 q1277) 0 hdV_X5_standing ⟨rfl, rfl⟩ ⟨Nat.le_of_ble_eq_true rfl, Nat.le_of_ble_eq_true rfl⟩ rfl hl.1 rfl (Nat.le_of_ble_eq_true rfl) hB dX0_has_2_134) hI (fun r24 σ23 H locs hT hI => ?_)
    refine W.eq (g2 := F0 m 137 ls [.int r24, .ref (ad 0)]) rfl ?_
    refine x_call (x_runV (i := 0) hC hI (xst hI (Nat.le_of_ble_eq_true rfl) sl_0) rfl (um_X0_useOf l D dA ad Hs hC.2.2 σ23 r24 _ hT) (lw_V q1388 q1390 qs42 q158 q1391) 1 hdV_X0_useOf ⟨rfl, rfl⟩ ⟨Nat.le_of_ble_eq_true rfl, Nat.le_of_ble_eq_true rfl⟩ rfl hl.1 rfl (Nat.le_of_ble_eq_true rfl) hB dX0_has_2_137) hI (fun r26 σ25 H locs hT hI => ?_)
    refine W.eq (g2 := F0 m 140 ls [.int r26]) rfl ?_
    exact hret _ _ _ _ _ _ _ _ hT hI hB dX0_has_2_140
  replace hT := hT.2 c8
  by_cases c9 : x1 = 9
  · replace hT := hT.1 c9
    refine lv_tableIn (tgt := 141) hx hb dX0_has_2_1 (by rw [c9]; decide) (by rw [c9]; decide) (by rw [c9]; rfl) (by decide) ?_
    refine lv_aload_n hx hb dX0_has_2_141 rfl (lv_at hl 0 rfl) ?_
    refine xg0_9 (i := 0) hC hI (xst hI (Nat.le_of_ble_eq_true rfl) sl_0) q481 (fun _ h => h) dX0_has_2_142 ?_
    refine xgN5_1 (i := 16) hC hI (xst hI (st_lt (Or.inl rfl : stOK 16) (d := 0) (by decide)) (sls_0 (Or.inl rfl : stOK 16))) q414 (fun _ h => h) dX0_has_2_145 ?_
    exact hret _ _ _ _ _ _ _ _ hT hI hB dX0_has_2_148
  replace hT := hT.2 c9
  by_cases c10 : x1 = 10
  · replace hT := hT.1 c10
    refine lv_tableIn (tgt := 149) hx hb dX0_has_2_1 (by rw [c10]; decide) (by rw [c10]; decide) (by rw [c10]; rfl) (by decide) ?_
    refine lv_aload_n hx hb dX0_has_2_149 rfl (lv_at hl 0 rfl) ?_
    refine xg0_15 (i := 0) hC hI (xst hI (Nat.le_of_ble_eq_true rfl) sl_0) q487 (fun _ h => h) dX0_has_2_150 ?_
    exact hret _ _ _ _ _ _ _ _ hT hI hB dX0_has_2_153
  replace hT := hT.2 c10
  refine lv_tableOut (tgt := 154) hx hb dX0_has_2_1 (ts_out0 (n := 11) (by decide) (fun k hk => by rcases (show k = 0 ∨ k = 1 ∨ k = 2 ∨ k = 3 ∨ k = 4 ∨ k = 5 ∨ k = 6 ∨ k = 7 ∨ k = 8 ∨ k = 9 ∨ k = 10 by omega) with rfl | rfl | rfl | rfl | rfl | rfl | rfl | rfl | rfl | rfl | rfl <;> assumption)) (by decide) ?_
  refine lv_iconst (v := -1) hx hb dX0_has_2_154 (by decide) ?_
  exact hret _ _ _ _ _ _ _ _ hT hI hB dX0_has_2_155
set_option maxHeartbeats 4000000 in
set_option maxRecDepth 100000 in
theorem um_X0_letter (l : Launch) (D : va_G) (dA : Nat → ClassId) (ad : Nat → Nat) (Hs : Heap) (hA : cAd ad 1296 Hs.size) (σ : CS) (x1 : Int32) (x2 : Int32) (x3 : Int32) (K : Int32 → CS → Prop) (hT : U_X0_letter σ x1 x2 x3 K) : Met l yX0_letter (ws_ yX0_letter cX0_letter 5 (some .int)) ({ frames := 6, cells := 0, slots := 0, locals := 118 }) (va_Pc [.ref (ad 0), .int x1, .int x2, .int x3] (cU D dA ad 1296 Hs σ)) (xQ rvI K (cU D dA ad 1296 Hs) (cA ad)) 0 0 (cA ad) := by
  refine xm_i hA (by decide) rfl (Nat.le_of_ble_eq_true rfl) ?_
  intro p e s m args below meth c Q hC hN hret hI ls hl
  have hx := hC.1.1
  have hb := hC.1.2.1
  have hB : 0 ≤ 0 ∧ 0 ≤ 0 := ⟨Nat.zero_le _, Nat.zero_le _⟩
  have hl : lv_has ls 5 [(0, .ref (ad 0)), (1, .int x1), (2, .int x2), (3, .int x3)] := hl
  have w_60 : ∀ (x2 : Int32) (x3 : Int32) (s0 : Nat) (σ : CS) (H : Heap) (locs : List Loc) (ls : Array Slot), U_X0_letter_60 K x2 x3 s0 σ → xI D dA ad 1296 Hs s.heap σ H locs → lv_has ls 5 [(2, .int x2), (3, .int x3)] → W p l e ({ frames := 6, cells := 0, slots := 0, locals := 118 }) s m args below meth c H locs 0 0 Q (F0 m 60 ls [va_rf (rgR ad s0)]) := by
    intro x2 x3 s0 σ H locs ls hT hI hl
    unfold U_X0_letter_60 at hT
    refine x_astore (lv' := [(4, va_rf (rgR ad s0)), (2, .int x2), (3, .int x3)]) hx hb dX0_letter_60 hl (Nat.le_of_ble_eq_true rfl) rfl (fun ls hl => ?_)
    refine lv_iload_n hx hb dX0_letter_62 rfl (lv_at hl 1 rfl) ?_
    refine x_aload hx hb dX0_letter_63 (lv_at hl 0 rfl) ?_
    obtain ⟨q1, hqe_q1, hT_q1⟩ := hT
    have hl_q1 := hl
    subst hqe_q1
    replace hT := hT_q1
    refine W.eq (g2 := F0 m 65 ls [.ref (ad q1), .int x2]) rfl ?_
    have hl : lv_has ls 5 [(4, .ref (ad q1)), (2, .int x2), (3, .int x3)] := hl_q1
    obtain ⟨hL, hT⟩ := hT
    refine x_call5 (x_runF (i := q1) hC hI hL rfl (um_J2_size l D dA ad 1296 Hs hC.2.2 σ q1 _ hT) (lw_app (a := [.methodLink _ _ _, .selects _ _ _, .instanceMethod _, .initialized _]) (lw4 q1254 q744 q746 q162) (lw_meth q748)) hC.2.1.2.2.2.1.1 0 hdF_J2_size ⟨rfl, rfl⟩ ⟨Nat.le_of_ble_eq_true rfl, Nat.le_of_ble_eq_true rfl⟩ rfl hl.1 rfl (Nat.le_of_ble_eq_true rfl) hB dX0_letter_65) hI (fun r3 σ2 H locs hT hI => ?_)
    refine W.eq (g2 := F0 m 70 ls [.int r3, .int x2]) rfl ?_
    refine lv_icmp_ge (tgt := 91) hx hb dX0_letter_70 (by decide) (fun hc => ?_) (fun hc => ?_)
    · replace hT := hT.1 hc
      refine lv_iconst (v := -1) hx hb dX0_letter_91 (by decide) ?_
      exact hret _ _ _ _ _ _ _ _ hT hI hB dX0_letter_92
    · replace hT := hT.2 hc
      refine lv_aload hx hb dX0_letter_73 (lv_at hl 0 rfl) ?_
      refine lv_iload_n hx hb dX0_letter_75 rfl (lv_at hl 1 rfl) ?_
      obtain ⟨hL, hT⟩ := hT
      refine x_call5 (x_runF (i := q1) hC hI hL rfl (um_J2_get l D dA ad 1296 Hs hC.2.2 σ2 q1 x2 _ hT) (lw_app (a := [.methodLink _ _ _, .selects _ _ _, .instanceMethod _, .initialized _]) (lw4 q1295 q784 q786 q162) (lw_meth q788)) hC.2.1.2.2.2.1.2.1 1 hdF_J2_get ⟨rfl, rfl⟩ ⟨Nat.le_of_ble_eq_true rfl, Nat.le_of_ble_eq_true rfl⟩ rfl hl.1 rfl (Nat.le_of_ble_eq_true rfl) hB dX0_letter_76) hI (fun r5 σ4 H locs hT hI => ?_)
      refine W.eq (g2 := F0 m 81 ls [va_rf (rgR ad r5)]) rfl ?_
      obtain ⟨q6, hqe_q6, hT_q6⟩ := hT
      have hl_q6 := hl
      subst hqe_q6
      replace hT := hT_q6
      refine W.eq (g2 := F0 m 81 ls [.ref (ad q6)]) rfl ?_
      have hl : lv_has ls 5 [(4, .ref (ad q1)), (2, .int x2), (3, .int x3)] := hl_q6
      obtain ⟨hL, hT⟩ := hT
      refine x_cast0 (q := q6) hC hI hL q1399 dX0_letter_81 ?_
      refine lv_iload_n hx hb dX0_letter_84 rfl (lv_at hl 2 rfl) ?_
      obtain ⟨hL, hT⟩ := hT
      refine x_call (x_runNm (i := q6) hC hI hL (um_X7_letter l D dA ad 1296 Hs hC.2.2 σ4 q6 x3 _ hT) q1400 q176 q1406 ⟨rfl, rfl⟩ ⟨Nat.le_of_ble_eq_true rfl, Nat.le_of_ble_eq_true rfl⟩ rfl hl.1 rfl (Nat.le_of_ble_eq_true rfl) hB dX0_letter_85) hI (fun r8 σ7 H locs hT hI => ?_)
      refine W.eq (g2 := F0 m 88 ls [.int r8]) rfl ?_
      refine lv_goto (tgt := 92) hx hb dX0_letter_88 (by decide) ?_
      exact hret _ _ _ _ _ _ _ _ hT hI hB dX0_letter_92
  unfold U_X0_letter at hT
  refine lv_iload_n hx hb dX0_letter_0 rfl (lv_at hl 3 rfl) ?_
  refine lv_iconst (v := 0) hx hb dX0_letter_1 (by decide) ?_
  refine lv_iconst (v := 5) hx hb dX0_letter_2 (by decide) ?_
  refine x_call (x_runS hC hI (um_X0_is l D dA ad 1296 Hs hC.2.2 σ x3 0 5 _ hT) (lw_S q1398 q815 q158 q816) 3 hdS_X0_is ⟨rfl, rfl⟩ ⟨Nat.le_of_ble_eq_true rfl, Nat.le_of_ble_eq_true rfl⟩ rfl hl.1 rfl (Nat.le_of_ble_eq_true rfl) hB dX0_letter_3) hI (fun r10 σ9 H locs hT hI => ?_)
  refine W.eq (g2 := F0 m 6 ls [.int r10]) rfl ?_
  refine lv_if_eq (tgt := 22) hx hb dX0_letter_6 (by decide) (fun hc => ?_) (fun hc => ?_)
  · replace hT := hT.1 hc
    refine lv_iconst (v := -1) hx hb dX0_letter_22 (by decide) ?_
    exact hret _ _ _ _ _ _ _ _ hT hI hB dX0_letter_23
  · replace hT := hT.2 hc
    refine lv_iload_n hx hb dX0_letter_9 rfl (lv_at hl 1 rfl) ?_
    refine lv_iconst (v := 0) hx hb dX0_letter_10 (by decide) ?_
    refine lv_iconst (v := 2) hx hb dX0_letter_11 (by decide) ?_
    refine x_call (x_runS hC hI (um_X0_is l D dA ad 1296 Hs hC.2.2 σ9 x1 0 2 _ hT) (lw_S q1398 q815 q158 q816) 3 hdS_X0_is ⟨rfl, rfl⟩ ⟨Nat.le_of_ble_eq_true rfl, Nat.le_of_ble_eq_true rfl⟩ rfl hl.1 rfl (Nat.le_of_ble_eq_true rfl) hB dX0_letter_12) hI (fun r12 σ11 H locs hT hI => ?_)
    refine W.eq (g2 := F0 m 15 ls [.int r12]) rfl ?_
    refine lv_if_eq (tgt := 22) hx hb dX0_letter_15 (by decide) (fun hc => ?_) (fun hc => ?_)
    · replace hT := hT.1 hc
      refine lv_iconst (v := -1) hx hb dX0_letter_22 (by decide) ?_
      exact hret _ _ _ _ _ _ _ _ hT hI hB dX0_letter_23
    · replace hT := hT.2 hc
      refine lv_iload_n hx hb dX0_letter_18 rfl (lv_at hl 2 rfl) ?_
      refine lv_if_ge (tgt := 24) hx hb dX0_letter_19 (by decide) (fun hc => ?_) (fun hc => ?_)
      · replace hT := hT.1 hc
        refine lv_iload_n hx hb dX0_letter_24 rfl (lv_at hl 1 rfl) ?_
        refine lv_if_ne (tgt := 38) hx hb dX0_letter_25 (by decide) (fun hc => ?_) (fun hc => ?_)
        · replace hT := hT.1 hc
          refine lv_iload_n hx hb dX0_letter_38 rfl (lv_at hl 1 rfl) ?_
          refine lv_iconst (v := 1) hx hb dX0_letter_39 (by decide) ?_
          refine lv_icmp_ne (tgt := 53) hx hb dX0_letter_40 (by decide) (fun hc => ?_) (fun hc => ?_)
          · replace hT := hT.1 hc
            refine lv_aload_n hx hb dX0_letter_53 rfl (lv_at hl 0 rfl) ?_
            refine xg0_0 (i := 0) hC hI (xst hI (Nat.le_of_ble_eq_true rfl) sl_0) q469 (fun _ h => h) dX0_letter_54 ?_
            obtain ⟨q13, hq14, hT⟩ := hT
            refine W.eq (congrArg (fun z => F0 m 57 ls [z]) (xrq hq14)) ?_
            obtain ⟨hL, hT⟩ := hT
            refine xgN1_4 (i := q13) hC hI hL q253 (fun _ h => h) dX0_letter_57 ?_
            exact w_60 x2 x3 (gR σ11 q13 4) σ11 _ _ _ hT hI (lv_sub hl [2, 3] rfl)
          · replace hT := hT.2 hc
            refine lv_aload_n hx hb dX0_letter_43 rfl (lv_at hl 0 rfl) ?_
            refine xg0_0 (i := 0) hC hI (xst hI (Nat.le_of_ble_eq_true rfl) sl_0) q469 (fun _ h => h) dX0_letter_44 ?_
            obtain ⟨q15, hq16, hT⟩ := hT
            refine W.eq (congrArg (fun z => F0 m 47 ls [z]) (xrq hq16)) ?_
            obtain ⟨hL, hT⟩ := hT
            refine xgN1_3 (i := q15) hC hI hL q249 (fun _ h => h) dX0_letter_47 ?_
            refine lv_goto (tgt := 60) hx hb dX0_letter_50 (by decide) ?_
            exact w_60 x2 x3 (gR σ11 q15 3) σ11 _ _ _ hT hI (lv_sub hl [2, 3] rfl)
        · replace hT := hT.2 hc
          refine lv_aload_n hx hb dX0_letter_28 rfl (lv_at hl 0 rfl) ?_
          refine xg0_0 (i := 0) hC hI (xst hI (Nat.le_of_ble_eq_true rfl) sl_0) q469 (fun _ h => h) dX0_letter_29 ?_
          obtain ⟨q17, hq18, hT⟩ := hT
          refine W.eq (congrArg (fun z => F0 m 32 ls [z]) (xrq hq18)) ?_
          obtain ⟨hL, hT⟩ := hT
          refine xgN1_2 (i := q17) hC hI hL q246 (fun _ h => h) dX0_letter_32 ?_
          refine lv_goto (tgt := 60) hx hb dX0_letter_35 (by decide) ?_
          exact w_60 x2 x3 (gR σ11 q17 2) σ11 _ _ _ hT hI (lv_sub hl [2, 3] rfl)
      · replace hT := hT.2 hc
        refine lv_iconst (v := -1) hx hb dX0_letter_22 (by decide) ?_
        exact hret _ _ _ _ _ _ _ _ hT hI hB dX0_letter_23
set_option maxHeartbeats 4000000 in
set_option maxRecDepth 100000 in
theorem um_X0_isThing (l : Launch) (D : va_G) (dA : Nat → ClassId) (ad : Nat → Nat) (Hs : Heap) (hA : cAd ad 1296 Hs.size) (σ : CS) (x1 : Int32) (K : Int32 → CS → Prop) (hT : U_X0_isThing σ x1 K) : Met l yX0_isThing (ws_ yX0_isThing cX0_isThing 2 (some .boolean)) ({ frames := 3, cells := 0, slots := 0, locals := 52 }) (va_Pc [.ref (ad 0), .int x1] (cU D dA ad 1296 Hs σ)) (xQ rvI K (cU D dA ad 1296 Hs) (cA ad)) 0 0 (cA ad) := by
  refine xm_z hA (by decide) rfl (Nat.le_of_ble_eq_true rfl) ?_
  intro p e s m args below meth c Q hC hN hret hI ls hl
  have hx := hC.1.1
  have hb := hC.1.2.1
  have hB : 0 ≤ 0 ∧ 0 ≤ 0 := ⟨Nat.zero_le _, Nat.zero_le _⟩
  have hl : lv_has ls 2 [(0, .ref (ad 0)), (1, .int x1)] := hl
  unfold U_X0_isThing at hT
  refine lv_iload_n hx hb dX0_isThing_0 rfl (lv_at hl 1 rfl) ?_
  refine lv_if_lt (tgt := 16) hx hb dX0_isThing_1 (by decide) (fun hc => ?_) (fun hc => ?_)
  · replace hT := hT.1 hc
    refine lv_iconst (v := 0) hx hb dX0_isThing_16 (by decide) ?_
    exact hret _ _ _ _ _ _ _ _ rfl hT hI hB dX0_isThing_17
  · replace hT := hT.2 hc
    refine lv_iload_n hx hb dX0_isThing_4 rfl (lv_at hl 1 rfl) ?_
    refine lv_aload_n hx hb dX0_isThing_5 rfl (lv_at hl 0 rfl) ?_
    refine x_call (x_runV (i := 0) hC hI (xst hI (Nat.le_of_ble_eq_true rfl) sl_0) rfl (um_X0_things l D dA ad Hs hC.2.2 σ _ hT) (lw_V q1249 q1251 qs34 q158 q1252) 0 hdV_X0_things ⟨rfl, rfl⟩ ⟨Nat.le_of_ble_eq_true rfl, Nat.le_of_ble_eq_true rfl⟩ rfl hl.1 rfl (Nat.le_of_ble_eq_true rfl) hB dX0_isThing_6) hI (fun r2 σ1 H locs hT hI => ?_)
    refine W.eq (g2 := F0 m 9 ls [.int r2, .int x1]) rfl ?_
    refine lv_icmp_ge (tgt := 16) hx hb dX0_isThing_9 (by decide) (fun hc => ?_) (fun hc => ?_)
    · replace hT := hT.1 hc
      refine lv_iconst (v := 0) hx hb dX0_isThing_16 (by decide) ?_
      exact hret _ _ _ _ _ _ _ _ rfl hT hI hB dX0_isThing_17
    · replace hT := hT.2 hc
      refine lv_iconst (v := 1) hx hb dX0_isThing_12 (by decide) ?_
      refine lv_goto (tgt := 17) hx hb dX0_isThing_13 (by decide) ?_
      exact hret _ _ _ _ _ _ _ _ rfl hT hI hB dX0_isThing_17
set_option maxHeartbeats 4000000 in
set_option maxRecDepth 100000 in
theorem um_X0_thing (l : Launch) (D : va_G) (dA : Nat → ClassId) (ad : Nat → Nat) (Hs : Heap) (hA : cAd ad 1296 Hs.size) (σ : CS) (x1 : Int32) (x2 : Int32) (K : Int32 → CS → Prop) (hT : U_X0_thing σ x1 x2 K) : Met l yX0_thing (ws_ yX0_thing cX0_thing 4 (some .int)) ({ frames := 908, cells := 0, slots := 0, locals := 18661 }) (va_Pc [.ref (ad 0), .int x1, .int x2] (cU D dA ad 1296 Hs σ)) (xQ rvI K (cU D dA ad 1296 Hs) (cA ad)) 0 0 (cA ad) := by
  refine xm_i hA (by decide) rfl (Nat.le_of_ble_eq_true rfl) ?_
  intro p e s m args below meth c Q hC hN hret hI ls hl
  have hx := hC.1.1
  have hb := hC.1.2.1
  have hB : 0 ≤ 0 ∧ 0 ≤ 0 := ⟨Nat.zero_le _, Nat.zero_le _⟩
  have hl : lv_has ls 4 [(0, .ref (ad 0)), (1, .int x1), (2, .int x2)] := hl
  unfold U_X0_thing at hT
  refine lv_aload_n hx hb dX0_thing_0 rfl (lv_at hl 0 rfl) ?_
  refine lv_iload_n hx hb dX0_thing_1 rfl (lv_at hl 1 rfl) ?_
  refine x_call (x_runV (i := 0) hC hI (xst hI (Nat.le_of_ble_eq_true rfl) sl_0) rfl (um_X0_isThing l D dA ad Hs hC.2.2 σ x1 _ hT) (lw_V q1423 q1425 qs43 q158 q1426) 1 hdV_X0_isThing ⟨rfl, rfl⟩ ⟨Nat.le_of_ble_eq_true rfl, Nat.le_of_ble_eq_true rfl⟩ rfl hl.1 rfl (Nat.le_of_ble_eq_true rfl) hB dX0_thing_2) hI (fun r2 σ1 H locs hT hI => ?_)
  refine W.eq (g2 := F0 m 5 ls [.int r2]) rfl ?_
  refine lv_if_ne (tgt := 10) hx hb dX0_thing_5 (by decide) (fun hc => ?_) (fun hc => ?_)
  · replace hT := hT.1 hc
    refine lv_aload_n hx hb dX0_thing_10 rfl (lv_at hl 0 rfl) ?_
    refine lv_iload_n hx hb dX0_thing_11 rfl (lv_at hl 1 rfl) ?_
    refine x_call (x_runV (i := 0) hC hI (xst hI (Nat.le_of_ble_eq_true rfl) sl_0) rfl (um_X0_thingOf l D dA ad Hs hC.2.2 σ1 x1 _ hT) (lw_V q1393 q1292 qs39 q158 q1293) 1 hdV_X0_thingOf ⟨rfl, rfl⟩ ⟨Nat.le_of_ble_eq_true rfl, Nat.le_of_ble_eq_true rfl⟩ rfl hl.1 rfl (Nat.le_of_ble_eq_true rfl) hB dX0_thing_12) hI (fun r4 σ3 H locs hT hI => ?_)
    refine W.eq (g2 := F0 m 15 ls [va_rf (rgR ad r4)]) rfl ?_
    refine x_astore_n (lv' := [(3, va_rf (rgR ad r4)), (0, .ref (ad 0)), (1, .int x1), (2, .int x2)]) hx hb dX0_thing_15 rfl hl (Nat.le_of_ble_eq_true rfl) rfl (fun ls hl => ?_)
    refine lv_iload_n hx hb dX0_thing_16 rfl (lv_at hl 3 rfl) ?_
    by_cases c0 : x2 = 0
    · replace hT := hT.1 c0
      refine lv_tableIn (tgt := 68) hx hb dX0_thing_17 (by rw [c0]; decide) (by rw [c0]; decide) (by rw [c0]; rfl) (by decide) ?_
      refine x_aload_n hx hb dX0_thing_68 rfl (lv_at hl 0 rfl) ?_
      obtain ⟨q5, hqe_q5, hT_q5⟩ := hT
      have hl_q5 := hl
      subst hqe_q5
      replace hT := hT_q5
      refine W.eq (g2 := F0 m 69 ls [.ref (ad q5)]) rfl ?_
      have hl : lv_has ls 4 [(3, .ref (ad q5)), (0, .ref (ad 0)), (1, .int x1), (2, .int x2)] := hl_q5
      obtain ⟨hL, hT⟩ := hT
      refine xgN7_1 (i := q5) hC hI hL q830 (fun _ h => h) dX0_thing_69 ?_
      exact hret _ _ _ _ _ _ _ _ hT hI hB dX0_thing_72
    replace hT := hT.2 c0
    by_cases c1 : x2 = 1
    · replace hT := hT.1 c1
      refine lv_tableIn (tgt := 73) hx hb dX0_thing_17 (by rw [c1]; decide) (by rw [c1]; decide) (by rw [c1]; rfl) (by decide) ?_
      refine x_aload_n hx hb dX0_thing_73 rfl (lv_at hl 0 rfl) ?_
      obtain ⟨q6, hqe_q6, hT_q6⟩ := hT
      have hl_q6 := hl
      subst hqe_q6
      replace hT := hT_q6
      refine W.eq (g2 := F0 m 74 ls [.ref (ad q6)]) rfl ?_
      have hl : lv_has ls 4 [(3, .ref (ad q6)), (0, .ref (ad 0)), (1, .int x1), (2, .int x2)] := hl_q6
      obtain ⟨hL, hT⟩ := hT
      refine xgN7_2 (i := q6) hC hI hL q833 (fun _ h => h) dX0_thing_74 ?_
      exact hret _ _ _ _ _ _ _ _ hT hI hB dX0_thing_77
    replace hT := hT.2 c1
    by_cases c2 : x2 = 2
    · replace hT := hT.1 c2
      refine lv_tableIn (tgt := 78) hx hb dX0_thing_17 (by rw [c2]; decide) (by rw [c2]; decide) (by rw [c2]; rfl) (by decide) ?_
      refine x_aload_n hx hb dX0_thing_78 rfl (lv_at hl 0 rfl) ?_
      obtain ⟨q7, hqe_q7, hT_q7⟩ := hT
      have hl_q7 := hl
      subst hqe_q7
      replace hT := hT_q7
      refine W.eq (g2 := F0 m 79 ls [.ref (ad q7)]) rfl ?_
      have hl : lv_has ls 4 [(3, .ref (ad q7)), (0, .ref (ad 0)), (1, .int x1), (2, .int x2)] := hl_q7
      obtain ⟨hL, hT⟩ := hT
      refine xgN7_3 (i := q7) hC hI hL q836 (fun _ h => h) dX0_thing_79 ?_
      exact hret _ _ _ _ _ _ _ _ hT hI hB dX0_thing_82
    replace hT := hT.2 c2
    by_cases c3 : x2 = 3
    · replace hT := hT.1 c3
      refine lv_tableIn (tgt := 83) hx hb dX0_thing_17 (by rw [c3]; decide) (by rw [c3]; decide) (by rw [c3]; rfl) (by decide) ?_
      refine lv_aload_n hx hb dX0_thing_83 rfl (lv_at hl 1 rfl) ?_
      refine xg0_9 (i := 0) hC hI (xst hI (Nat.le_of_ble_eq_true rfl) sl_0) q481 (fun _ h => h) dX0_thing_84 ?_
      refine xgN5_2 (i := 16) hC hI (xst hI (st_lt (Or.inl rfl : stOK 16) (d := 0) (by decide)) (sls_0 (Or.inl rfl : stOK 16))) q416 (fun _ h => h) dX0_thing_87 ?_
      refine lv_iload_n hx hb dX0_thing_90 rfl (lv_at hl 2 rfl) ?_
      refine x_iald (i := 17) hC hI (xst hI (st_lt (Or.inl rfl : stOK 16) (d := 1) (by decide)) (sls_1 (Or.inl rfl : stOK 16))) hT dX0_thing_91 (fun hT => ?_)
      exact hret _ _ _ _ _ _ _ _ hT hI hB dX0_thing_92
    replace hT := hT.2 c3
    by_cases c4 : x2 = 4
    · replace hT := hT.1 c4
      refine lv_tableIn (tgt := 93) hx hb dX0_thing_17 (by rw [c4]; decide) (by rw [c4]; decide) (by rw [c4]; rfl) (by decide) ?_
      refine lv_aload_n hx hb dX0_thing_93 rfl (lv_at hl 1 rfl) ?_
      refine xg0_9 (i := 0) hC hI (xst hI (Nat.le_of_ble_eq_true rfl) sl_0) q481 (fun _ h => h) dX0_thing_94 ?_
      refine xgN5_3 (i := 16) hC hI (xst hI (st_lt (Or.inl rfl : stOK 16) (d := 0) (by decide)) (sls_0 (Or.inl rfl : stOK 16))) q418 (fun _ h => h) dX0_thing_97 ?_
      refine lv_iload_n hx hb dX0_thing_100 rfl (lv_at hl 2 rfl) ?_
      refine x_iald (i := 18) hC hI (xst hI (st_lt (Or.inl rfl : stOK 16) (d := 2) (by decide)) (sls_2 (Or.inl rfl : stOK 16))) hT dX0_thing_101 (fun hT => ?_)
      exact hret _ _ _ _ _ _ _ _ hT hI hB dX0_thing_102
    replace hT := hT.2 c4
    by_cases c5 : x2 = 5
    · replace hT := hT.1 c5
      refine lv_tableIn (tgt := 103) hx hb dX0_thing_17 (by rw [c5]; decide) (by rw [c5]; decide) (by rw [c5]; rfl) (by decide) ?_
      refine lv_aload_n hx hb dX0_thing_103 rfl (lv_at hl 1 rfl) ?_
      refine xg0_9 (i := 0) hC hI (xst hI (Nat.le_of_ble_eq_true rfl) sl_0) q481 (fun _ h => h) dX0_thing_104 ?_
      refine xgN5_4 (i := 16) hC hI (xst hI (st_lt (Or.inl rfl : stOK 16) (d := 0) (by decide)) (sls_0 (Or.inl rfl : stOK 16))) q420 (fun _ h => h) dX0_thing_107 ?_
      refine lv_iload_n hx hb dX0_thing_110 rfl (lv_at hl 2 rfl) ?_
      refine x_iald (i := 19) hC hI (xst hI (st_lt (Or.inl rfl : stOK 16) (d := 3) (by decide)) (sls_3 (Or.inl rfl : stOK 16))) hT dX0_thing_111 (fun hT => ?_)
      exact hret _ _ _ _ _ _ _ _ hT hI hB dX0_thing_112
    replace hT := hT.2 c5
    by_cases c6 : x2 = 6
    · replace hT := hT.1 c6
      refine lv_tableIn (tgt := 113) hx hb dX0_thing_17 (by rw [c6]; decide) (by rw [c6]; decide) (by rw [c6]; rfl) (by decide) ?_
      refine lv_aload_n hx hb dX0_thing_113 rfl (lv_at hl 1 rfl) ?_
      refine xg0_9 (i := 0) hC hI (xst hI (Nat.le_of_ble_eq_true rfl) sl_0) q481 (fun _ h => h) dX0_thing_114 ?_
      refine xgN5_5 (i := 16) hC hI (xst hI (st_lt (Or.inl rfl : stOK 16) (d := 0) (by decide)) (sls_0 (Or.inl rfl : stOK 16))) q422 (fun _ h => h) dX0_thing_117 ?_
      refine lv_iload_n hx hb dX0_thing_120 rfl (lv_at hl 2 rfl) ?_
      refine x_iald (i := 20) hC hI (xst hI (st_lt (Or.inl rfl : stOK 16) (d := 4) (by decide)) (sls_4 (Or.inl rfl : stOK 16))) hT dX0_thing_121 (fun hT => ?_)
      exact hret _ _ _ _ _ _ _ _ hT hI hB dX0_thing_122
    replace hT := hT.2 c6
    by_cases c7 : x2 = 7
    · replace hT := hT.1 c7
      refine lv_tableIn (tgt := 123) hx hb dX0_thing_17 (by rw [c7]; decide) (by rw [c7]; decide) (by rw [c7]; rfl) (by decide) ?_
      refine lv_aload_n hx hb dX0_thing_123 rfl (lv_at hl 1 rfl) ?_
      refine xg0_9 (i := 0) hC hI (xst hI (Nat.le_of_ble_eq_true rfl) sl_0) q481 (fun _ h => h) dX0_thing_124 ?_
      refine xgN5_6 (i := 16) hC hI (xst hI (st_lt (Or.inl rfl : stOK 16) (d := 0) (by decide)) (sls_0 (Or.inl rfl : stOK 16))) q424 (fun _ h => h) dX0_thing_127 ?_
      refine lv_iload_n hx hb dX0_thing_130 rfl (lv_at hl 2 rfl) ?_
      refine x_zald (i := 21) hC hI (xst hI (st_lt (Or.inl rfl : stOK 16) (d := 5) (by decide)) (sls_5 (Or.inl rfl : stOK 16))) hT dX0_thing_131 (fun hT => ?_)
      refine lv_if_eq (tgt := 139) hx hb dX0_thing_132 (by decide) (fun hc => ?_) (fun hc => ?_)
      · replace hT := hT.1 hc
        refine lv_iconst (v := 0) hx hb dX0_thing_139 (by decide) ?_
        exact hret _ _ _ _ _ _ _ _ hT hI hB dX0_thing_140
      · replace hT := hT.2 hc
        refine lv_iconst (v := 1) hx hb dX0_thing_135 (by decide) ?_
        refine lv_goto (tgt := 140) hx hb dX0_thing_136 (by decide) ?_
        exact hret _ _ _ _ _ _ _ _ hT hI hB dX0_thing_140
    replace hT := hT.2 c7
    by_cases c8 : x2 = 8
    · replace hT := hT.1 c8
      refine lv_tableIn (tgt := 141) hx hb dX0_thing_17 (by rw [c8]; decide) (by rw [c8]; decide) (by rw [c8]; rfl) (by decide) ?_
      refine lv_aload_n hx hb dX0_thing_141 rfl (lv_at hl 1 rfl) ?_
      refine xg0_9 (i := 0) hC hI (xst hI (Nat.le_of_ble_eq_true rfl) sl_0) q481 (fun _ h => h) dX0_thing_142 ?_
      refine lv_iload_n hx hb dX0_thing_145 rfl (lv_at hl 2 rfl) ?_
      refine x_call (x_runV (i := 16) hC hI (xst hI (st_lt (Or.inl rfl : stOK 16) (d := 0) (by decide)) (sls_0 (Or.inl rfl : stOK 16))) rfl (um_X5_stands l D dA ad Hs hC.2.2 σ3 16 x1 (Or.inl rfl : stOK 16) _ hT) (lw_V q1427 q1279 q1280 q169 q1281) 1 hdV_X5_stands ⟨rfl, rfl⟩ ⟨Nat.le_of_ble_eq_true rfl, Nat.le_of_ble_eq_true rfl⟩ rfl hl.1 rfl (Nat.le_of_ble_eq_true rfl) hB dX0_thing_146) hI (fun r9 σ8 H locs hT hI => ?_)
      refine W.eq (g2 := F0 m 149 ls [.int r9]) rfl ?_
      refine lv_if_eq (tgt := 156) hx hb dX0_thing_149 (by decide) (fun hc => ?_) (fun hc => ?_)
      · replace hT := hT.1 hc
        refine lv_iconst (v := 0) hx hb dX0_thing_156 (by decide) ?_
        exact hret _ _ _ _ _ _ _ _ hT hI hB dX0_thing_157
      · replace hT := hT.2 hc
        refine lv_iconst (v := 1) hx hb dX0_thing_152 (by decide) ?_
        refine lv_goto (tgt := 157) hx hb dX0_thing_153 (by decide) ?_
        exact hret _ _ _ _ _ _ _ _ hT hI hB dX0_thing_157
    replace hT := hT.2 c8
    refine lv_tableOut (tgt := 158) hx hb dX0_thing_17 (ts_out0 (n := 9) (by decide) (fun k hk => by rcases (show k = 0 ∨ k = 1 ∨ k = 2 ∨ k = 3 ∨ k = 4 ∨ k = 5 ∨ k = 6 ∨ k = 7 ∨ k = 8 by omega) with rfl | rfl | rfl | rfl | rfl | rfl | rfl | rfl | rfl <;> assumption)) (by decide) ?_
    refine lv_iconst (v := -1) hx hb dX0_thing_158 (by decide) ?_
    exact hret _ _ _ _ _ _ _ _ hT hI hB dX0_thing_159
  · replace hT := hT.2 hc
    refine lv_iconst (v := -1) hx hb dX0_thing_8 (by decide) ?_
    exact hret _ _ _ _ _ _ _ _ hT hI hB dX0_thing_9
set_option maxHeartbeats 4000000 in
set_option maxRecDepth 100000 in
theorem um_X0_isMender (l : Launch) (D : va_G) (dA : Nat → ClassId) (ad : Nat → Nat) (Hs : Heap) (hA : cAd ad 1296 Hs.size) (σ : CS) (x1 : Int32) (K : Int32 → CS → Prop) (hT : U_X0_isMender σ x1 K) : Met l yX0_isMender (ws_ yX0_isMender cX0_isMender 2 (some .boolean)) ({ frames := 3, cells := 0, slots := 0, locals := 52 }) (va_Pc [.ref (ad 0), .int x1] (cU D dA ad 1296 Hs σ)) (xQ rvI K (cU D dA ad 1296 Hs) (cA ad)) 0 0 (cA ad) := by
  refine xm_z hA (by decide) rfl (Nat.le_of_ble_eq_true rfl) ?_
  intro p e s m args below meth c Q hC hN hret hI ls hl
  have hx := hC.1.1
  have hb := hC.1.2.1
  have hB : 0 ≤ 0 ∧ 0 ≤ 0 := ⟨Nat.zero_le _, Nat.zero_le _⟩
  have hl : lv_has ls 2 [(0, .ref (ad 0)), (1, .int x1)] := hl
  unfold U_X0_isMender at hT
  refine lv_iload_n hx hb dX0_isMender_0 rfl (lv_at hl 1 rfl) ?_
  refine lv_if_lt (tgt := 16) hx hb dX0_isMender_1 (by decide) (fun hc => ?_) (fun hc => ?_)
  · replace hT := hT.1 hc
    refine lv_iconst (v := 0) hx hb dX0_isMender_16 (by decide) ?_
    exact hret _ _ _ _ _ _ _ _ rfl hT hI hB dX0_isMender_17
  · replace hT := hT.2 hc
    refine lv_iload_n hx hb dX0_isMender_4 rfl (lv_at hl 1 rfl) ?_
    refine lv_aload_n hx hb dX0_isMender_5 rfl (lv_at hl 0 rfl) ?_
    refine x_call (x_runV (i := 0) hC hI (xst hI (Nat.le_of_ble_eq_true rfl) sl_0) rfl (um_X0_menders l D dA ad Hs hC.2.2 σ _ hT) (lw_V q1255 q1257 qs35 q158 q1258) 0 hdV_X0_menders ⟨rfl, rfl⟩ ⟨Nat.le_of_ble_eq_true rfl, Nat.le_of_ble_eq_true rfl⟩ rfl hl.1 rfl (Nat.le_of_ble_eq_true rfl) hB dX0_isMender_6) hI (fun r2 σ1 H locs hT hI => ?_)
    refine W.eq (g2 := F0 m 9 ls [.int r2, .int x1]) rfl ?_
    refine lv_icmp_ge (tgt := 16) hx hb dX0_isMender_9 (by decide) (fun hc => ?_) (fun hc => ?_)
    · replace hT := hT.1 hc
      refine lv_iconst (v := 0) hx hb dX0_isMender_16 (by decide) ?_
      exact hret _ _ _ _ _ _ _ _ rfl hT hI hB dX0_isMender_17
    · replace hT := hT.2 hc
      refine lv_iconst (v := 1) hx hb dX0_isMender_12 (by decide) ?_
      refine lv_goto (tgt := 17) hx hb dX0_isMender_13 (by decide) ?_
      exact hret _ _ _ _ _ _ _ _ rfl hT hI hB dX0_isMender_17
set_option maxHeartbeats 4000000 in
set_option maxRecDepth 100000 in
theorem um_X0_mender (l : Launch) (D : va_G) (dA : Nat → ClassId) (ad : Nat → Nat) (Hs : Heap) (hA : cAd ad 1296 Hs.size) (σ : CS) (x1 : Int32) (x2 : Int32) (K : Int32 → CS → Prop) (hT : U_X0_mender σ x1 x2 K) : Met l yX0_mender (ws_ yX0_mender cX0_mender 3 (some .int)) ({ frames := 5, cells := 0, slots := 0, locals := 97 }) (va_Pc [.ref (ad 0), .int x1, .int x2] (cU D dA ad 1296 Hs σ)) (xQ rvI K (cU D dA ad 1296 Hs) (cA ad)) 0 0 (cA ad) := by
  refine xm_i hA (by decide) rfl (Nat.le_of_ble_eq_true rfl) ?_
  intro p e s m args below meth c Q hC hN hret hI ls hl
  have hx := hC.1.1
  have hb := hC.1.2.1
  have hB : 0 ≤ 0 ∧ 0 ≤ 0 := ⟨Nat.zero_le _, Nat.zero_le _⟩
  have hl : lv_has ls 3 [(0, .ref (ad 0)), (1, .int x1), (2, .int x2)] := hl
  unfold U_X0_mender at hT
  refine lv_aload_n hx hb dX0_mender_0 rfl (lv_at hl 0 rfl) ?_
  refine lv_iload_n hx hb dX0_mender_1 rfl (lv_at hl 1 rfl) ?_
  refine x_call (x_runV (i := 0) hC hI (xst hI (Nat.le_of_ble_eq_true rfl) sl_0) rfl (um_X0_isMender l D dA ad Hs hC.2.2 σ x1 _ hT) (lw_V q1432 q1434 qs44 q158 q1435) 1 hdV_X0_isMender ⟨rfl, rfl⟩ ⟨Nat.le_of_ble_eq_true rfl, Nat.le_of_ble_eq_true rfl⟩ rfl hl.1 rfl (Nat.le_of_ble_eq_true rfl) hB dX0_mender_2) hI (fun r2 σ1 H locs hT hI => ?_)
  refine W.eq (g2 := F0 m 5 ls [.int r2]) rfl ?_
  refine lv_if_ne (tgt := 10) hx hb dX0_mender_5 (by decide) (fun hc => ?_) (fun hc => ?_)
  · replace hT := hT.1 hc
    refine lv_iload_n hx hb dX0_mender_10 rfl (lv_at hl 2 rfl) ?_
    refine lv_if_ne (tgt := 25) hx hb dX0_mender_11 (by decide) (fun hc => ?_) (fun hc => ?_)
    · replace hT := hT.1 hc
      refine lv_iload_n hx hb dX0_mender_25 rfl (lv_at hl 2 rfl) ?_
      refine lv_iconst (v := 1) hx hb dX0_mender_26 (by decide) ?_
      refine lv_icmp_ne (tgt := 41) hx hb dX0_mender_27 (by decide) (fun hc => ?_) (fun hc => ?_)
      · replace hT := hT.1 hc
        refine lv_iconst (v := -1) hx hb dX0_mender_41 (by decide) ?_
        exact hret _ _ _ _ _ _ _ _ hT hI hB dX0_mender_42
      · replace hT := hT.2 hc
        refine lv_aload_n hx hb dX0_mender_30 rfl (lv_at hl 0 rfl) ?_
        refine lv_iload_n hx hb dX0_mender_31 rfl (lv_at hl 1 rfl) ?_
        refine x_call (x_runV (i := 0) hC hI (xst hI (Nat.le_of_ble_eq_true rfl) sl_0) rfl (um_X0_menderOf l D dA ad Hs hC.2.2 σ1 x1 _ hT) (lw_V q1436 q1438 qs45 q158 q1439) 1 hdV_X0_menderOf ⟨rfl, rfl⟩ ⟨Nat.le_of_ble_eq_true rfl, Nat.le_of_ble_eq_true rfl⟩ rfl hl.1 rfl (Nat.le_of_ble_eq_true rfl) hB dX0_mender_32) hI (fun r4 σ3 H locs hT hI => ?_)
        refine W.eq (g2 := F0 m 35 ls [va_rf (rgR ad r4)]) rfl ?_
        obtain ⟨q5, hqe_q5, hT_q5⟩ := hT
        have hl_q5 := hl
        subst hqe_q5
        replace hT := hT_q5
        refine W.eq (g2 := F0 m 35 ls [.ref (ad q5)]) rfl ?_
        have hl : lv_has ls 3 [(0, .ref (ad 0)), (1, .int x1), (2, .int x2)] := hl_q5
        obtain ⟨hL, hT⟩ := hT
        refine xgN8_2 (i := q5) hC hI hL q936 (fun _ h => h) dX0_mender_35 ?_
        refine lv_goto (tgt := 42) hx hb dX0_mender_38 (by decide) ?_
        exact hret _ _ _ _ _ _ _ _ hT hI hB dX0_mender_42
    · replace hT := hT.2 hc
      refine lv_aload_n hx hb dX0_mender_14 rfl (lv_at hl 0 rfl) ?_
      refine lv_iload_n hx hb dX0_mender_15 rfl (lv_at hl 1 rfl) ?_
      refine x_call (x_runV (i := 0) hC hI (xst hI (Nat.le_of_ble_eq_true rfl) sl_0) rfl (um_X0_menderOf l D dA ad Hs hC.2.2 σ1 x1 _ hT) (lw_V q1436 q1438 qs45 q158 q1439) 1 hdV_X0_menderOf ⟨rfl, rfl⟩ ⟨Nat.le_of_ble_eq_true rfl, Nat.le_of_ble_eq_true rfl⟩ rfl hl.1 rfl (Nat.le_of_ble_eq_true rfl) hB dX0_mender_16) hI (fun r7 σ6 H locs hT hI => ?_)
      refine W.eq (g2 := F0 m 19 ls [va_rf (rgR ad r7)]) rfl ?_
      obtain ⟨q8, hqe_q8, hT_q8⟩ := hT
      have hl_q8 := hl
      subst hqe_q8
      replace hT := hT_q8
      refine W.eq (g2 := F0 m 19 ls [.ref (ad q8)]) rfl ?_
      have hl : lv_has ls 3 [(0, .ref (ad 0)), (1, .int x1), (2, .int x2)] := hl_q8
      obtain ⟨hL, hT⟩ := hT
      refine xgN8_1 (i := q8) hC hI hL q933 (fun _ h => h) dX0_mender_19 ?_
      refine lv_goto (tgt := 42) hx hb dX0_mender_22 (by decide) ?_
      exact hret _ _ _ _ _ _ _ _ hT hI hB dX0_mender_42
  · replace hT := hT.2 hc
    refine lv_iconst (v := -1) hx hb dX0_mender_8 (by decide) ?_
    exact hret _ _ _ _ _ _ _ _ hT hI hB dX0_mender_9
set_option maxHeartbeats 4000000 in
set_option maxRecDepth 100000 in
theorem um_X5_sum (l : Launch) (D : va_G) (dA : Nat → ClassId) (ad : Nat → Nat) (Hs : Heap) (hA : cAd ad 1296 Hs.size) (σ : CS) (ob : Nat) (x1 : Nat) (x2 : Int32) (x3 : Int32) (hp : stOK ob) (K : Int64 → CS → Prop) (hT : U_X5_sum σ ob x1 x2 x3 K) : Met l yX5_sum (ws_ yX5_sum cX5_sum 4 (some .long)) ({ frames := 901, cells := 0, slots := 0, locals := 18527 }) (va_Pc [.ref (ad ob), .ref (ad x1), .int x2, .int x3] (cU D dA ad 1296 Hs σ)) (xQ rvL K (cU D dA ad 1296 Hs) (cA ad)) 0 0 (cA ad) := by
  refine xm_l hA (by decide) rfl (Nat.le_of_ble_eq_true rfl) ?_
  intro p e s m args below meth c Q hC hN hret hI ls hl
  have hx := hC.1.1
  have hb := hC.1.2.1
  have hB : 0 ≤ 0 ∧ 0 ≤ 0 := ⟨Nat.zero_le _, Nat.zero_le _⟩
  have hl : lv_has ls 4 [(0, .ref (ad ob)), (1, .ref (ad x1)), (2, .int x2), (3, .int x3)] := hl
  unfold U_X5_sum at hT
  refine lv_aload_n hx hb dX5_sum_0 rfl (lv_at hl 0 rfl) ?_
  refine lv_iload_n hx hb dX5_sum_1 rfl (lv_at hl 2 rfl) ?_
  refine x_call (x_runV (i := ob) hC hI (xst hI (st_lt hp (d := 0) (by decide)) (sls_0 hp)) rfl (um_X5_asks l D dA ad Hs hC.2.2 σ ob x2 hp _ hT) (lw_V q1286 q1288 qs38 q169 q1289) 1 hdV_X5_asks ⟨rfl, rfl⟩ ⟨Nat.le_of_ble_eq_true rfl, Nat.le_of_ble_eq_true rfl⟩ rfl hl.1 rfl (Nat.le_of_ble_eq_true rfl) hB dX5_sum_2) hI (fun _ σ1 H locs hT hI => ?_)
  refine W.eq (g2 := F0 m 5 ls []) rfl ?_
  refine lv_aload_n hx hb dX5_sum_5 rfl (lv_at hl 0 rfl) ?_
  refine xg5_12 (i := ob) hC hI (xst hI (st_lt hp (d := 0) (by decide)) (sls_0 hp)) q434 (fun _ h => h) dX5_sum_6 ?_
  refine xgN0_6 (i := 0) hC hI (xst hI (Nat.le_of_ble_eq_true rfl) sl_0) q477 (fun _ h => h) dX5_sum_9 ?_
  refine xgN4_0 (i := 11) hC hI (xst hI (Nat.le_of_ble_eq_true rfl) sl_11) q397 (fun _ h => h) dX5_sum_12 ?_
  refine lv_bipush (v := 7) hx hb dX5_sum_15 (by decide) ?_
  refine lv_iload_n hx hb dX5_sum_17 rfl (lv_at hl 3 rfl) ?_
  refine lv_iconst (v := -1) hx hb dX5_sum_18 (by decide) ?_
  refine lv_icmp_ne (tgt := 26) hx hb dX5_sum_19 (by decide) (fun hc => ?_) (fun hc => ?_)
  · replace hT := hT.1 hc
    refine lv_aload_n hx hb dX5_sum_26 rfl (lv_at hl 0 rfl) ?_
    refine xg5_12 (i := ob) hC hI (xst hI (st_lt hp (d := 0) (by decide)) (sls_0 hp)) q434 (fun _ h => h) dX5_sum_27 ?_
    refine lv_iload_n hx hb dX5_sum_30 rfl (lv_at hl 3 rfl) ?_
    refine x_call (x_runVN (i := 0) hC hI (xst hI (Nat.le_of_ble_eq_true rfl) sl_0) rfl (um_X0_menderOf l D dA ad Hs hC.2.2 σ1 x3 _ hT) q1454 q1438 qs45 q158 q1439 1 hdS_X0_menderOf ⟨rfl, rfl⟩ ⟨Nat.le_of_ble_eq_true rfl, Nat.le_of_ble_eq_true rfl⟩ rfl hl.1 rfl (Nat.le_of_ble_eq_true rfl) hB dX5_sum_31) hI (fun r4 σ3 H locs hT hI => ?_)
    refine W.eq (g2 := F0 m 34 ls [va_rf (rgR ad r4), .int 7, .ref (ad 12)]) rfl ?_
    obtain ⟨q5, hqe_q5, hT_q5⟩ := hT
    have hl_q5 := hl
    subst hqe_q5
    replace hT := hT_q5
    refine W.eq (g2 := F0 m 34 ls [.ref (ad q5), .int 7, .ref (ad 12)]) rfl ?_
    have hl : lv_has ls 4 [(0, .ref (ad ob)), (1, .ref (ad x1)), (2, .int x2), (3, .int x3)] := hl_q5
    obtain ⟨hL, hT⟩ := hT
    refine xgN8_1 (i := q5) hC hI hL q932 (fun _ h => h) dX5_sum_34 ?_
    refine lv_i2l hx hb dX5_sum_37 rfl ?_
    refine x_last (i := 12) hC hI (Nat.lt_of_lt_of_le (show _ < 1296 from (Nat.le_of_ble_eq_true rfl)) (by decide)) (xst hI (Nat.le_of_ble_eq_true rfl) sl_12) hT dX5_sum_38 (fun σ6 H locs hT hI => ?_)
    refine lv_aload_n hx hb dX5_sum_39 rfl (lv_at hl 1 rfl) ?_
    refine lv_aload_n hx hb dX5_sum_40 rfl (lv_at hl 0 rfl) ?_
    refine xg5_12 (i := ob) hC hI (xst hI (st_lt hp (d := 0) (by decide)) (sls_0 hp)) q434 (fun _ h => h) dX5_sum_41 ?_
    refine xgN0_6 (i := 0) hC hI (xst hI (Nat.le_of_ble_eq_true rfl) sl_0) q477 (fun _ h => h) dX5_sum_44 ?_
    refine xc_at hC hI (ev_V l D dA ad Hs hC.2.2 100) (Or.inl rfl) hT q1455 q1319 ⟨Nat.le_of_ble_eq_true rfl, Nat.le_of_ble_eq_true rfl⟩ hl.1 (Nat.le_of_ble_eq_true rfl) hB dX5_sum_47 (fun r8 σ7 H locs hT hI => ?_)
    exact hret _ _ _ _ _ _ _ _ hT hI hB dX5_sum_50
  · replace hT := hT.2 hc
    refine lv_lconst (v := 0) hx hb dX5_sum_22 (by decide) ?_
    refine lv_goto (tgt := 38) hx hb dX5_sum_23 (by decide) ?_
    refine x_last (i := 12) hC hI (Nat.lt_of_lt_of_le (show _ < 1296 from (Nat.le_of_ble_eq_true rfl)) (by decide)) (xst hI (Nat.le_of_ble_eq_true rfl) sl_12) hT dX5_sum_38 (fun σ9 H locs hT hI => ?_)
    refine lv_aload_n hx hb dX5_sum_39 rfl (lv_at hl 1 rfl) ?_
    refine lv_aload_n hx hb dX5_sum_40 rfl (lv_at hl 0 rfl) ?_
    refine xg5_12 (i := ob) hC hI (xst hI (st_lt hp (d := 0) (by decide)) (sls_0 hp)) q434 (fun _ h => h) dX5_sum_41 ?_
    refine xgN0_6 (i := 0) hC hI (xst hI (Nat.le_of_ble_eq_true rfl) sl_0) q477 (fun _ h => h) dX5_sum_44 ?_
    refine xc_at hC hI (ev_V l D dA ad Hs hC.2.2 100) (Or.inl rfl) hT q1455 q1319 ⟨Nat.le_of_ble_eq_true rfl, Nat.le_of_ble_eq_true rfl⟩ hl.1 (Nat.le_of_ble_eq_true rfl) hB dX5_sum_47 (fun r11 σ10 H locs hT hI => ?_)
    exact hret _ _ _ _ _ _ _ _ hT hI hB dX5_sum_50
set_option maxHeartbeats 4000000 in
set_option maxRecDepth 100000 in
theorem um_X5_takes (l : Launch) (D : va_G) (dA : Nat → ClassId) (ad : Nat → Nat) (Hs : Heap) (hA : cAd ad 1296 Hs.size) (σ : CS) (ob : Nat) (x1 : Int32) (x2 : Int32) (hp : stOK ob) (K : Int32 → CS → Prop) (hT : U_X5_takes σ ob x1 x2 K) : Met l yX5_takes (ws_ yX5_takes cX5_takes 3 (some .int)) ({ frames := 902, cells := 0, slots := 0, locals := 18550 }) (va_Pc [.ref (ad ob), .int x1, .int x2] (cU D dA ad 1296 Hs σ)) (xQ rvI K (cU D dA ad 1296 Hs) (cA ad)) 0 0 (cA ad) := by
  refine xm_i hA (by decide) rfl (Nat.le_of_ble_eq_true rfl) ?_
  intro p e s m args below meth c Q hC hN hret hI ls hl
  have hx := hC.1.1
  have hb := hC.1.2.1
  have hB : 0 ≤ 0 ∧ 0 ≤ 0 := ⟨Nat.zero_le _, Nat.zero_le _⟩
  have hl : lv_has ls 3 [(0, .ref (ad ob)), (1, .int x1), (2, .int x2)] := hl
  unfold U_X5_takes at hT
  refine lv_aload_n hx hb dX5_takes_0 rfl (lv_at hl 0 rfl) ?_
  refine xg5_12 (i := ob) hC hI (xst hI (st_lt hp (d := 0) (by decide)) (sls_0 hp)) q434 (fun _ h => h) dX5_takes_1 ?_
  refine xgN0_0 (i := 0) hC hI (xst hI (Nat.le_of_ble_eq_true rfl) sl_0) q470 (fun _ h => h) dX5_takes_4 ?_
  obtain ⟨q1, hq2, hT⟩ := hT
  refine W.eq (congrArg (fun z => F0 m 7 ls [z]) (xrq hq2)) ?_
  obtain ⟨hL, hT⟩ := hT
  refine xgN1_7 (i := q1) hC hI hL q258 (fun _ h => h) dX5_takes_7 ?_
  refine x_ifnonnull (tgt := 17) hx hb dX5_takes_10 (by decide) (fun hc => ?_) (fun hc => ?_)
  · replace hT := hT.1 hc
    refine lv_lconst (v := 1) hx hb dX5_takes_17 (by decide) ?_
    refine lv_ldc2 hx hb hC.1.2.2.2.1 (hC.1.2.2.2.2 _ q1449) dX5_takes_18 ?_
    refine lv_aload_n hx hb dX5_takes_21 rfl (lv_at hl 0 rfl) ?_
    refine lv_aload_n hx hb dX5_takes_22 rfl (lv_at hl 0 rfl) ?_
    refine xg5_12 (i := ob) hC hI (xst hI (st_lt hp (d := 0) (by decide)) (sls_0 hp)) q434 (fun _ h => h) dX5_takes_23 ?_
    refine xgN0_0 (i := 0) hC hI (xst hI (Nat.le_of_ble_eq_true rfl) sl_0) q470 (fun _ h => h) dX5_takes_26 ?_
    obtain ⟨q3, hq4, hT⟩ := hT
    refine W.eq (congrArg (fun z => F0 m 29 ls [z, .ref (ad ob), .long 99, .long 1]) (xrq hq4)) ?_
    obtain ⟨hL, hT⟩ := hT
    refine xgN1_7 (i := q3) hC hI hL q258 (fun _ h => h) dX5_takes_29 ?_
    refine lv_iload_n hx hb dX5_takes_32 rfl (lv_at hl 1 rfl) ?_
    refine lv_iload_n hx hb dX5_takes_33 rfl (lv_at hl 2 rfl) ?_
    obtain ⟨q5, hq6, hT⟩ := hT
    refine W.eq (congrArg (fun z => F0 m 34 ls [.int x2, .int x1, z, .ref (ad ob), .long 99, .long 1]) (xrq hq6)) ?_
    refine x_call (x_runV (i := ob) hC hI (xst hI (st_lt hp (d := 0) (by decide)) (sls_0 hp)) rfl (um_X5_sum l D dA ad Hs hC.2.2 σ ob q5 x1 x2 hp _ hT) (lw_V q1450 q1452 qs46 q169 q1453) 3 hdV_X5_sum ⟨rfl, rfl⟩ ⟨Nat.le_of_ble_eq_true rfl, Nat.le_of_ble_eq_true rfl⟩ rfl hl.1 rfl (Nat.le_of_ble_eq_true rfl) hB dX5_takes_34) hI (fun r8 σ7 H locs hT hI => ?_)
    refine W.eq (g2 := F0 m 37 ls [.long r8, .long 99, .long 1]) rfl ?_
    refine x_call (x_runS hC hI (um_J12_min_2 l D dA ad 1296 Hs hC.2.2 σ7 99 r8 _ hT) (lw_S q1456 q1329 q179 q1330) 2 hdS_J12_min_2 ⟨rfl, rfl⟩ ⟨Nat.le_of_ble_eq_true rfl, Nat.le_of_ble_eq_true rfl⟩ rfl hl.1 rfl (Nat.le_of_ble_eq_true rfl) hB dX5_takes_37) hI (fun r10 σ9 H locs hT hI => ?_)
    refine W.eq (g2 := F0 m 40 ls [.long r10, .long 1]) rfl ?_
    refine x_call (x_runS hC hI (um_J12_max_2 l D dA ad 1296 Hs hC.2.2 σ9 1 r10 _ hT) (lw_S q1457 q1332 q179 q1333) 2 hdS_J12_max_2 ⟨rfl, rfl⟩ ⟨Nat.le_of_ble_eq_true rfl, Nat.le_of_ble_eq_true rfl⟩ rfl hl.1 rfl (Nat.le_of_ble_eq_true rfl) hB dX5_takes_40) hI (fun r12 σ11 H locs hT hI => ?_)
    refine W.eq (g2 := F0 m 43 ls [.long r12]) rfl ?_
    refine lv_l2i hx hb dX5_takes_43 rfl ?_
    exact hret _ _ _ _ _ _ _ _ hT hI hB dX5_takes_44
  · replace hT := hT.2 hc
    refine lv_iconst (v := 4) hx hb dX5_takes_13 (by decide) ?_
    refine lv_goto (tgt := 44) hx hb dX5_takes_14 (by decide) ?_
    exact hret _ _ _ _ _ _ _ _ hT hI hB dX5_takes_44
set_option maxHeartbeats 4000000 in
set_option maxRecDepth 100000 in
theorem um_X0_takes (l : Launch) (D : va_G) (dA : Nat → ClassId) (ad : Nat → Nat) (Hs : Heap) (hA : cAd ad 1296 Hs.size) (σ : CS) (x1 : Int32) (x2 : Int32) (K : Int32 → CS → Prop) (hT : U_X0_takes σ x1 x2 K) : Met l yX0_takes (ws_ yX0_takes cX0_takes 3 (some .int)) ({ frames := 903, cells := 0, slots := 0, locals := 18572 }) (va_Pc [.ref (ad 0), .int x1, .int x2] (cU D dA ad 1296 Hs σ)) (xQ rvI K (cU D dA ad 1296 Hs) (cA ad)) 0 0 (cA ad) := by
  refine xm_i hA (by decide) rfl (Nat.le_of_ble_eq_true rfl) ?_
  intro p e s m args below meth c Q hC hN hret hI ls hl
  have hx := hC.1.1
  have hb := hC.1.2.1
  have hB : 0 ≤ 0 ∧ 0 ≤ 0 := ⟨Nat.zero_le _, Nat.zero_le _⟩
  have hl : lv_has ls 3 [(0, .ref (ad 0)), (1, .int x1), (2, .int x2)] := hl
  unfold U_X0_takes at hT
  refine lv_aload_n hx hb dX0_takes_0 rfl (lv_at hl 0 rfl) ?_
  refine lv_iload_n hx hb dX0_takes_1 rfl (lv_at hl 1 rfl) ?_
  refine x_call (x_runV (i := 0) hC hI (xst hI (Nat.le_of_ble_eq_true rfl) sl_0) rfl (um_X0_isThing l D dA ad Hs hC.2.2 σ x1 _ hT) (lw_V q1423 q1425 qs43 q158 q1426) 1 hdV_X0_isThing ⟨rfl, rfl⟩ ⟨Nat.le_of_ble_eq_true rfl, Nat.le_of_ble_eq_true rfl⟩ rfl hl.1 rfl (Nat.le_of_ble_eq_true rfl) hB dX0_takes_2) hI (fun r2 σ1 H locs hT hI => ?_)
  refine W.eq (g2 := F0 m 5 ls [.int r2]) rfl ?_
  refine lv_if_eq (tgt := 28) hx hb dX0_takes_5 (by decide) (fun hc => ?_) (fun hc => ?_)
  · replace hT := hT.1 hc
    refine lv_iconst (v := -1) hx hb dX0_takes_28 (by decide) ?_
    exact hret _ _ _ _ _ _ _ _ hT hI hB dX0_takes_29
  · replace hT := hT.2 hc
    refine lv_aload_n hx hb dX0_takes_8 rfl (lv_at hl 0 rfl) ?_
    refine lv_iload_n hx hb dX0_takes_9 rfl (lv_at hl 2 rfl) ?_
    refine x_call (x_runV (i := 0) hC hI (xst hI (Nat.le_of_ble_eq_true rfl) sl_0) rfl (um_X0_isMender l D dA ad Hs hC.2.2 σ1 x2 _ hT) (lw_V q1432 q1434 qs44 q158 q1435) 1 hdV_X0_isMender ⟨rfl, rfl⟩ ⟨Nat.le_of_ble_eq_true rfl, Nat.le_of_ble_eq_true rfl⟩ rfl hl.1 rfl (Nat.le_of_ble_eq_true rfl) hB dX0_takes_10) hI (fun r4 σ3 H locs hT hI => ?_)
    refine W.eq (g2 := F0 m 13 ls [.int r4]) rfl ?_
    refine lv_if_eq (tgt := 28) hx hb dX0_takes_13 (by decide) (fun hc => ?_) (fun hc => ?_)
    · replace hT := hT.1 hc
      refine lv_iconst (v := -1) hx hb dX0_takes_28 (by decide) ?_
      exact hret _ _ _ _ _ _ _ _ hT hI hB dX0_takes_29
    · replace hT := hT.2 hc
      refine lv_aload_n hx hb dX0_takes_16 rfl (lv_at hl 0 rfl) ?_
      refine xg0_9 (i := 0) hC hI (xst hI (Nat.le_of_ble_eq_true rfl) sl_0) q481 (fun _ h => h) dX0_takes_17 ?_
      refine lv_iload_n hx hb dX0_takes_20 rfl (lv_at hl 1 rfl) ?_
      refine lv_iload_n hx hb dX0_takes_21 rfl (lv_at hl 2 rfl) ?_
      refine x_call (x_runV (i := 16) hC hI (xst hI (st_lt (Or.inl rfl : stOK 16) (d := 0) (by decide)) (sls_0 (Or.inl rfl : stOK 16))) rfl (um_X5_takes l D dA ad Hs hC.2.2 σ3 16 x1 x2 (Or.inl rfl : stOK 16) _ hT) (lw_V q1445 q1446 q1447 q169 q1448) 2 hdV_X5_takes ⟨rfl, rfl⟩ ⟨Nat.le_of_ble_eq_true rfl, Nat.le_of_ble_eq_true rfl⟩ rfl hl.1 rfl (Nat.le_of_ble_eq_true rfl) hB dX0_takes_22) hI (fun r6 σ5 H locs hT hI => ?_)
      refine W.eq (g2 := F0 m 25 ls [.int r6]) rfl ?_
      refine lv_goto (tgt := 29) hx hb dX0_takes_25 (by decide) ?_
      exact hret _ _ _ _ _ _ _ _ hT hI hB dX0_takes_29
set_option maxHeartbeats 4000000 in
set_option maxRecDepth 100000 in
theorem um_X5_fine (l : Launch) (D : va_G) (dA : Nat → ClassId) (ad : Nat → Nat) (Hs : Heap) (hA : cAd ad 1296 Hs.size) (σ : CS) (ob : Nat) (x1 : Int32) (x2 : Int32) (hp : stOK ob) (K : Int32 → CS → Prop) (hT : U_X5_fine σ ob x1 x2 K) : Met l yX5_fine (ws_ yX5_fine cX5_fine 3 (some .int)) ({ frames := 902, cells := 0, slots := 0, locals := 18550 }) (va_Pc [.ref (ad ob), .int x1, .int x2] (cU D dA ad 1296 Hs σ)) (xQ rvI K (cU D dA ad 1296 Hs) (cA ad)) 0 0 (cA ad) := by
  refine xm_i hA (by decide) rfl (Nat.le_of_ble_eq_true rfl) ?_
  intro p e s m args below meth c Q hC hN hret hI ls hl
  have hx := hC.1.1
  have hb := hC.1.2.1
  have hB : 0 ≤ 0 ∧ 0 ≤ 0 := ⟨Nat.zero_le _, Nat.zero_le _⟩
  have hl : lv_has ls 3 [(0, .ref (ad ob)), (1, .int x1), (2, .int x2)] := hl
  unfold U_X5_fine at hT
  refine lv_aload_n hx hb dX5_fine_0 rfl (lv_at hl 0 rfl) ?_
  refine xg5_12 (i := ob) hC hI (xst hI (st_lt hp (d := 0) (by decide)) (sls_0 hp)) q434 (fun _ h => h) dX5_fine_1 ?_
  refine xgN0_0 (i := 0) hC hI (xst hI (Nat.le_of_ble_eq_true rfl) sl_0) q470 (fun _ h => h) dX5_fine_4 ?_
  obtain ⟨q1, hq2, hT⟩ := hT
  refine W.eq (congrArg (fun z => F0 m 7 ls [z]) (xrq hq2)) ?_
  obtain ⟨hL, hT⟩ := hT
  refine xgN1_8 (i := q1) hC hI hL q260 (fun _ h => h) dX5_fine_7 ?_
  refine x_ifnonnull (tgt := 27) hx hb dX5_fine_10 (by decide) (fun hc => ?_) (fun hc => ?_)
  · replace hT := hT.1 hc
    refine lv_lconst (v := 0) hx hb dX5_fine_27 (by decide) ?_
    refine lv_ldc2 hx hb hC.1.2.2.2.1 (hC.1.2.2.2.2 _ q1449) dX5_fine_28 ?_
    refine lv_aload_n hx hb dX5_fine_31 rfl (lv_at hl 0 rfl) ?_
    refine lv_aload_n hx hb dX5_fine_32 rfl (lv_at hl 0 rfl) ?_
    refine xg5_12 (i := ob) hC hI (xst hI (st_lt hp (d := 0) (by decide)) (sls_0 hp)) q434 (fun _ h => h) dX5_fine_33 ?_
    refine xgN0_0 (i := 0) hC hI (xst hI (Nat.le_of_ble_eq_true rfl) sl_0) q470 (fun _ h => h) dX5_fine_36 ?_
    obtain ⟨q3, hq4, hT⟩ := hT
    refine W.eq (congrArg (fun z => F0 m 39 ls [z, .ref (ad ob), .long 99, .long 0]) (xrq hq4)) ?_
    obtain ⟨hL, hT⟩ := hT
    refine xgN1_8 (i := q3) hC hI hL q260 (fun _ h => h) dX5_fine_39 ?_
    refine lv_iload_n hx hb dX5_fine_42 rfl (lv_at hl 1 rfl) ?_
    refine lv_iload_n hx hb dX5_fine_43 rfl (lv_at hl 2 rfl) ?_
    obtain ⟨q5, hq6, hT⟩ := hT
    refine W.eq (congrArg (fun z => F0 m 44 ls [.int x2, .int x1, z, .ref (ad ob), .long 99, .long 0]) (xrq hq6)) ?_
    refine x_call (x_runV (i := ob) hC hI (xst hI (st_lt hp (d := 0) (by decide)) (sls_0 hp)) rfl (um_X5_sum l D dA ad Hs hC.2.2 σ ob q5 x1 x2 hp _ hT) (lw_V q1450 q1452 qs46 q169 q1453) 3 hdV_X5_sum ⟨rfl, rfl⟩ ⟨Nat.le_of_ble_eq_true rfl, Nat.le_of_ble_eq_true rfl⟩ rfl hl.1 rfl (Nat.le_of_ble_eq_true rfl) hB dX5_fine_44) hI (fun r8 σ7 H locs hT hI => ?_)
    refine W.eq (g2 := F0 m 47 ls [.long r8, .long 99, .long 0]) rfl ?_
    refine x_call (x_runS hC hI (um_J12_min_2 l D dA ad 1296 Hs hC.2.2 σ7 99 r8 _ hT) (lw_S q1456 q1329 q179 q1330) 2 hdS_J12_min_2 ⟨rfl, rfl⟩ ⟨Nat.le_of_ble_eq_true rfl, Nat.le_of_ble_eq_true rfl⟩ rfl hl.1 rfl (Nat.le_of_ble_eq_true rfl) hB dX5_fine_47) hI (fun r10 σ9 H locs hT hI => ?_)
    refine W.eq (g2 := F0 m 50 ls [.long r10, .long 0]) rfl ?_
    refine x_call (x_runS hC hI (um_J12_max_2 l D dA ad 1296 Hs hC.2.2 σ9 0 r10 _ hT) (lw_S q1457 q1332 q179 q1333) 2 hdS_J12_max_2 ⟨rfl, rfl⟩ ⟨Nat.le_of_ble_eq_true rfl, Nat.le_of_ble_eq_true rfl⟩ rfl hl.1 rfl (Nat.le_of_ble_eq_true rfl) hB dX5_fine_50) hI (fun r12 σ11 H locs hT hI => ?_)
    refine W.eq (g2 := F0 m 53 ls [.long r12]) rfl ?_
    refine lv_l2i hx hb dX5_fine_53 rfl ?_
    exact hret _ _ _ _ _ _ _ _ hT hI hB dX5_fine_54
  · replace hT := hT.2 hc
    refine lv_aload_n hx hb dX5_fine_13 rfl (lv_at hl 0 rfl) ?_
    refine xg5_12 (i := ob) hC hI (xst hI (st_lt hp (d := 0) (by decide)) (sls_0 hp)) q434 (fun _ h => h) dX5_fine_14 ?_
    refine lv_iload_n hx hb dX5_fine_17 rfl (lv_at hl 2 rfl) ?_
    refine x_call (x_runVN (i := 0) hC hI (xst hI (Nat.le_of_ble_eq_true rfl) sl_0) rfl (um_X0_menderOf l D dA ad Hs hC.2.2 σ x2 _ hT) q1454 q1438 qs45 q158 q1439 1 hdS_X0_menderOf ⟨rfl, rfl⟩ ⟨Nat.le_of_ble_eq_true rfl, Nat.le_of_ble_eq_true rfl⟩ rfl hl.1 rfl (Nat.le_of_ble_eq_true rfl) hB dX5_fine_18) hI (fun r14 σ13 H locs hT hI => ?_)
    refine W.eq (g2 := F0 m 21 ls [va_rf (rgR ad r14)]) rfl ?_
    obtain ⟨q15, hqe_q15, hT_q15⟩ := hT
    have hl_q15 := hl
    subst hqe_q15
    replace hT := hT_q15
    refine W.eq (g2 := F0 m 21 ls [.ref (ad q15)]) rfl ?_
    have hl : lv_has ls 3 [(0, .ref (ad ob)), (1, .int x1), (2, .int x2)] := hl_q15
    obtain ⟨hL, hT⟩ := hT
    refine xgN8_1 (i := q15) hC hI hL q932 (fun _ h => h) dX5_fine_21 ?_
    refine lv_goto (tgt := 54) hx hb dX5_fine_24 (by decide) ?_
    exact hret _ _ _ _ _ _ _ _ hT hI hB dX5_fine_54
set_option maxHeartbeats 4000000 in
set_option maxRecDepth 100000 in
theorem um_X0_fine (l : Launch) (D : va_G) (dA : Nat → ClassId) (ad : Nat → Nat) (Hs : Heap) (hA : cAd ad 1296 Hs.size) (σ : CS) (x1 : Int32) (x2 : Int32) (K : Int32 → CS → Prop) (hT : U_X0_fine σ x1 x2 K) : Met l yX0_fine (ws_ yX0_fine cX0_fine 3 (some .int)) ({ frames := 903, cells := 0, slots := 0, locals := 18572 }) (va_Pc [.ref (ad 0), .int x1, .int x2] (cU D dA ad 1296 Hs σ)) (xQ rvI K (cU D dA ad 1296 Hs) (cA ad)) 0 0 (cA ad) := by
  refine xm_i hA (by decide) rfl (Nat.le_of_ble_eq_true rfl) ?_
  intro p e s m args below meth c Q hC hN hret hI ls hl
  have hx := hC.1.1
  have hb := hC.1.2.1
  have hB : 0 ≤ 0 ∧ 0 ≤ 0 := ⟨Nat.zero_le _, Nat.zero_le _⟩
  have hl : lv_has ls 3 [(0, .ref (ad 0)), (1, .int x1), (2, .int x2)] := hl
  unfold U_X0_fine at hT
  refine lv_aload_n hx hb dX0_fine_0 rfl (lv_at hl 0 rfl) ?_
  refine lv_iload_n hx hb dX0_fine_1 rfl (lv_at hl 1 rfl) ?_
  refine x_call (x_runV (i := 0) hC hI (xst hI (Nat.le_of_ble_eq_true rfl) sl_0) rfl (um_X0_isThing l D dA ad Hs hC.2.2 σ x1 _ hT) (lw_V q1423 q1425 qs43 q158 q1426) 1 hdV_X0_isThing ⟨rfl, rfl⟩ ⟨Nat.le_of_ble_eq_true rfl, Nat.le_of_ble_eq_true rfl⟩ rfl hl.1 rfl (Nat.le_of_ble_eq_true rfl) hB dX0_fine_2) hI (fun r2 σ1 H locs hT hI => ?_)
  refine W.eq (g2 := F0 m 5 ls [.int r2]) rfl ?_
  refine lv_if_eq (tgt := 28) hx hb dX0_fine_5 (by decide) (fun hc => ?_) (fun hc => ?_)
  · replace hT := hT.1 hc
    refine lv_iconst (v := -1) hx hb dX0_fine_28 (by decide) ?_
    exact hret _ _ _ _ _ _ _ _ hT hI hB dX0_fine_29
  · replace hT := hT.2 hc
    refine lv_aload_n hx hb dX0_fine_8 rfl (lv_at hl 0 rfl) ?_
    refine lv_iload_n hx hb dX0_fine_9 rfl (lv_at hl 2 rfl) ?_
    refine x_call (x_runV (i := 0) hC hI (xst hI (Nat.le_of_ble_eq_true rfl) sl_0) rfl (um_X0_isMender l D dA ad Hs hC.2.2 σ1 x2 _ hT) (lw_V q1432 q1434 qs44 q158 q1435) 1 hdV_X0_isMender ⟨rfl, rfl⟩ ⟨Nat.le_of_ble_eq_true rfl, Nat.le_of_ble_eq_true rfl⟩ rfl hl.1 rfl (Nat.le_of_ble_eq_true rfl) hB dX0_fine_10) hI (fun r4 σ3 H locs hT hI => ?_)
    refine W.eq (g2 := F0 m 13 ls [.int r4]) rfl ?_
    refine lv_if_eq (tgt := 28) hx hb dX0_fine_13 (by decide) (fun hc => ?_) (fun hc => ?_)
    · replace hT := hT.1 hc
      refine lv_iconst (v := -1) hx hb dX0_fine_28 (by decide) ?_
      exact hret _ _ _ _ _ _ _ _ hT hI hB dX0_fine_29
    · replace hT := hT.2 hc
      refine lv_aload_n hx hb dX0_fine_16 rfl (lv_at hl 0 rfl) ?_
      refine xg0_9 (i := 0) hC hI (xst hI (Nat.le_of_ble_eq_true rfl) sl_0) q481 (fun _ h => h) dX0_fine_17 ?_
      refine lv_iload_n hx hb dX0_fine_20 rfl (lv_at hl 1 rfl) ?_
      refine lv_iload_n hx hb dX0_fine_21 rfl (lv_at hl 2 rfl) ?_
      refine x_call (x_runV (i := 16) hC hI (xst hI (st_lt (Or.inl rfl : stOK 16) (d := 0) (by decide)) (sls_0 (Or.inl rfl : stOK 16))) rfl (um_X5_fine l D dA ad Hs hC.2.2 σ3 16 x1 x2 (Or.inl rfl : stOK 16) _ hT) (lw_V q1462 q1463 q1464 q169 q1465) 2 hdV_X5_fine ⟨rfl, rfl⟩ ⟨Nat.le_of_ble_eq_true rfl, Nat.le_of_ble_eq_true rfl⟩ rfl hl.1 rfl (Nat.le_of_ble_eq_true rfl) hB dX0_fine_22) hI (fun r6 σ5 H locs hT hI => ?_)
      refine W.eq (g2 := F0 m 25 ls [.int r6]) rfl ?_
      refine lv_goto (tgt := 29) hx hb dX0_fine_25 (by decide) ?_
      exact hret _ _ _ _ _ _ _ _ hT hI hB dX0_fine_29
set_option maxHeartbeats 4000000 in
set_option maxRecDepth 100000 in
theorem um_X0_isTrial (l : Launch) (D : va_G) (dA : Nat → ClassId) (ad : Nat → Nat) (Hs : Heap) (hA : cAd ad 1296 Hs.size) (σ : CS) (x1 : Int32) (K : Int32 → CS → Prop) (hT : U_X0_isTrial σ x1 K) : Met l yX0_isTrial (ws_ yX0_isTrial cX0_isTrial 2 (some .boolean)) ({ frames := 3, cells := 0, slots := 0, locals := 52 }) (va_Pc [.ref (ad 0), .int x1] (cU D dA ad 1296 Hs σ)) (xQ rvI K (cU D dA ad 1296 Hs) (cA ad)) 0 0 (cA ad) := by
  refine xm_z hA (by decide) rfl (Nat.le_of_ble_eq_true rfl) ?_
  intro p e s m args below meth c Q hC hN hret hI ls hl
  have hx := hC.1.1
  have hb := hC.1.2.1
  have hB : 0 ≤ 0 ∧ 0 ≤ 0 := ⟨Nat.zero_le _, Nat.zero_le _⟩
  have hl : lv_has ls 2 [(0, .ref (ad 0)), (1, .int x1)] := hl
  unfold U_X0_isTrial at hT
  refine lv_iload_n hx hb dX0_isTrial_0 rfl (lv_at hl 1 rfl) ?_
  refine lv_if_lt (tgt := 16) hx hb dX0_isTrial_1 (by decide) (fun hc => ?_) (fun hc => ?_)
  · replace hT := hT.1 hc
    refine lv_iconst (v := 0) hx hb dX0_isTrial_16 (by decide) ?_
    exact hret _ _ _ _ _ _ _ _ rfl hT hI hB dX0_isTrial_17
  · replace hT := hT.2 hc
    refine lv_iload_n hx hb dX0_isTrial_4 rfl (lv_at hl 1 rfl) ?_
    refine lv_aload_n hx hb dX0_isTrial_5 rfl (lv_at hl 0 rfl) ?_
    refine x_call (x_runV (i := 0) hC hI (xst hI (Nat.le_of_ble_eq_true rfl) sl_0) rfl (um_X0_trials l D dA ad Hs hC.2.2 σ _ hT) (lw_V q1259 q1261 qs36 q158 q1262) 0 hdV_X0_trials ⟨rfl, rfl⟩ ⟨Nat.le_of_ble_eq_true rfl, Nat.le_of_ble_eq_true rfl⟩ rfl hl.1 rfl (Nat.le_of_ble_eq_true rfl) hB dX0_isTrial_6) hI (fun r2 σ1 H locs hT hI => ?_)
    refine W.eq (g2 := F0 m 9 ls [.int r2, .int x1]) rfl ?_
    refine lv_icmp_ge (tgt := 16) hx hb dX0_isTrial_9 (by decide) (fun hc => ?_) (fun hc => ?_)
    · replace hT := hT.1 hc
      refine lv_iconst (v := 0) hx hb dX0_isTrial_16 (by decide) ?_
      exact hret _ _ _ _ _ _ _ _ rfl hT hI hB dX0_isTrial_17
    · replace hT := hT.2 hc
      refine lv_iconst (v := 1) hx hb dX0_isTrial_12 (by decide) ?_
      refine lv_goto (tgt := 17) hx hb dX0_isTrial_13 (by decide) ?_
      exact hret _ _ _ _ _ _ _ _ rfl hT hI hB dX0_isTrial_17
set_option maxHeartbeats 4000000 in
set_option maxRecDepth 100000 in
theorem um_X0_trial (l : Launch) (D : va_G) (dA : Nat → ClassId) (ad : Nat → Nat) (Hs : Heap) (hA : cAd ad 1296 Hs.size) (σ : CS) (x1 : Int32) (x2 : Int32) (K : Int32 → CS → Prop) (hT : U_X0_trial σ x1 x2 K) : Met l yX0_trial (ws_ yX0_trial cX0_trial 3 (some .int)) ({ frames := 908, cells := 0, slots := 0, locals := 18662 }) (va_Pc [.ref (ad 0), .int x1, .int x2] (cU D dA ad 1296 Hs σ)) (xQ rvI K (cU D dA ad 1296 Hs) (cA ad)) 0 0 (cA ad) := by
  refine xm_i hA (by decide) rfl (Nat.le_of_ble_eq_true rfl) ?_
  intro p e s m args below meth c Q hC hN hret hI ls hl
  have hx := hC.1.1
  have hb := hC.1.2.1
  have hB : 0 ≤ 0 ∧ 0 ≤ 0 := ⟨Nat.zero_le _, Nat.zero_le _⟩
  have hl : lv_has ls 3 [(0, .ref (ad 0)), (1, .int x1), (2, .int x2)] := hl
  unfold U_X0_trial at hT
  refine lv_aload_n hx hb dX0_trial_0 rfl (lv_at hl 0 rfl) ?_
  refine lv_iload_n hx hb dX0_trial_1 rfl (lv_at hl 1 rfl) ?_
  refine x_call (x_runV (i := 0) hC hI (xst hI (Nat.le_of_ble_eq_true rfl) sl_0) rfl (um_X0_isTrial l D dA ad Hs hC.2.2 σ x1 _ hT) (lw_V q1470 q1472 qs47 q158 q1473) 1 hdV_X0_isTrial ⟨rfl, rfl⟩ ⟨Nat.le_of_ble_eq_true rfl, Nat.le_of_ble_eq_true rfl⟩ rfl hl.1 rfl (Nat.le_of_ble_eq_true rfl) hB dX0_trial_2) hI (fun r2 σ1 H locs hT hI => ?_)
  refine W.eq (g2 := F0 m 5 ls [.int r2]) rfl ?_
  refine lv_if_eq (tgt := 33) hx hb dX0_trial_5 (by decide) (fun hc => ?_) (fun hc => ?_)
  · replace hT := hT.1 hc
    refine lv_iconst (v := -1) hx hb dX0_trial_33 (by decide) ?_
    exact hret _ _ _ _ _ _ _ _ hT hI hB dX0_trial_34
  · replace hT := hT.2 hc
    refine lv_aload_n hx hb dX0_trial_8 rfl (lv_at hl 0 rfl) ?_
    refine lv_iload_n hx hb dX0_trial_9 rfl (lv_at hl 2 rfl) ?_
    refine x_call (x_runV (i := 0) hC hI (xst hI (Nat.le_of_ble_eq_true rfl) sl_0) rfl (um_X0_isThing l D dA ad Hs hC.2.2 σ1 x2 _ hT) (lw_V q1423 q1425 qs43 q158 q1426) 1 hdV_X0_isThing ⟨rfl, rfl⟩ ⟨Nat.le_of_ble_eq_true rfl, Nat.le_of_ble_eq_true rfl⟩ rfl hl.1 rfl (Nat.le_of_ble_eq_true rfl) hB dX0_trial_10) hI (fun r4 σ3 H locs hT hI => ?_)
    refine W.eq (g2 := F0 m 13 ls [.int r4]) rfl ?_
    refine lv_if_eq (tgt := 33) hx hb dX0_trial_13 (by decide) (fun hc => ?_) (fun hc => ?_)
    · replace hT := hT.1 hc
      refine lv_iconst (v := -1) hx hb dX0_trial_33 (by decide) ?_
      exact hret _ _ _ _ _ _ _ _ hT hI hB dX0_trial_34
    · replace hT := hT.2 hc
      refine lv_aload_n hx hb dX0_trial_16 rfl (lv_at hl 0 rfl) ?_
      refine lv_iload_n hx hb dX0_trial_17 rfl (lv_at hl 1 rfl) ?_
      refine lv_iload_n hx hb dX0_trial_18 rfl (lv_at hl 2 rfl) ?_
      refine x_call (x_runV (i := 0) hC hI (xst hI (Nat.le_of_ble_eq_true rfl) sl_0) rfl (um_X0_holdsFor l D dA ad Hs hC.2.2 900 18500 _ _ (ev_V l D dA ad Hs hC.2.2 100) (ev_T l D dA ad Hs hC.2.2 100) σ3 x1 x2 _ hT) (lw_V q1353 q1355 qs41 q158 q1356) 2 hdV_X0_holdsFor ⟨rfl, rfl⟩ ⟨Nat.le_of_ble_eq_true rfl, Nat.le_of_ble_eq_true rfl⟩ rfl hl.1 rfl (Nat.le_of_ble_eq_true rfl) hB dX0_trial_19) hI (fun r6 σ5 H locs hT hI => ?_)
      refine W.eq (g2 := F0 m 22 ls [.int r6]) rfl ?_
      refine lv_if_eq (tgt := 29) hx hb dX0_trial_22 (by decide) (fun hc => ?_) (fun hc => ?_)
      · replace hT := hT.1 hc
        refine lv_iconst (v := 0) hx hb dX0_trial_29 (by decide) ?_
        refine lv_goto (tgt := 34) hx hb dX0_trial_30 (by decide) ?_
        exact hret _ _ _ _ _ _ _ _ hT hI hB dX0_trial_34
      · replace hT := hT.2 hc
        refine lv_iconst (v := 1) hx hb dX0_trial_25 (by decide) ?_
        refine lv_goto (tgt := 34) hx hb dX0_trial_26 (by decide) ?_
        exact hret _ _ _ _ _ _ _ _ hT hI hB dX0_trial_34
set_option maxHeartbeats 4000000 in
set_option maxRecDepth 100000 in
theorem um_X0_kept (l : Launch) (D : va_G) (dA : Nat → ClassId) (ad : Nat → Nat) (Hs : Heap) (hA : cAd ad 1296 Hs.size) (σ : CS) (x1 : Int32) (x2 : Int32) (K : Int32 → CS → Prop) (hT : U_X0_kept σ x1 x2 K) : Met l yX0_kept (ws_ yX0_kept cX0_kept 3 (some .int)) ({ frames := 2, cells := 0, slots := 0, locals := 34 }) (va_Pc [.ref (ad 0), .int x1, .int x2] (cU D dA ad 1296 Hs σ)) (xQ rvI K (cU D dA ad 1296 Hs) (cA ad)) 0 0 (cA ad) := by
  refine xm_i hA (by decide) rfl (Nat.le_of_ble_eq_true rfl) ?_
  intro p e s m args below meth c Q hC hN hret hI ls hl
  have hx := hC.1.1
  have hb := hC.1.2.1
  have hB : 0 ≤ 0 ∧ 0 ≤ 0 := ⟨Nat.zero_le _, Nat.zero_le _⟩
  have hl : lv_has ls 3 [(0, .ref (ad 0)), (1, .int x1), (2, .int x2)] := hl
  unfold U_X0_kept at hT
  refine lv_iload_n hx hb dX0_kept_0 rfl (lv_at hl 1 rfl) ?_
  refine lv_iconst (v := 0) hx hb dX0_kept_1 (by decide) ?_
  refine lv_aload_n hx hb dX0_kept_2 rfl (lv_at hl 0 rfl) ?_
  refine xg0_9 (i := 0) hC hI (xst hI (Nat.le_of_ble_eq_true rfl) sl_0) q481 (fun _ h => h) dX0_kept_3 ?_
  refine xgN5_1 (i := 16) hC hI (xst hI (st_lt (Or.inl rfl : stOK 16) (d := 0) (by decide)) (sls_0 (Or.inl rfl : stOK 16))) q414 (fun _ h => h) dX0_kept_6 ?_
  refine lv_iconst (v := 1) hx hb dX0_kept_9 (by decide) ?_
  refine lv_isub hx hb dX0_kept_10 ?_
  refine x_call (x_runS hC hI (um_X0_is l D dA ad 1296 Hs hC.2.2 σ x1 0 ((gI σ 16 1) - 1) _ hT) (lw_S q1398 q815 q158 q816) 3 hdS_X0_is ⟨rfl, rfl⟩ ⟨Nat.le_of_ble_eq_true rfl, Nat.le_of_ble_eq_true rfl⟩ rfl hl.1 rfl (Nat.le_of_ble_eq_true rfl) hB dX0_kept_11) hI (fun r2 σ1 H locs hT hI => ?_)
  refine W.eq (g2 := F0 m 14 ls [.int r2]) rfl ?_
  refine lv_if_eq (tgt := 40) hx hb dX0_kept_14 (by decide) (fun hc => ?_) (fun hc => ?_)
  · replace hT := hT.1 hc
    refine lv_iconst (v := -1) hx hb dX0_kept_40 (by decide) ?_
    exact hret _ _ _ _ _ _ _ _ hT hI hB dX0_kept_41
  · replace hT := hT.2 hc
    refine lv_iload_n hx hb dX0_kept_17 rfl (lv_at hl 2 rfl) ?_
    refine lv_iconst (v := 0) hx hb dX0_kept_18 (by decide) ?_
    refine lv_iconst (v := 2) hx hb dX0_kept_19 (by decide) ?_
    refine x_call (x_runS hC hI (um_X0_is l D dA ad 1296 Hs hC.2.2 σ1 x2 0 2 _ hT) (lw_S q1398 q815 q158 q816) 3 hdS_X0_is ⟨rfl, rfl⟩ ⟨Nat.le_of_ble_eq_true rfl, Nat.le_of_ble_eq_true rfl⟩ rfl hl.1 rfl (Nat.le_of_ble_eq_true rfl) hB dX0_kept_20) hI (fun r4 σ3 H locs hT hI => ?_)
    refine W.eq (g2 := F0 m 23 ls [.int r4]) rfl ?_
    refine lv_if_eq (tgt := 40) hx hb dX0_kept_23 (by decide) (fun hc => ?_) (fun hc => ?_)
    · replace hT := hT.1 hc
      refine lv_iconst (v := -1) hx hb dX0_kept_40 (by decide) ?_
      exact hret _ _ _ _ _ _ _ _ hT hI hB dX0_kept_41
    · replace hT := hT.2 hc
      refine lv_aload_n hx hb dX0_kept_26 rfl (lv_at hl 0 rfl) ?_
      refine xg0_9 (i := 0) hC hI (xst hI (Nat.le_of_ble_eq_true rfl) sl_0) q481 (fun _ h => h) dX0_kept_27 ?_
      refine xgN5_7 (i := 16) hC hI (xst hI (st_lt (Or.inl rfl : stOK 16) (d := 0) (by decide)) (sls_0 (Or.inl rfl : stOK 16))) q426 (fun _ h => h) dX0_kept_30 ?_
      refine lv_iload_n hx hb dX0_kept_33 rfl (lv_at hl 1 rfl) ?_
      refine x_aald (i := 22) hC hI (xst hI (st_lt (Or.inl rfl : stOK 16) (d := 6) (by decide)) (sls_6 (Or.inl rfl : stOK 16))) rfl rfl (by decide) hT dX0_kept_34 (fun hT => ?_)
      refine lv_iload_n hx hb dX0_kept_35 rfl (lv_at hl 2 rfl) ?_
      obtain ⟨q5, hq6, hT⟩ := hT
      refine W.eq (congrArg (fun z => F0 m 36 ls [.int x2, z]) (xrq hq6)) ?_
      obtain ⟨hL, hT⟩ := hT
      refine x_iald (i := q5) hC hI hL hT dX0_kept_36 (fun hT => ?_)
      refine lv_goto (tgt := 41) hx hb dX0_kept_37 (by decide) ?_
      exact hret _ _ _ _ _ _ _ _ hT hI hB dX0_kept_41
set_option maxHeartbeats 4000000 in
set_option maxRecDepth 100000 in
theorem um_X0_isAhead (l : Launch) (D : va_G) (dA : Nat → ClassId) (ad : Nat → Nat) (Hs : Heap) (hA : cAd ad 1296 Hs.size) (σ : CS) (x1 : Int32) (x2 : Int32) (x3 : Int32) (K : Int32 → CS → Prop) (hT : U_X0_isAhead σ x1 x2 x3 K) : Met l yX0_isAhead (ws_ yX0_isAhead cX0_isAhead 4 (some .boolean)) ({ frames := 2, cells := 0, slots := 0, locals := 34 }) (va_Pc [.ref (ad 0), .int x1, .int x2, .int x3] (cU D dA ad 1296 Hs σ)) (xQ rvI K (cU D dA ad 1296 Hs) (cA ad)) 0 0 (cA ad) := by
  refine xm_z hA (by decide) rfl (Nat.le_of_ble_eq_true rfl) ?_
  intro p e s m args below meth c Q hC hN hret hI ls hl
  have hx := hC.1.1
  have hb := hC.1.2.1
  have hB : 0 ≤ 0 ∧ 0 ≤ 0 := ⟨Nat.zero_le _, Nat.zero_le _⟩
  have hl : lv_has ls 4 [(0, .ref (ad 0)), (1, .int x1), (2, .int x2), (3, .int x3)] := hl
  unfold U_X0_isAhead at hT
  refine lv_iload_n hx hb dX0_isAhead_0 rfl (lv_at hl 1 rfl) ?_
  refine lv_iload_n hx hb dX0_isAhead_1 rfl (lv_at hl 2 rfl) ?_
  refine lv_iload_n hx hb dX0_isAhead_2 rfl (lv_at hl 3 rfl) ?_
  refine x_call (x_runS hC hI (um_X0_is l D dA ad 1296 Hs hC.2.2 σ x1 x2 x3 _ hT) (lw_S q1398 q815 q158 q816) 3 hdS_X0_is ⟨rfl, rfl⟩ ⟨Nat.le_of_ble_eq_true rfl, Nat.le_of_ble_eq_true rfl⟩ rfl hl.1 rfl (Nat.le_of_ble_eq_true rfl) hB dX0_isAhead_3) hI (fun r2 σ1 H locs hT hI => ?_)
  refine W.eq (g2 := F0 m 6 ls [.int r2]) rfl ?_
  refine lv_if_eq (tgt := 28) hx hb dX0_isAhead_6 (by decide) (fun hc => ?_) (fun hc => ?_)
  · replace hT := hT.1 hc
    refine lv_iconst (v := 0) hx hb dX0_isAhead_28 (by decide) ?_
    exact hret _ _ _ _ _ _ _ _ rfl hT hI hB dX0_isAhead_29
  · replace hT := hT.2 hc
    refine lv_aload_n hx hb dX0_isAhead_9 rfl (lv_at hl 0 rfl) ?_
    refine xg0_9 (i := 0) hC hI (xst hI (Nat.le_of_ble_eq_true rfl) sl_0) q481 (fun _ h => h) dX0_isAhead_10 ?_
    refine xgN5_0 (i := 16) hC hI (xst hI (st_lt (Or.inl rfl : stOK 16) (d := 0) (by decide)) (sls_0 (Or.inl rfl : stOK 16))) q412 (fun _ h => h) dX0_isAhead_13 ?_
    refine lv_iload_n hx hb dX0_isAhead_16 rfl (lv_at hl 1 rfl) ?_
    refine lv_iadd hx hb dX0_isAhead_17 ?_
    refine lv_sipush (v := 999) hx hb dX0_isAhead_18 (by decide) ?_
    refine lv_icmp_gt (tgt := 28) hx hb dX0_isAhead_21 (by decide) (fun hc => ?_) (fun hc => ?_)
    · replace hT := hT.1 hc
      refine lv_iconst (v := 0) hx hb dX0_isAhead_28 (by decide) ?_
      exact hret _ _ _ _ _ _ _ _ rfl hT hI hB dX0_isAhead_29
    · replace hT := hT.2 hc
      refine lv_iconst (v := 1) hx hb dX0_isAhead_24 (by decide) ?_
      refine lv_goto (tgt := 29) hx hb dX0_isAhead_25 (by decide) ?_
      exact hret _ _ _ _ _ _ _ _ rfl hT hI hB dX0_isAhead_29
set_option maxHeartbeats 4000000 in
set_option maxRecDepth 100000 in
theorem um_X5_copy (l : Launch) (D : va_G) (dA : Nat → ClassId) (ad : Nat → Nat) (Hs : Heap) (hA : cAd ad 1296 Hs.size) (σ : CS) (ob : Nat) (x1 : Nat) (hp : stOK ob) (hx1 : stOK x1) (K : Nat → CS → Prop) (hT : U_X5_copy σ ob x1 K) : Met l yX5_copy (ws_ yX5_copy cX5_copy 4 (some (.object "MendedThings$State"))) ({ frames := 1, cells := 0, slots := 0, locals := 12 }) (va_Pc [.ref (ad ob), .ref (ad x1)] (cU D dA ad 1296 Hs σ)) (xQ (rvR ad) K (cU D dA ad 1296 Hs) (cA ad)) 0 0 (cA ad) := by
  refine xm_r (Or.inl ⟨_, rfl⟩) hA (by decide) rfl (Nat.le_of_ble_eq_true rfl) ?_
  intro p e s m args below meth c Q hC hN hret hI ls hl
  have hx := hC.1.1
  have hb := hC.1.2.1
  have hB : 0 ≤ 0 ∧ 0 ≤ 0 := ⟨Nat.zero_le _, Nat.zero_le _⟩
  have hl : lv_has ls 4 [(0, .ref (ad ob)), (1, .ref (ad x1))] := hl
  have w_107 : ∀ (k97 : Int32 → CS → Prop), (∀ (x2 : Int32) (σ : CS) (H : Heap) (locs : List Loc) (ls : Array Slot), k97 x2 σ → xI D dA ad 1296 Hs s.heap σ H locs → lv_has ls 4 [(0, .ref (ad ob)), (1, .ref (ad x1)), (2, .int x2)] → W p l e ({ frames := 1, cells := 0, slots := 0, locals := 12 }) s m args below meth c H locs 0 0 Q (F0 m 97 ls [])) → ∀ (x2 : Int32) (n : Nat) (x3 : Int32) (σ : CS) (H : Heap) (locs : List Loc) (ls : Array Slot), U_X5_copy_107 K ob x1 k97 x2 n x3 σ → xI D dA ad 1296 Hs s.heap σ H locs → lv_has ls 4 [(0, .ref (ad ob)), (1, .ref (ad x1)), (2, .int x2), (3, .int x3)] → W p l e ({ frames := 1, cells := 0, slots := 0, locals := 12 }) s m args below meth c H locs 0 0 Q (F0 m 107 ls []) := by
    intro k97 hk97 x2 n
    induction n with
    | zero => intro x3 σ H locs ls hT; exact hT.elim
    | succ n ih =>
      intro x3 σ H locs ls hT hI hl
      unfold U_X5_copy_107 at hT
      refine lv_iload_n hx hb dX5_copy_107 rfl (lv_at hl 3 rfl) ?_
      refine lv_iconst (v := 3) hx hb dX5_copy_108 (by decide) ?_
      refine lv_icmp_ge (tgt := 134) hx hb dX5_copy_109 (by decide) (fun hc => ?_) (fun hc => ?_)
      · replace hT := hT.1 hc
        refine lv_iinc (v := x2 + 1) (lv' := [(2, .int (x2 + 1)), (0, .ref (ad ob)), (1, .ref (ad x1)), (3, .int x3)]) hx hb dX5_copy_134 hl (k := 2) rfl rfl (Nat.le_of_ble_eq_true rfl) rfl (fun ls hl => ?_)
        refine lv_goto (tgt := 97) hx hb dX5_copy_137 (by decide) ?_
        exact hk97 (x2 + 1) σ _ _ _ hT hI (lv_sub hl [1, 2, 0] rfl)
      · replace hT := hT.2 hc
        refine lv_aload_n hx hb dX5_copy_112 rfl (lv_at hl 0 rfl) ?_
        refine xg5_7 (i := ob) hC hI (xst hI (st_lt hp (d := 0) (by decide)) (sls_0 hp)) q425 (fun _ h => h) dX5_copy_113 ?_
        refine lv_iload_n hx hb dX5_copy_116 rfl (lv_at hl 2 rfl) ?_
        refine x_aald (i := ob + 6) hC hI (xst hI (st_lt hp (d := 6) (by decide)) (sls_6 hp)) rfl rfl (by decide) hT dX5_copy_117 (fun hT => ?_)
        refine lv_iload_n hx hb dX5_copy_118 rfl (lv_at hl 3 rfl) ?_
        refine lv_aload_n hx hb dX5_copy_119 rfl (lv_at hl 1 rfl) ?_
        refine xg5_7 (i := x1) hC hI (xst hI (st_lt hx1 (d := 0) (by decide)) (sls_0 hx1)) q425 (fun _ h => h) dX5_copy_120 ?_
        refine lv_iload_n hx hb dX5_copy_123 rfl (lv_at hl 2 rfl) ?_
        refine x_aald (i := x1 + 6) hC hI (xst hI (st_lt hx1 (d := 6) (by decide)) (sls_6 hx1)) rfl rfl (by decide) hT dX5_copy_124 (fun hT => ?_)
        refine lv_iload_n hx hb dX5_copy_125 rfl (lv_at hl 3 rfl) ?_
        obtain ⟨q1, hq2, hT⟩ := hT
        refine W.eq (congrArg (fun z => F0 m 126 ls [.int x3, z, .int x3, va_rf (rgR ad (gR σ (ob + 6) (Int32.toNatClampNeg x2)))]) (xrq hq2)) ?_
        obtain ⟨hL, hT⟩ := hT
        refine x_iald (i := q1) hC hI hL hT dX5_copy_126 (fun hT => ?_)
        obtain ⟨q3, hq4, hT⟩ := hT
        refine W.eq (congrArg (fun z => F0 m 127 ls [.int (gI σ q1 (Int32.toNatClampNeg x3)), .int x3, z]) (xrq hq4)) ?_
        obtain ⟨hic, hT⟩ := hT
        obtain ⟨hL, hT⟩ := hT
        refine x_iast (i := q3) hC hI hic hL hT dX5_copy_127 (fun σ5 H locs hT hI => ?_)
        refine lv_iinc (v := x3 + 1) (lv' := [(3, .int (x3 + 1)), (0, .ref (ad ob)), (1, .ref (ad x1)), (2, .int x2)]) hx hb dX5_copy_128 hl (k := 3) rfl rfl (Nat.le_of_ble_eq_true rfl) rfl (fun ls hl => ?_)
        refine lv_goto (tgt := 107) hx hb dX5_copy_131 (by decide) ?_
        exact ih (x3 + 1) σ5 _ _ _ hT hI (lv_sub hl [1, 2, 3, 0] rfl)
  have w_97 : ∀ (n : Nat) (x2 : Int32) (σ : CS) (H : Heap) (locs : List Loc) (ls : Array Slot), U_X5_copy_97 K ob x1 n x2 σ → xI D dA ad 1296 Hs s.heap σ H locs → lv_has ls 4 [(0, .ref (ad ob)), (1, .ref (ad x1)), (2, .int x2)] → W p l e ({ frames := 1, cells := 0, slots := 0, locals := 12 }) s m args below meth c H locs 0 0 Q (F0 m 97 ls []) := by
    intro n
    induction n with
    | zero => intro x2 σ H locs ls hT; exact hT.elim
    | succ n ih =>
      intro x2 σ H locs ls hT hI hl
      unfold U_X5_copy_97 at hT
      refine lv_iload_n hx hb dX5_copy_97 rfl (lv_at hl 2 rfl) ?_
      refine lv_aload_n hx hb dX5_copy_98 rfl (lv_at hl 0 rfl) ?_
      refine xg5_1 (i := ob) hC hI (xst hI (st_lt hp (d := 0) (by decide)) (sls_0 hp)) q413 (fun _ h => h) dX5_copy_99 ?_
      refine lv_icmp_ge (tgt := 140) hx hb dX5_copy_102 (by decide) (fun hc => ?_) (fun hc => ?_)
      · replace hT := hT.1 hc
        refine lv_aload_n hx hb dX5_copy_140 rfl (lv_at hl 0 rfl) ?_
        exact hret (ob + 1) _ _ _ _ _ _ _ hT hI hB dX5_copy_141
      · replace hT := hT.2 hc
        refine lv_iconst (v := 0) hx hb dX5_copy_105 (by decide) ?_
        refine lv_istore_n (lv' := [(3, .int 0), (0, .ref (ad ob)), (1, .ref (ad x1)), (2, .int x2)]) hx hb dX5_copy_106 rfl hl (Nat.le_of_ble_eq_true rfl) rfl (fun ls hl => ?_)
        obtain ⟨n107, hT⟩ := hT
        exact w_107 (U_X5_copy_97 K ob x1 n) (ih) x2 n107 0 σ _ _ _ hT hI (lv_sub hl [1, 2, 3, 0] rfl)
  have w_23 : ∀ (n : Nat) (x2 : Int32) (σ : CS) (H : Heap) (locs : List Loc) (ls : Array Slot), U_X5_copy_23 K ob x1 n x2 σ → xI D dA ad 1296 Hs s.heap σ H locs → lv_has ls 4 [(0, .ref (ad ob)), (1, .ref (ad x1)), (2, .int x2)] → W p l e ({ frames := 1, cells := 0, slots := 0, locals := 12 }) s m args below meth c H locs 0 0 Q (F0 m 23 ls []) := by
    intro n
    induction n with
    | zero => intro x2 σ H locs ls hT; exact hT.elim
    | succ n ih =>
      intro x2 σ H locs ls hT hI hl
      unfold U_X5_copy_23 at hT
      refine lv_iload_n hx hb dX5_copy_23 rfl (lv_at hl 2 rfl) ?_
      refine lv_bipush (v := 8) hx hb dX5_copy_24 (by decide) ?_
      refine lv_icmp_ge (tgt := 95) hx hb dX5_copy_26 (by decide) (fun hc => ?_) (fun hc => ?_)
      · replace hT := hT.1 hc
        refine lv_iconst (v := 0) hx hb dX5_copy_95 (by decide) ?_
        refine lv_istore_n (lv' := [(2, .int 0), (0, .ref (ad ob)), (1, .ref (ad x1))]) hx hb dX5_copy_96 rfl hl (Nat.le_of_ble_eq_true rfl) rfl (fun ls hl => ?_)
        obtain ⟨n97, hT⟩ := hT
        exact w_97 n97 0 σ _ _ _ hT hI (lv_sub hl [1, 2, 0] rfl)
      · replace hT := hT.2 hc
        refine lv_aload_n hx hb dX5_copy_29 rfl (lv_at hl 0 rfl) ?_
        refine xg5_2 (i := ob) hC hI (xst hI (st_lt hp (d := 0) (by decide)) (sls_0 hp)) q415 (fun _ h => h) dX5_copy_30 ?_
        refine lv_iload_n hx hb dX5_copy_33 rfl (lv_at hl 2 rfl) ?_
        refine lv_aload_n hx hb dX5_copy_34 rfl (lv_at hl 1 rfl) ?_
        refine xg5_2 (i := x1) hC hI (xst hI (st_lt hx1 (d := 0) (by decide)) (sls_0 hx1)) q415 (fun _ h => h) dX5_copy_35 ?_
        refine lv_iload_n hx hb dX5_copy_38 rfl (lv_at hl 2 rfl) ?_
        refine x_iald (i := x1 + 1) hC hI (xst hI (st_lt hx1 (d := 1) (by decide)) (sls_1 hx1)) hT dX5_copy_39 (fun hT => ?_)
        refine x_iast (i := ob + 1) hC hI (lt_cb (st_lt hp (d := 1) (by decide))) (xst hI (st_lt hp (d := 1) (by decide)) (sls_1 hp)) hT dX5_copy_40 (fun σ6 H locs hT hI => ?_)
        refine lv_aload_n hx hb dX5_copy_41 rfl (lv_at hl 0 rfl) ?_
        refine xg5_3 (i := ob) hC hI (xst hI (st_lt hp (d := 0) (by decide)) (sls_0 hp)) q417 (fun _ h => h) dX5_copy_42 ?_
        refine lv_iload_n hx hb dX5_copy_45 rfl (lv_at hl 2 rfl) ?_
        refine lv_aload_n hx hb dX5_copy_46 rfl (lv_at hl 1 rfl) ?_
        refine xg5_3 (i := x1) hC hI (xst hI (st_lt hx1 (d := 0) (by decide)) (sls_0 hx1)) q417 (fun _ h => h) dX5_copy_47 ?_
        refine lv_iload_n hx hb dX5_copy_50 rfl (lv_at hl 2 rfl) ?_
        refine x_iald (i := x1 + 2) hC hI (xst hI (st_lt hx1 (d := 2) (by decide)) (sls_2 hx1)) hT dX5_copy_51 (fun hT => ?_)
        refine x_iast (i := ob + 2) hC hI (lt_cb (st_lt hp (d := 2) (by decide))) (xst hI (st_lt hp (d := 2) (by decide)) (sls_2 hp)) hT dX5_copy_52 (fun σ7 H locs hT hI => ?_)
        refine lv_aload_n hx hb dX5_copy_53 rfl (lv_at hl 0 rfl) ?_
        refine xg5_4 (i := ob) hC hI (xst hI (st_lt hp (d := 0) (by decide)) (sls_0 hp)) q419 (fun _ h => h) dX5_copy_54 ?_
        refine lv_iload_n hx hb dX5_copy_57 rfl (lv_at hl 2 rfl) ?_
        refine lv_aload_n hx hb dX5_copy_58 rfl (lv_at hl 1 rfl) ?_
        refine xg5_4 (i := x1) hC hI (xst hI (st_lt hx1 (d := 0) (by decide)) (sls_0 hx1)) q419 (fun _ h => h) dX5_copy_59 ?_
        refine lv_iload_n hx hb dX5_copy_62 rfl (lv_at hl 2 rfl) ?_
        refine x_iald (i := x1 + 3) hC hI (xst hI (st_lt hx1 (d := 3) (by decide)) (sls_3 hx1)) hT dX5_copy_63 (fun hT => ?_)
        refine x_iast (i := ob + 3) hC hI (lt_cb (st_lt hp (d := 3) (by decide))) (xst hI (st_lt hp (d := 3) (by decide)) (sls_3 hp)) hT dX5_copy_64 (fun σ8 H locs hT hI => ?_)
        refine lv_aload_n hx hb dX5_copy_65 rfl (lv_at hl 0 rfl) ?_
        refine xg5_5 (i := ob) hC hI (xst hI (st_lt hp (d := 0) (by decide)) (sls_0 hp)) q421 (fun _ h => h) dX5_copy_66 ?_
        refine lv_iload_n hx hb dX5_copy_69 rfl (lv_at hl 2 rfl) ?_
        refine lv_aload_n hx hb dX5_copy_70 rfl (lv_at hl 1 rfl) ?_
        refine xg5_5 (i := x1) hC hI (xst hI (st_lt hx1 (d := 0) (by decide)) (sls_0 hx1)) q421 (fun _ h => h) dX5_copy_71 ?_
        refine lv_iload_n hx hb dX5_copy_74 rfl (lv_at hl 2 rfl) ?_
        refine x_iald (i := x1 + 4) hC hI (xst hI (st_lt hx1 (d := 4) (by decide)) (sls_4 hx1)) hT dX5_copy_75 (fun hT => ?_)
        refine x_iast (i := ob + 4) hC hI (lt_cb (st_lt hp (d := 4) (by decide))) (xst hI (st_lt hp (d := 4) (by decide)) (sls_4 hp)) hT dX5_copy_76 (fun σ9 H locs hT hI => ?_)
        refine lv_aload_n hx hb dX5_copy_77 rfl (lv_at hl 0 rfl) ?_
        refine xg5_6 (i := ob) hC hI (xst hI (st_lt hp (d := 0) (by decide)) (sls_0 hp)) q423 (fun _ h => h) dX5_copy_78 ?_
        refine lv_iload_n hx hb dX5_copy_81 rfl (lv_at hl 2 rfl) ?_
        refine lv_aload_n hx hb dX5_copy_82 rfl (lv_at hl 1 rfl) ?_
        refine xg5_6 (i := x1) hC hI (xst hI (st_lt hx1 (d := 0) (by decide)) (sls_0 hx1)) q423 (fun _ h => h) dX5_copy_83 ?_
        refine lv_iload_n hx hb dX5_copy_86 rfl (lv_at hl 2 rfl) ?_
        refine x_zald (i := x1 + 5) hC hI (xst hI (st_lt hx1 (d := 5) (by decide)) (sls_5 hx1)) hT dX5_copy_87 (fun hT => ?_)
        refine x_zast (i := ob + 5) hC hI (lt_cb (st_lt hp (d := 5) (by decide))) (xst hI (st_lt hp (d := 5) (by decide)) (sls_5 hp)) hT dX5_copy_88 (fun σ10 H locs hT hI => ?_)
        refine lv_iinc (v := x2 + 1) (lv' := [(2, .int (x2 + 1)), (0, .ref (ad ob)), (1, .ref (ad x1))]) hx hb dX5_copy_89 hl (k := 2) rfl rfl (Nat.le_of_ble_eq_true rfl) rfl (fun ls hl => ?_)
        refine lv_goto (tgt := 23) hx hb dX5_copy_92 (by decide) ?_
        exact ih (x2 + 1) σ10 _ _ _ hT hI (lv_sub hl [1, 2, 0] rfl)
  unfold U_X5_copy at hT
  refine lv_aload_n hx hb dX5_copy_0 rfl (lv_at hl 0 rfl) ?_
  refine lv_aload_n hx hb dX5_copy_1 rfl (lv_at hl 1 rfl) ?_
  refine xg5_0 (i := x1) hC hI (xst hI (st_lt hx1 (d := 0) (by decide)) (sls_0 hx1)) q411 (fun _ h => h) dX5_copy_2 ?_
  refine xp5_0 (i := ob) (v := gI σ x1 0) hC hI (lt_cb (st_lt hp (d := 0) (by decide))) (xst hI (st_lt hp (d := 0) (by decide)) (sls_0 hp)) hT q411 (fun _ h => h) dX5_copy_5 (fun σ11 H locs hT hI => ?_)
  refine lv_aload_n hx hb dX5_copy_8 rfl (lv_at hl 0 rfl) ?_
  refine lv_aload_n hx hb dX5_copy_9 rfl (lv_at hl 1 rfl) ?_
  refine xg5_1 (i := x1) hC hI (xst hI (st_lt hx1 (d := 0) (by decide)) (sls_0 hx1)) q413 (fun _ h => h) dX5_copy_10 ?_
  refine xp5_1 (i := ob) (v := gI σ11 x1 1) hC hI (lt_cb (st_lt hp (d := 0) (by decide))) (xst hI (st_lt hp (d := 0) (by decide)) (sls_0 hp)) hT q413 (fun _ h => h) dX5_copy_13 (fun σ12 H locs hT hI => ?_)
  refine lv_aload_n hx hb dX5_copy_16 rfl (lv_at hl 0 rfl) ?_
  refine lv_iconst (v := -1) hx hb dX5_copy_17 (by decide) ?_
  refine xp5_9 (i := ob) (v := -1) hC hI (lt_cb (st_lt hp (d := 0) (by decide))) (xst hI (st_lt hp (d := 0) (by decide)) (sls_0 hp)) hT q429 (fun _ h => h) dX5_copy_18 (fun σ13 H locs hT hI => ?_)
  refine lv_iconst (v := 0) hx hb dX5_copy_21 (by decide) ?_
  refine lv_istore_n (lv' := [(2, .int 0), (0, .ref (ad ob)), (1, .ref (ad x1))]) hx hb dX5_copy_22 rfl hl (Nat.le_of_ble_eq_true rfl) rfl (fun ls hl => ?_)
  obtain ⟨n23, hT⟩ := hT
  exact w_23 n23 0 σ13 _ _ _ hT hI (lv_sub hl [1, 2, 0] rfl)
set_option maxHeartbeats 4000000 in
set_option maxRecDepth 100000 in
theorem um_X5_tells (l : Launch) (D : va_G) (dA : Nat → ClassId) (ad : Nat → Nat) (Hs : Heap) (hA : cAd ad 1296 Hs.size) (σ : CS) (ob : Nat) (x1 : Int32) (x2 : Int32) (hp : stOK ob) (K : Unit → CS → Prop) (hT : U_X5_tells σ ob x1 x2 K) : Met l yX5_tells (ws_ yX5_tells cX5_tells 5 (none)) ({ frames := 1, cells := 0, slots := 0, locals := 12 }) (va_Pc [.ref (ad ob), .int x1, .int x2] (cU D dA ad 1296 Hs σ)) (xQ rvU K (cU D dA ad 1296 Hs) (cA ad)) 0 0 (cA ad) := by
  refine xm_v hA (by decide) rfl (Nat.le_of_ble_eq_true rfl) ?_
  intro p e s m args below meth c Q hC hN hret hI ls hl
  have hx := hC.1.1
  have hb := hC.1.2.1
  have hB : 0 ≤ 0 ∧ 0 ≤ 0 := ⟨Nat.zero_le _, Nat.zero_le _⟩
  have hl : lv_has ls 5 [(0, .ref (ad ob)), (1, .int x1), (2, .int x2)] := hl
  have w_66 : ∀ (x1 : Int32) (x2 : Int32) (σ : CS) (H : Heap) (locs : List Loc) (ls : Array Slot), U_X5_tells_66 K ob x1 x2 σ → xI D dA ad 1296 Hs s.heap σ H locs → lv_has ls 5 [(0, .ref (ad ob)), (1, .int x1), (2, .int x2)] → W p l e ({ frames := 1, cells := 0, slots := 0, locals := 12 }) s m args below meth c H locs 0 0 Q (F0 m 66 ls []) := by
    intro x1 x2 σ H locs ls hT hI hl
    unfold U_X5_tells_66 at hT
    refine lv_aload_n hx hb dX5_tells_66 rfl (lv_at hl 0 rfl) ?_
    refine xg5_7 (i := ob) hC hI (xst hI (st_lt hp (d := 0) (by decide)) (sls_0 hp)) q425 (fun _ h => h) dX5_tells_67 ?_
    refine lv_aload_n hx hb dX5_tells_70 rfl (lv_at hl 0 rfl) ?_
    refine xg5_1 (i := ob) hC hI (xst hI (st_lt hp (d := 0) (by decide)) (sls_0 hp)) q413 (fun _ h => h) dX5_tells_71 ?_
    refine x_aald (i := ob + 6) hC hI (xst hI (st_lt hp (d := 6) (by decide)) (sls_6 hp)) rfl rfl (by decide) hT dX5_tells_74 (fun hT => ?_)
    refine lv_iconst (v := 0) hx hb dX5_tells_75 (by decide) ?_
    refine lv_aload_n hx hb dX5_tells_76 rfl (lv_at hl 0 rfl) ?_
    refine xg5_0 (i := ob) hC hI (xst hI (st_lt hp (d := 0) (by decide)) (sls_0 hp)) q411 (fun _ h => h) dX5_tells_77 ?_
    obtain ⟨q1, hq2, hT⟩ := hT
    refine W.eq (congrArg (fun z => F0 m 80 ls [.int (gI σ ob 0), .int 0, z]) (xrq hq2)) ?_
    obtain ⟨hic, hT⟩ := hT
    obtain ⟨hL, hT⟩ := hT
    refine x_iast (i := q1) hC hI hic hL hT dX5_tells_80 (fun σ3 H locs hT hI => ?_)
    refine lv_aload_n hx hb dX5_tells_81 rfl (lv_at hl 0 rfl) ?_
    refine xg5_7 (i := ob) hC hI (xst hI (st_lt hp (d := 0) (by decide)) (sls_0 hp)) q425 (fun _ h => h) dX5_tells_82 ?_
    refine lv_aload_n hx hb dX5_tells_85 rfl (lv_at hl 0 rfl) ?_
    refine xg5_1 (i := ob) hC hI (xst hI (st_lt hp (d := 0) (by decide)) (sls_0 hp)) q413 (fun _ h => h) dX5_tells_86 ?_
    refine x_aald (i := ob + 6) hC hI (xst hI (st_lt hp (d := 6) (by decide)) (sls_6 hp)) rfl rfl (by decide) hT dX5_tells_89 (fun hT => ?_)
    refine lv_iconst (v := 1) hx hb dX5_tells_90 (by decide) ?_
    refine lv_iload_n hx hb dX5_tells_91 rfl (lv_at hl 1 rfl) ?_
    obtain ⟨q4, hq5, hT⟩ := hT
    refine W.eq (congrArg (fun z => F0 m 92 ls [.int x1, .int 1, z]) (xrq hq5)) ?_
    obtain ⟨hic, hT⟩ := hT
    obtain ⟨hL, hT⟩ := hT
    refine x_iast (i := q4) hC hI hic hL hT dX5_tells_92 (fun σ6 H locs hT hI => ?_)
    refine lv_aload_n hx hb dX5_tells_93 rfl (lv_at hl 0 rfl) ?_
    refine xg5_7 (i := ob) hC hI (xst hI (st_lt hp (d := 0) (by decide)) (sls_0 hp)) q425 (fun _ h => h) dX5_tells_94 ?_
    refine lv_aload_n hx hb dX5_tells_97 rfl (lv_at hl 0 rfl) ?_
    refine xg5_1 (i := ob) hC hI (xst hI (st_lt hp (d := 0) (by decide)) (sls_0 hp)) q413 (fun _ h => h) dX5_tells_98 ?_
    refine x_aald (i := ob + 6) hC hI (xst hI (st_lt hp (d := 6) (by decide)) (sls_6 hp)) rfl rfl (by decide) hT dX5_tells_101 (fun hT => ?_)
    refine lv_iconst (v := 2) hx hb dX5_tells_102 (by decide) ?_
    refine lv_iload_n hx hb dX5_tells_103 rfl (lv_at hl 2 rfl) ?_
    obtain ⟨q7, hq8, hT⟩ := hT
    refine W.eq (congrArg (fun z => F0 m 104 ls [.int x2, .int 2, z]) (xrq hq8)) ?_
    obtain ⟨hic, hT⟩ := hT
    obtain ⟨hL, hT⟩ := hT
    refine x_iast (i := q7) hC hI hic hL hT dX5_tells_104 (fun σ9 H locs hT hI => ?_)
    refine lv_aload_n hx hb dX5_tells_105 rfl (lv_at hl 0 rfl) ?_
    refine lv_dup hx hb dX5_tells_106 rfl ?_
    refine xg5_1 (i := ob) hC hI (xst hI (st_lt hp (d := 0) (by decide)) (sls_0 hp)) q413 (fun _ h => h) dX5_tells_107 ?_
    refine lv_iconst (v := 1) hx hb dX5_tells_110 (by decide) ?_
    refine lv_iadd hx hb dX5_tells_111 ?_
    refine xp5_1 (i := ob) (v := (gI σ9 ob 1) + 1) hC hI (lt_cb (st_lt hp (d := 0) (by decide))) (xst hI (st_lt hp (d := 0) (by decide)) (sls_0 hp)) hT q413 (fun _ h => h) dX5_tells_112 (fun σ10 H locs hT hI => ?_)
    exact hret _ _ _ _ _ _ _ _ hT hI hB dX5_tells_115
  have w_19 : ∀ (x1 : Int32) (x2 : Int32) (x3 : Nat) (n : Nat) (x4 : Int32) (σ : CS) (H : Heap) (locs : List Loc) (ls : Array Slot), U_X5_tells_19 K ob x1 x2 x3 n x4 σ → xI D dA ad 1296 Hs s.heap σ H locs → lv_has ls 5 [(0, .ref (ad ob)), (1, .int x1), (2, .int x2), (3, va_rf (rgR ad x3)), (4, .int x4)] → W p l e ({ frames := 1, cells := 0, slots := 0, locals := 12 }) s m args below meth c H locs 0 0 Q (F0 m 19 ls []) := by
    intro x1 x2 x3 n
    induction n with
    | zero => intro x4 σ H locs ls hT; exact hT.elim
    | succ n ih =>
      intro x4 σ H locs ls hT hI hl
      unfold U_X5_tells_19 at hT
      refine lv_iload hx hb dX5_tells_19 (lv_at hl 4 rfl) ?_
      refine lv_bipush (v := 50) hx hb dX5_tells_21 (by decide) ?_
      refine lv_icmp_ge (tgt := 48) hx hb dX5_tells_23 (by decide) (fun hc => ?_) (fun hc => ?_)
      · replace hT := hT.1 hc
        refine lv_aload_n hx hb dX5_tells_48 rfl (lv_at hl 0 rfl) ?_
        refine xg5_7 (i := ob) hC hI (xst hI (st_lt hp (d := 0) (by decide)) (sls_0 hp)) q425 (fun _ h => h) dX5_tells_49 ?_
        refine lv_bipush (v := 49) hx hb dX5_tells_52 (by decide) ?_
        refine x_aload_n hx hb dX5_tells_54 rfl (lv_at hl 3 rfl) ?_
        obtain ⟨q11, hqe_q11, hT_q11⟩ := hT
        have hl_q11 := hl
        subst hqe_q11
        replace hT := hT_q11
        refine W.eq (g2 := F0 m 55 ls [.ref (ad q11), .int 49, .ref (ad (ob + 6))]) rfl ?_
        have hl : lv_has ls 5 [(0, .ref (ad ob)), (1, .int x1), (2, .int x2), (3, .ref (ad q11)), (4, .int x4)] := hl_q11
        obtain ⟨hV, hT⟩ := hT
        refine xaast7 (i := ob + 6) (q := q11) hC hI (lt_cb (st_lt hp (d := 6) (by decide))) (xst hI (st_lt hp (d := 6) (by decide)) (sls_6 hp)) hV hT dX5_tells_55 (fun σ12 H locs hT hI => ?_)
        refine lv_aload_n hx hb dX5_tells_56 rfl (lv_at hl 0 rfl) ?_
        refine lv_dup hx hb dX5_tells_57 rfl ?_
        refine xg5_1 (i := ob) hC hI (xst hI (st_lt hp (d := 0) (by decide)) (sls_0 hp)) q413 (fun _ h => h) dX5_tells_58 ?_
        refine lv_iconst (v := 1) hx hb dX5_tells_61 (by decide) ?_
        refine lv_isub hx hb dX5_tells_62 ?_
        refine xp5_1 (i := ob) (v := (gI σ12 ob 1) - 1) hC hI (lt_cb (st_lt hp (d := 0) (by decide))) (xst hI (st_lt hp (d := 0) (by decide)) (sls_0 hp)) hT q413 (fun _ h => h) dX5_tells_63 (fun σ13 H locs hT hI => ?_)
        exact w_66 x1 x2 σ13 _ _ _ hT hI (lv_sub hl [0, 1, 2] rfl)
      · replace hT := hT.2 hc
        refine lv_aload_n hx hb dX5_tells_26 rfl (lv_at hl 0 rfl) ?_
        refine xg5_7 (i := ob) hC hI (xst hI (st_lt hp (d := 0) (by decide)) (sls_0 hp)) q425 (fun _ h => h) dX5_tells_27 ?_
        refine lv_iload hx hb dX5_tells_30 (lv_at hl 4 rfl) ?_
        refine lv_iconst (v := 1) hx hb dX5_tells_32 (by decide) ?_
        refine lv_isub hx hb dX5_tells_33 ?_
        refine lv_aload_n hx hb dX5_tells_34 rfl (lv_at hl 0 rfl) ?_
        refine xg5_7 (i := ob) hC hI (xst hI (st_lt hp (d := 0) (by decide)) (sls_0 hp)) q425 (fun _ h => h) dX5_tells_35 ?_
        refine lv_iload hx hb dX5_tells_38 (lv_at hl 4 rfl) ?_
        refine x_aald (i := ob + 6) hC hI (xst hI (st_lt hp (d := 6) (by decide)) (sls_6 hp)) rfl rfl (by decide) hT dX5_tells_40 (fun hT => ?_)
        obtain ⟨q14, hq15, hT⟩ := hT
        refine W.eq (congrArg (fun z => F0 m 41 ls [z, .int (x4 - 1), .ref (ad (ob + 6))]) (xrq hq15)) ?_
        obtain ⟨hV, hT⟩ := hT
        refine xaast7 (i := ob + 6) (q := q14) hC hI (lt_cb (st_lt hp (d := 6) (by decide))) (xst hI (st_lt hp (d := 6) (by decide)) (sls_6 hp)) hV hT dX5_tells_41 (fun σ16 H locs hT hI => ?_)
        refine lv_iinc (v := x4 + 1) (lv' := [(4, .int (x4 + 1)), (0, .ref (ad ob)), (1, .int x1), (2, .int x2), (3, va_rf (rgR ad x3))]) hx hb dX5_tells_42 hl (k := 4) rfl rfl (Nat.le_of_ble_eq_true rfl) (by simp [va_rf_cat, vc_int, vc_long, vc_ref, vc_null]) (fun ls hl => ?_)
        refine lv_goto (tgt := 19) hx hb dX5_tells_45 (by decide) ?_
        exact ih (x4 + 1) σ16 _ _ _ hT hI (lv_sub hl [1, 2, 3, 4, 0] rfl)
  unfold U_X5_tells at hT
  refine lv_aload_n hx hb dX5_tells_0 rfl (lv_at hl 0 rfl) ?_
  refine xg5_1 (i := ob) hC hI (xst hI (st_lt hp (d := 0) (by decide)) (sls_0 hp)) q413 (fun _ h => h) dX5_tells_1 ?_
  refine lv_bipush (v := 50) hx hb dX5_tells_4 (by decide) ?_
  refine lv_icmp_ne (tgt := 66) hx hb dX5_tells_6 (by decide) (fun hc => ?_) (fun hc => ?_)
  · replace hT := hT.1 hc
    exact w_66 x1 x2 σ _ _ _ hT hI (lv_sub hl [0, 1, 2] rfl)
  · replace hT := hT.2 hc
    refine lv_aload_n hx hb dX5_tells_9 rfl (lv_at hl 0 rfl) ?_
    refine xg5_7 (i := ob) hC hI (xst hI (st_lt hp (d := 0) (by decide)) (sls_0 hp)) q425 (fun _ h => h) dX5_tells_10 ?_
    refine lv_iconst (v := 0) hx hb dX5_tells_13 (by decide) ?_
    refine x_aald (i := ob + 6) hC hI (xst hI (st_lt hp (d := 6) (by decide)) (sls_6 hp)) rfl rfl (by decide) hT dX5_tells_14 (fun hT => ?_)
    refine x_astore_n (lv' := [(3, va_rf (rgR ad (gR σ (ob + 6) (Int32.toNatClampNeg 0)))), (0, .ref (ad ob)), (1, .int x1), (2, .int x2)]) hx hb dX5_tells_15 rfl hl (Nat.le_of_ble_eq_true rfl) rfl (fun ls hl => ?_)
    refine lv_iconst (v := 1) hx hb dX5_tells_16 (by decide) ?_
    refine lv_istore (lv' := [(4, .int 1), (3, va_rf (rgR ad (gR σ (ob + 6) (Int32.toNatClampNeg 0)))), (0, .ref (ad ob)), (1, .int x1), (2, .int x2)]) hx hb dX5_tells_17 hl (Nat.le_of_ble_eq_true rfl) (by simp [va_rf_cat, vc_int, vc_long, vc_ref, vc_null]) (fun ls hl => ?_)
    obtain ⟨n19, hT⟩ := hT
    exact w_19 x1 x2 (gR σ (ob + 6) (Int32.toNatClampNeg 0)) n19 1 σ _ _ _ hT hI (lv_sub hl [2, 3, 4, 1, 0] rfl)
set_option maxHeartbeats 4000000 in
set_option maxRecDepth 100000 in
theorem um_X5_breaks (l : Launch) (D : va_G) (dA : Nat → ClassId) (ad : Nat → Nat) (Hs : Heap) (hA : cAd ad 1296 Hs.size) (σ : CS) (ob : Nat) (x1 : Int32) (hp : stOK ob) (K : Unit → CS → Prop) (hT : U_X5_breaks σ ob x1 K) : Met l yX5_breaks (ws_ yX5_breaks cX5_breaks 2 (none)) ({ frames := 2, cells := 0, slots := 0, locals := 36 }) (va_Pc [.ref (ad ob), .int x1] (cU D dA ad 1296 Hs σ)) (xQ rvU K (cU D dA ad 1296 Hs) (cA ad)) 0 0 (cA ad) := by
  refine xm_v hA (by decide) rfl (Nat.le_of_ble_eq_true rfl) ?_
  intro p e s m args below meth c Q hC hN hret hI ls hl
  have hx := hC.1.1
  have hb := hC.1.2.1
  have hB : 0 ≤ 0 ∧ 0 ≤ 0 := ⟨Nat.zero_le _, Nat.zero_le _⟩
  have hl : lv_has ls 2 [(0, .ref (ad ob)), (1, .int x1)] := hl
  unfold U_X5_breaks at hT
  refine lv_aload_n hx hb dX5_breaks_0 rfl (lv_at hl 0 rfl) ?_
  refine xg5_3 (i := ob) hC hI (xst hI (st_lt hp (d := 0) (by decide)) (sls_0 hp)) q417 (fun _ h => h) dX5_breaks_1 ?_
  refine lv_iload_n hx hb dX5_breaks_4 rfl (lv_at hl 1 rfl) ?_
  refine lv_bipush (v := 99) hx hb dX5_breaks_5 (by decide) ?_
  refine lv_aload_n hx hb dX5_breaks_7 rfl (lv_at hl 0 rfl) ?_
  refine xg5_3 (i := ob) hC hI (xst hI (st_lt hp (d := 0) (by decide)) (sls_0 hp)) q417 (fun _ h => h) dX5_breaks_8 ?_
  refine lv_iload_n hx hb dX5_breaks_11 rfl (lv_at hl 1 rfl) ?_
  refine x_iald (i := ob + 2) hC hI (xst hI (st_lt hp (d := 2) (by decide)) (sls_2 hp)) hT dX5_breaks_12 (fun hT => ?_)
  refine lv_iconst (v := 1) hx hb dX5_breaks_13 (by decide) ?_
  refine lv_iadd hx hb dX5_breaks_14 ?_
  refine x_call (x_runS hC hI (um_J12_min l D dA ad 1296 Hs hC.2.2 σ 99 ((gI σ (ob + 2) (Int32.toNatClampNeg x1)) + 1) _ hT) (lw_S q1499 q917 q179 q918) 2 hdS_J12_min ⟨rfl, rfl⟩ ⟨Nat.le_of_ble_eq_true rfl, Nat.le_of_ble_eq_true rfl⟩ rfl hl.1 rfl (Nat.le_of_ble_eq_true rfl) hB dX5_breaks_15) hI (fun r2 σ1 H locs hT hI => ?_)
  refine W.eq (g2 := F0 m 18 ls [.int r2, .int x1, .ref (ad (ob + 2))]) rfl ?_
  refine x_iast (i := ob + 2) hC hI (lt_cb (st_lt hp (d := 2) (by decide))) (xst hI (st_lt hp (d := 2) (by decide)) (sls_2 hp)) hT dX5_breaks_18 (fun σ3 H locs hT hI => ?_)
  refine lv_aload_n hx hb dX5_breaks_19 rfl (lv_at hl 0 rfl) ?_
  refine xg5_2 (i := ob) hC hI (xst hI (st_lt hp (d := 0) (by decide)) (sls_0 hp)) q415 (fun _ h => h) dX5_breaks_20 ?_
  refine lv_iload_n hx hb dX5_breaks_23 rfl (lv_at hl 1 rfl) ?_
  refine lv_iconst (v := 1) hx hb dX5_breaks_24 (by decide) ?_
  refine x_iast (i := ob + 1) hC hI (lt_cb (st_lt hp (d := 1) (by decide))) (xst hI (st_lt hp (d := 1) (by decide)) (sls_1 hp)) hT dX5_breaks_25 (fun σ4 H locs hT hI => ?_)
  refine lv_aload_n hx hb dX5_breaks_26 rfl (lv_at hl 0 rfl) ?_
  refine xg5_6 (i := ob) hC hI (xst hI (st_lt hp (d := 0) (by decide)) (sls_0 hp)) q423 (fun _ h => h) dX5_breaks_27 ?_
  refine lv_iload_n hx hb dX5_breaks_30 rfl (lv_at hl 1 rfl) ?_
  refine lv_iconst (v := 0) hx hb dX5_breaks_31 (by decide) ?_
  refine x_zast (i := ob + 5) hC hI (lt_cb (st_lt hp (d := 5) (by decide))) (xst hI (st_lt hp (d := 5) (by decide)) (sls_5 hp)) hT dX5_breaks_32 (fun σ5 H locs hT hI => ?_)
  refine lv_aload_n hx hb dX5_breaks_33 rfl (lv_at hl 0 rfl) ?_
  refine lv_iload_n hx hb dX5_breaks_34 rfl (lv_at hl 1 rfl) ?_
  refine lv_iconst (v := 0) hx hb dX5_breaks_35 (by decide) ?_
  refine x_call (x_runV (i := ob) hC hI (xst hI (st_lt hp (d := 0) (by decide)) (sls_0 hp)) rfl (um_X5_tells l D dA ad Hs hC.2.2 σ5 ob x1 0 hp _ hT) (lw_V q1500 q1502 qs49 q169 q1503) 2 hdV_X5_tells ⟨rfl, rfl⟩ ⟨Nat.le_of_ble_eq_true rfl, Nat.le_of_ble_eq_true rfl⟩ rfl hl.1 rfl (Nat.le_of_ble_eq_true rfl) hB dX5_breaks_36) hI (fun _ σ6 H locs hT hI => ?_)
  refine W.eq (g2 := F0 m 39 ls []) rfl ?_
  exact hret _ _ _ _ _ _ _ _ hT hI hB dX5_breaks_39
set_option maxHeartbeats 4000000 in
set_option maxRecDepth 100000 in
theorem um_X5_by (l : Launch) (D : va_G) (dA : Nat → ClassId) (ad : Nat → Nat) (Hs : Heap) (hA : cAd ad 1296 Hs.size) (σ : CS) (ob : Nat) (x1 : Int32) (hp : stOK ob) (K : Int32 → CS → Prop) (hT : U_X5_by σ ob x1 K) : Met l yX5_by (ws_ yX5_by cX5_by 3 (some .int)) ({ frames := 903, cells := 0, slots := 0, locals := 18572 }) (va_Pc [.ref (ad ob), .int x1] (cU D dA ad 1296 Hs σ)) (xQ rvI K (cU D dA ad 1296 Hs) (cA ad)) 0 0 (cA ad) := by
  refine xm_i hA (by decide) rfl (Nat.le_of_ble_eq_true rfl) ?_
  intro p e s m args below meth c Q hC hN hret hI ls hl
  have hx := hC.1.1
  have hb := hC.1.2.1
  have hB : 0 ≤ 0 ∧ 0 ≤ 0 := ⟨Nat.zero_le _, Nat.zero_le _⟩
  have hl : lv_has ls 3 [(0, .ref (ad ob)), (1, .int x1)] := hl
  have w_2 : ∀ (x1 : Int32) (n : Nat) (x2 : Int32) (σ : CS) (H : Heap) (locs : List Loc) (ls : Array Slot), U_X5_by_2 K ob x1 n x2 σ → xI D dA ad 1296 Hs s.heap σ H locs → lv_has ls 3 [(0, .ref (ad ob)), (1, .int x1), (2, .int x2)] → W p l e ({ frames := 903, cells := 0, slots := 0, locals := 18572 }) s m args below meth c H locs 0 0 Q (F0 m 2 ls []) := by
    intro x1 n
    induction n with
    | zero => intro x2 σ H locs ls hT; exact hT.elim
    | succ n ih =>
      intro x2 σ H locs ls hT hI hl
      unfold U_X5_by_2 at hT
      refine lv_iload_n hx hb dX5_by_2 rfl (lv_at hl 2 rfl) ?_
      refine lv_aload_n hx hb dX5_by_3 rfl (lv_at hl 0 rfl) ?_
      refine xg5_12 (i := ob) hC hI (xst hI (st_lt hp (d := 0) (by decide)) (sls_0 hp)) q434 (fun _ h => h) dX5_by_4 ?_
      refine x_call (x_runVN (i := 0) hC hI (xst hI (Nat.le_of_ble_eq_true rfl) sl_0) rfl (um_X0_menders l D dA ad Hs hC.2.2 σ _ hT) q1504 q1257 qs35 q158 q1258 0 hdS_X0_menders ⟨rfl, rfl⟩ ⟨Nat.le_of_ble_eq_true rfl, Nat.le_of_ble_eq_true rfl⟩ rfl hl.1 rfl (Nat.le_of_ble_eq_true rfl) hB dX5_by_7) hI (fun r2 σ1 H locs hT hI => ?_)
      refine W.eq (g2 := F0 m 10 ls [.int r2, .int x2]) rfl ?_
      refine lv_icmp_ge (tgt := 36) hx hb dX5_by_10 (by decide) (fun hc => ?_) (fun hc => ?_)
      · replace hT := hT.1 hc
        refine lv_iconst (v := -1) hx hb dX5_by_36 (by decide) ?_
        exact hret _ _ _ _ _ _ _ _ hT hI hB dX5_by_37
      · replace hT := hT.2 hc
        refine lv_aload_n hx hb dX5_by_13 rfl (lv_at hl 0 rfl) ?_
        refine xg5_11 (i := ob) hC hI (xst hI (st_lt hp (d := 0) (by decide)) (sls_0 hp)) q433 (fun _ h => h) dX5_by_14 ?_
        refine lv_iload_n hx hb dX5_by_17 rfl (lv_at hl 2 rfl) ?_
        refine x_iald (i := ob + 57) hC hI (xst hI (st_lt hp (d := 57) (by decide)) (sls_57 hp)) hT dX5_by_18 (fun hT => ?_)
        refine lv_aload_n hx hb dX5_by_19 rfl (lv_at hl 0 rfl) ?_
        refine lv_iload_n hx hb dX5_by_20 rfl (lv_at hl 1 rfl) ?_
        refine lv_iload_n hx hb dX5_by_21 rfl (lv_at hl 2 rfl) ?_
        refine x_call (x_runV (i := ob) hC hI (xst hI (st_lt hp (d := 0) (by decide)) (sls_0 hp)) rfl (um_X5_takes l D dA ad Hs hC.2.2 σ1 ob x1 x2 hp _ hT) (lw_V q1514 q1446 q1447 q169 q1448) 2 hdV_X5_takes ⟨rfl, rfl⟩ ⟨Nat.le_of_ble_eq_true rfl, Nat.le_of_ble_eq_true rfl⟩ rfl hl.1 rfl (Nat.le_of_ble_eq_true rfl) hB dX5_by_22) hI (fun r4 σ3 H locs hT hI => ?_)
        refine W.eq (g2 := F0 m 25 ls [.int r4, .int (gI σ1 (ob + 57) (Int32.toNatClampNeg x2))]) rfl ?_
        refine lv_icmp_lt (tgt := 30) hx hb dX5_by_25 (by decide) (fun hc => ?_) (fun hc => ?_)
        · replace hT := hT.1 hc
          refine lv_iinc (v := x2 + 1) (lv' := [(2, .int (x2 + 1)), (0, .ref (ad ob)), (1, .int x1)]) hx hb dX5_by_30 hl (k := 2) rfl rfl (Nat.le_of_ble_eq_true rfl) rfl (fun ls hl => ?_)
          refine lv_goto (tgt := 2) hx hb dX5_by_33 (by decide) ?_
          exact ih (x2 + 1) σ3 _ _ _ hT hI (lv_sub hl [1, 2, 0] rfl)
        · replace hT := hT.2 hc
          refine lv_iload_n hx hb dX5_by_28 rfl (lv_at hl 2 rfl) ?_
          exact hret _ _ _ _ _ _ _ _ hT hI hB dX5_by_29
  unfold U_X5_by at hT
  refine lv_iconst (v := 0) hx hb dX5_by_0 (by decide) ?_
  refine lv_istore_n (lv' := [(2, .int 0), (0, .ref (ad ob)), (1, .int x1)]) hx hb dX5_by_1 rfl hl (Nat.le_of_ble_eq_true rfl) rfl (fun ls hl => ?_)
  obtain ⟨n2, hT⟩ := hT
  exact w_2 x1 n2 0 σ _ _ _ hT hI (lv_sub hl [1, 2, 0] rfl)
set_option maxHeartbeats 4000000 in
set_option maxRecDepth 100000 in
theorem um_X5_isMended (l : Launch) (D : va_G) (dA : Nat → ClassId) (ad : Nat → Nat) (Hs : Heap) (hA : cAd ad 1296 Hs.size) (σ : CS) (ob : Nat) (x1 : Int32) (x2 : Int32) (hp : stOK ob) (K : Unit → CS → Prop) (hT : U_X5_isMended σ ob x1 x2 K) : Met l yX5_isMended (ws_ yX5_isMended cX5_isMended 4 (none)) ({ frames := 903, cells := 0, slots := 0, locals := 18572 }) (va_Pc [.ref (ad ob), .int x1, .int x2] (cU D dA ad 1296 Hs σ)) (xQ rvU K (cU D dA ad 1296 Hs) (cA ad)) 0 0 (cA ad) := by
  refine xm_v hA (by decide) rfl (Nat.le_of_ble_eq_true rfl) ?_
  intro p e s m args below meth c Q hC hN hret hI ls hl
  have hx := hC.1.1
  have hb := hC.1.2.1
  have hB : 0 ≤ 0 ∧ 0 ≤ 0 := ⟨Nat.zero_le _, Nat.zero_le _⟩
  have hl : lv_has ls 4 [(0, .ref (ad ob)), (1, .int x1), (2, .int x2)] := hl
  unfold U_X5_isMended at hT
  refine lv_aload_n hx hb dX5_isMended_0 rfl (lv_at hl 0 rfl) ?_
  refine lv_iload_n hx hb dX5_isMended_1 rfl (lv_at hl 1 rfl) ?_
  refine lv_iload_n hx hb dX5_isMended_2 rfl (lv_at hl 2 rfl) ?_
  refine x_call (x_runV (i := ob) hC hI (xst hI (st_lt hp (d := 0) (by decide)) (sls_0 hp)) rfl (um_X5_fine l D dA ad Hs hC.2.2 σ ob x1 x2 hp _ hT) (lw_V q1523 q1463 q1464 q169 q1465) 2 hdV_X5_fine ⟨rfl, rfl⟩ ⟨Nat.le_of_ble_eq_true rfl, Nat.le_of_ble_eq_true rfl⟩ rfl hl.1 rfl (Nat.le_of_ble_eq_true rfl) hB dX5_isMended_3) hI (fun r2 σ1 H locs hT hI => ?_)
  refine W.eq (g2 := F0 m 6 ls [.int r2]) rfl ?_
  refine lv_istore_n (lv' := [(3, .int r2), (0, .ref (ad ob)), (1, .int x1), (2, .int x2)]) hx hb dX5_isMended_6 rfl hl (Nat.le_of_ble_eq_true rfl) rfl (fun ls hl => ?_)
  refine lv_aload_n hx hb dX5_isMended_7 rfl (lv_at hl 1 rfl) ?_
  refine xg5_4 (i := ob) hC hI (xst hI (st_lt hp (d := 0) (by decide)) (sls_0 hp)) q419 (fun _ h => h) dX5_isMended_8 ?_
  refine lv_iload_n hx hb dX5_isMended_11 rfl (lv_at hl 2 rfl) ?_
  refine lv_bipush (v := 99) hx hb dX5_isMended_12 (by decide) ?_
  refine lv_aload_n hx hb dX5_isMended_14 rfl (lv_at hl 1 rfl) ?_
  refine xg5_4 (i := ob) hC hI (xst hI (st_lt hp (d := 0) (by decide)) (sls_0 hp)) q419 (fun _ h => h) dX5_isMended_15 ?_
  refine lv_iload_n hx hb dX5_isMended_18 rfl (lv_at hl 2 rfl) ?_
  refine x_iald (i := ob + 3) hC hI (xst hI (st_lt hp (d := 3) (by decide)) (sls_3 hp)) hT dX5_isMended_19 (fun hT => ?_)
  refine lv_iconst (v := 1) hx hb dX5_isMended_20 (by decide) ?_
  refine lv_iadd hx hb dX5_isMended_21 ?_
  refine x_call (x_runS hC hI (um_J12_min l D dA ad 1296 Hs hC.2.2 σ1 99 ((gI σ1 (ob + 3) (Int32.toNatClampNeg x1)) + 1) _ hT) (lw_S q1499 q917 q179 q918) 2 hdS_J12_min ⟨rfl, rfl⟩ ⟨Nat.le_of_ble_eq_true rfl, Nat.le_of_ble_eq_true rfl⟩ rfl hl.1 rfl (Nat.le_of_ble_eq_true rfl) hB dX5_isMended_22) hI (fun r4 σ3 H locs hT hI => ?_)
  refine W.eq (g2 := F0 m 25 ls [.int r4, .int x1, .ref (ad (ob + 3))]) rfl ?_
  refine x_iast (i := ob + 3) hC hI (lt_cb (st_lt hp (d := 3) (by decide))) (xst hI (st_lt hp (d := 3) (by decide)) (sls_3 hp)) hT dX5_isMended_25 (fun σ5 H locs hT hI => ?_)
  refine lv_aload_n hx hb dX5_isMended_26 rfl (lv_at hl 1 rfl) ?_
  refine xg5_5 (i := ob) hC hI (xst hI (st_lt hp (d := 0) (by decide)) (sls_0 hp)) q421 (fun _ h => h) dX5_isMended_27 ?_
  refine lv_iload_n hx hb dX5_isMended_30 rfl (lv_at hl 2 rfl) ?_
  refine lv_iload_n hx hb dX5_isMended_31 rfl (lv_at hl 0 rfl) ?_
  refine x_iast (i := ob + 4) hC hI (lt_cb (st_lt hp (d := 4) (by decide))) (xst hI (st_lt hp (d := 4) (by decide)) (sls_4 hp)) hT dX5_isMended_32 (fun σ6 H locs hT hI => ?_)
  refine lv_aload_n hx hb dX5_isMended_33 rfl (lv_at hl 1 rfl) ?_
  refine xg5_2 (i := ob) hC hI (xst hI (st_lt hp (d := 0) (by decide)) (sls_0 hp)) q415 (fun _ h => h) dX5_isMended_34 ?_
  refine lv_iload_n hx hb dX5_isMended_37 rfl (lv_at hl 2 rfl) ?_
  refine lv_iconst (v := 2) hx hb dX5_isMended_38 (by decide) ?_
  refine x_iast (i := ob + 1) hC hI (lt_cb (st_lt hp (d := 1) (by decide))) (xst hI (st_lt hp (d := 1) (by decide)) (sls_1 hp)) hT dX5_isMended_39 (fun σ7 H locs hT hI => ?_)
  refine lv_aload_n hx hb dX5_isMended_40 rfl (lv_at hl 1 rfl) ?_
  refine lv_iload_n hx hb dX5_isMended_41 rfl (lv_at hl 2 rfl) ?_
  refine lv_iload_n hx hb dX5_isMended_42 rfl (lv_at hl 3 rfl) ?_
  refine lv_iconst (v := 1) hx hb dX5_isMended_43 (by decide) ?_
  refine lv_iadd hx hb dX5_isMended_44 ?_
  refine x_call (x_runV (i := ob) hC hI (xst hI (st_lt hp (d := 0) (by decide)) (sls_0 hp)) rfl (um_X5_tells l D dA ad Hs hC.2.2 σ7 ob x1 (x2 + 1) hp _ hT) (lw_V q1500 q1502 qs49 q169 q1503) 2 hdV_X5_tells ⟨rfl, rfl⟩ ⟨Nat.le_of_ble_eq_true rfl, Nat.le_of_ble_eq_true rfl⟩ rfl hl.1 rfl (Nat.le_of_ble_eq_true rfl) hB dX5_isMended_45) hI (fun _ σ8 H locs hT hI => ?_)
  refine W.eq (g2 := F0 m 48 ls []) rfl ?_
  exact hret _ _ _ _ _ _ _ _ hT hI hB dX5_isMended_48
set_option maxHeartbeats 4000000 in
set_option maxRecDepth 100000 in
theorem um_X5_first (l : Launch) (D : va_G) (dA : Nat → ClassId) (ad : Nat → Nat) (Hs : Heap) (hA : cAd ad 1296 Hs.size) (σ : CS) (ob : Nat) (x1 : Int32) (hp : stOK ob) (K : Int64 → CS → Prop) (hT : U_X5_first σ ob x1 K) : Met l yX5_first (ws_ yX5_first cX5_first 2 (some .long)) ({ frames := 902, cells := 0, slots := 0, locals := 18550 }) (va_Pc [.ref (ad ob), .int x1] (cU D dA ad 1296 Hs σ)) (xQ rvL K (cU D dA ad 1296 Hs) (cA ad)) 0 0 (cA ad) := by
  refine xm_l hA (by decide) rfl (Nat.le_of_ble_eq_true rfl) ?_
  intro p e s m args below meth c Q hC hN hret hI ls hl
  have hx := hC.1.1
  have hb := hC.1.2.1
  have hB : 0 ≤ 0 ∧ 0 ≤ 0 := ⟨Nat.zero_le _, Nat.zero_le _⟩
  have hl : lv_has ls 2 [(0, .ref (ad ob)), (1, .int x1)] := hl
  unfold U_X5_first at hT
  refine lv_aload_n hx hb dX5_first_0 rfl (lv_at hl 0 rfl) ?_
  refine xg5_12 (i := ob) hC hI (xst hI (st_lt hp (d := 0) (by decide)) (sls_0 hp)) q434 (fun _ h => h) dX5_first_1 ?_
  refine xgN0_0 (i := 0) hC hI (xst hI (Nat.le_of_ble_eq_true rfl) sl_0) q470 (fun _ h => h) dX5_first_4 ?_
  obtain ⟨q1, hq2, hT⟩ := hT
  refine W.eq (congrArg (fun z => F0 m 7 ls [z]) (xrq hq2)) ?_
  obtain ⟨hL, hT⟩ := hT
  refine xgN1_9 (i := q1) hC hI hL q262 (fun _ h => h) dX5_first_7 ?_
  refine x_ifnonnull (tgt := 28) hx hb dX5_first_10 (by decide) (fun hc => ?_) (fun hc => ?_)
  · replace hT := hT.1 hc
    refine lv_aload_n hx hb dX5_first_28 rfl (lv_at hl 0 rfl) ?_
    refine lv_aload_n hx hb dX5_first_29 rfl (lv_at hl 0 rfl) ?_
    refine xg5_12 (i := ob) hC hI (xst hI (st_lt hp (d := 0) (by decide)) (sls_0 hp)) q434 (fun _ h => h) dX5_first_30 ?_
    refine xgN0_0 (i := 0) hC hI (xst hI (Nat.le_of_ble_eq_true rfl) sl_0) q470 (fun _ h => h) dX5_first_33 ?_
    obtain ⟨q3, hq4, hT⟩ := hT
    refine W.eq (congrArg (fun z => F0 m 36 ls [z, .ref (ad ob)]) (xrq hq4)) ?_
    obtain ⟨hL, hT⟩ := hT
    refine xgN1_9 (i := q3) hC hI hL q262 (fun _ h => h) dX5_first_36 ?_
    refine lv_iload_n hx hb dX5_first_39 rfl (lv_at hl 1 rfl) ?_
    refine lv_iconst (v := -1) hx hb dX5_first_40 (by decide) ?_
    obtain ⟨q5, hq6, hT⟩ := hT
    refine W.eq (congrArg (fun z => F0 m 41 ls [.int (-1), .int x1, z, .ref (ad ob)]) (xrq hq6)) ?_
    refine x_call (x_runV (i := ob) hC hI (xst hI (st_lt hp (d := 0) (by decide)) (sls_0 hp)) rfl (um_X5_sum l D dA ad Hs hC.2.2 σ ob q5 x1 (-1) hp _ hT) (lw_V q1450 q1452 qs46 q169 q1453) 3 hdV_X5_sum ⟨rfl, rfl⟩ ⟨Nat.le_of_ble_eq_true rfl, Nat.le_of_ble_eq_true rfl⟩ rfl hl.1 rfl (Nat.le_of_ble_eq_true rfl) hB dX5_first_41) hI (fun r8 σ7 H locs hT hI => ?_)
    refine W.eq (g2 := F0 m 44 ls [.long r8]) rfl ?_
    exact hret _ _ _ _ _ _ _ _ hT hI hB dX5_first_44
  · replace hT := hT.2 hc
    refine lv_aload_n hx hb dX5_first_13 rfl (lv_at hl 0 rfl) ?_
    refine xg5_12 (i := ob) hC hI (xst hI (st_lt hp (d := 0) (by decide)) (sls_0 hp)) q434 (fun _ h => h) dX5_first_14 ?_
    refine lv_iload_n hx hb dX5_first_17 rfl (lv_at hl 1 rfl) ?_
    refine x_call (x_runVN (i := 0) hC hI (xst hI (Nat.le_of_ble_eq_true rfl) sl_0) rfl (um_X0_thingOf l D dA ad Hs hC.2.2 σ x1 _ hT) q1290 q1292 qs39 q158 q1293 1 hdS_X0_thingOf ⟨rfl, rfl⟩ ⟨Nat.le_of_ble_eq_true rfl, Nat.le_of_ble_eq_true rfl⟩ rfl hl.1 rfl (Nat.le_of_ble_eq_true rfl) hB dX5_first_18) hI (fun r10 σ9 H locs hT hI => ?_)
    refine W.eq (g2 := F0 m 21 ls [va_rf (rgR ad r10)]) rfl ?_
    obtain ⟨q11, hqe_q11, hT_q11⟩ := hT
    have hl_q11 := hl
    subst hqe_q11
    replace hT := hT_q11
    refine W.eq (g2 := F0 m 21 ls [.ref (ad q11)]) rfl ?_
    have hl : lv_has ls 2 [(0, .ref (ad ob)), (1, .int x1)] := hl_q11
    obtain ⟨hL, hT⟩ := hT
    refine xgN7_2 (i := q11) hC hI hL q832 (fun _ h => h) dX5_first_21 ?_
    refine lv_i2l hx hb dX5_first_24 rfl ?_
    refine lv_goto (tgt := 44) hx hb dX5_first_25 (by decide) ?_
    exact hret _ _ _ _ _ _ _ _ hT hI hB dX5_first_44
set_option maxHeartbeats 4000000 in
set_option maxRecDepth 100000 in
theorem um_X5_next (l : Launch) (D : va_G) (dA : Nat → ClassId) (ad : Nat → Nat) (Hs : Heap) (hA : cAd ad 1296 Hs.size) (σ : CS) (ob : Nat) (hp : stOK ob) (K : Int32 → CS → Prop) (hT : U_X5_next σ ob K) : Met l yX5_next (ws_ yX5_next cX5_next 5 (some .int)) ({ frames := 904, cells := 0, slots := 0, locals := 18594 }) (va_Pc [.ref (ad ob)] (cU D dA ad 1296 Hs σ)) (xQ rvI K (cU D dA ad 1296 Hs) (cA ad)) 0 0 (cA ad) := by
  refine xm_i hA (by decide) rfl (Nat.le_of_ble_eq_true rfl) ?_
  intro p e s m args below meth c Q hC hN hret hI ls hl
  have hx := hC.1.1
  have hb := hC.1.2.1
  have hB : 0 ≤ 0 ∧ 0 ≤ 0 := ⟨Nat.zero_le _, Nat.zero_le _⟩
  have hl : lv_has ls 5 [(0, .ref (ad ob))] := hl
  have w_9 : ∀ (n : Nat) (x1 : Int32) (x2 : Int64) (x4 : Int32) (σ : CS) (H : Heap) (locs : List Loc) (ls : Array Slot), U_X5_next_9 K ob n x1 x2 x4 σ → xI D dA ad 1296 Hs s.heap σ H locs → lv_has ls 5 [(0, .ref (ad ob)), (1, .int x1), (2, .long x2), (4, .int x4)] → W p l e ({ frames := 904, cells := 0, slots := 0, locals := 18594 }) s m args below meth c H locs 0 0 Q (F0 m 9 ls []) := by
    intro n
    induction n with
    | zero => intro x1 x2 x4 σ H locs ls hT; exact hT.elim
    | succ n ih =>
      intro x1 x2 x4 σ H locs ls hT hI hl
      unfold U_X5_next_9 at hT
      refine lv_iload hx hb dX5_next_9 (lv_at hl 3 rfl) ?_
      refine lv_aload_n hx hb dX5_next_11 rfl (lv_at hl 0 rfl) ?_
      refine xg5_12 (i := ob) hC hI (xst hI (st_lt hp (d := 0) (by decide)) (sls_0 hp)) q434 (fun _ h => h) dX5_next_12 ?_
      refine x_call (x_runVN (i := 0) hC hI (xst hI (Nat.le_of_ble_eq_true rfl) sl_0) rfl (um_X0_things l D dA ad Hs hC.2.2 σ _ hT) q1267 q1251 qs34 q158 q1252 0 hdS_X0_things ⟨rfl, rfl⟩ ⟨Nat.le_of_ble_eq_true rfl, Nat.le_of_ble_eq_true rfl⟩ rfl hl.1 rfl (Nat.le_of_ble_eq_true rfl) hB dX5_next_15) hI (fun r2 σ1 H locs hT hI => ?_)
      refine W.eq (g2 := F0 m 18 ls [.int r2, .int x4]) rfl ?_
      refine lv_icmp_ge (tgt := 72) hx hb dX5_next_18 (by decide) (fun hc => ?_) (fun hc => ?_)
      · replace hT := hT.1 hc
        refine lv_iload_n hx hb dX5_next_72 rfl (lv_at hl 1 rfl) ?_
        exact hret _ _ _ _ _ _ _ _ hT hI hB dX5_next_73
      · replace hT := hT.2 hc
        refine lv_aload_n hx hb dX5_next_21 rfl (lv_at hl 0 rfl) ?_
        refine xg5_2 (i := ob) hC hI (xst hI (st_lt hp (d := 0) (by decide)) (sls_0 hp)) q415 (fun _ h => h) dX5_next_22 ?_
        refine lv_iload hx hb dX5_next_25 (lv_at hl 3 rfl) ?_
        refine x_iald (i := ob + 1) hC hI (xst hI (st_lt hp (d := 1) (by decide)) (sls_1 hp)) hT dX5_next_27 (fun hT => ?_)
        refine lv_iconst (v := 1) hx hb dX5_next_28 (by decide) ?_
        refine lv_icmp_ne (tgt := 66) hx hb dX5_next_29 (by decide) (fun hc => ?_) (fun hc => ?_)
        · replace hT := hT.1 hc
          refine lv_iinc (v := x4 + 1) (lv' := [(4, .int (x4 + 1)), (0, .ref (ad ob)), (1, .int x1), (2, .long x2)]) hx hb dX5_next_66 hl (k := 3) rfl rfl (Nat.le_of_ble_eq_true rfl) rfl (fun ls hl => ?_)
          refine lv_goto (tgt := 9) hx hb dX5_next_69 (by decide) ?_
          exact ih x1 x2 (x4 + 1) σ1 _ _ _ hT hI (lv_sub hl [1, 2, 3, 0] rfl)
        · replace hT := hT.2 hc
          refine lv_aload_n hx hb dX5_next_32 rfl (lv_at hl 0 rfl) ?_
          refine lv_iload hx hb dX5_next_33 (lv_at hl 3 rfl) ?_
          refine x_call (x_runV (i := ob) hC hI (xst hI (st_lt hp (d := 0) (by decide)) (sls_0 hp)) rfl (um_X5_by l D dA ad Hs hC.2.2 σ1 ob x4 hp _ hT) (lw_V q1510 q1512 qs51 q169 q1513) 1 hdV_X5_by ⟨rfl, rfl⟩ ⟨Nat.le_of_ble_eq_true rfl, Nat.le_of_ble_eq_true rfl⟩ rfl hl.1 rfl (Nat.le_of_ble_eq_true rfl) hB dX5_next_35) hI (fun r4 σ3 H locs hT hI => ?_)
          refine W.eq (g2 := F0 m 38 ls [.int r4]) rfl ?_
          refine lv_iconst (v := -1) hx hb dX5_next_38 (by decide) ?_
          refine lv_icmp_eq (tgt := 66) hx hb dX5_next_39 (by decide) (fun hc => ?_) (fun hc => ?_)
          · replace hT := hT.1 hc
            refine lv_iinc (v := x4 + 1) (lv' := [(4, .int (x4 + 1)), (0, .ref (ad ob)), (1, .int x1), (2, .long x2)]) hx hb dX5_next_66 hl (k := 3) rfl rfl (Nat.le_of_ble_eq_true rfl) rfl (fun ls hl => ?_)
            refine lv_goto (tgt := 9) hx hb dX5_next_69 (by decide) ?_
            exact ih x1 x2 (x4 + 1) σ3 _ _ _ hT hI (lv_sub hl [1, 2, 3, 0] rfl)
          · replace hT := hT.2 hc
            refine lv_aload_n hx hb dX5_next_42 rfl (lv_at hl 0 rfl) ?_
            refine lv_iload hx hb dX5_next_43 (lv_at hl 3 rfl) ?_
            refine x_call (x_runV (i := ob) hC hI (xst hI (st_lt hp (d := 0) (by decide)) (sls_0 hp)) rfl (um_X5_first l D dA ad Hs hC.2.2 σ3 ob x4 hp _ hT) (lw_V q1515 q1517 qs52 q169 q1518) 1 hdV_X5_first ⟨rfl, rfl⟩ ⟨Nat.le_of_ble_eq_true rfl, Nat.le_of_ble_eq_true rfl⟩ rfl hl.1 rfl (Nat.le_of_ble_eq_true rfl) hB dX5_next_45) hI (fun r6 σ5 H locs hT hI => ?_)
            refine W.eq (g2 := F0 m 48 ls [.long r6]) rfl ?_
            refine lv_lload_n hx hb dX5_next_48 rfl (lv_at hl 2 rfl) ?_
            refine rl_gt (tgt := 56) hx hb dX5_next_49 dX5_next_50 (by decide) (fun hc => ?_) (fun hc => ?_)
            · replace hT := hT.1 hc
              refine lv_aload_n hx hb dX5_next_56 rfl (lv_at hl 0 rfl) ?_
              refine lv_iload hx hb dX5_next_57 (lv_at hl 3 rfl) ?_
              refine x_call (x_runV (i := ob) hC hI (xst hI (st_lt hp (d := 0) (by decide)) (sls_0 hp)) rfl (um_X5_first l D dA ad Hs hC.2.2 σ5 ob x4 hp _ hT) (lw_V q1515 q1517 qs52 q169 q1518) 1 hdV_X5_first ⟨rfl, rfl⟩ ⟨Nat.le_of_ble_eq_true rfl, Nat.le_of_ble_eq_true rfl⟩ rfl hl.1 rfl (Nat.le_of_ble_eq_true rfl) hB dX5_next_59) hI (fun r8 σ7 H locs hT hI => ?_)
              refine W.eq (g2 := F0 m 62 ls [.long r8]) rfl ?_
              refine lv_lstore_n (lv' := [(2, .long r8), (0, .ref (ad ob)), (1, .int x1), (4, .int x4)]) hx hb dX5_next_62 rfl hl (Nat.le_of_ble_eq_true rfl) rfl (fun ls hl => ?_)
              refine lv_iload hx hb dX5_next_63 (lv_at hl 3 rfl) ?_
              refine lv_istore_n (lv' := [(1, .int x4), (2, .long r8), (0, .ref (ad ob)), (4, .int x4)]) hx hb dX5_next_65 rfl hl (Nat.le_of_ble_eq_true rfl) rfl (fun ls hl => ?_)
              refine lv_iinc (v := x4 + 1) (lv' := [(4, .int (x4 + 1)), (1, .int x4), (2, .long r8), (0, .ref (ad ob))]) hx hb dX5_next_66 hl (k := 3) rfl rfl (Nat.le_of_ble_eq_true rfl) rfl (fun ls hl => ?_)
              refine lv_goto (tgt := 9) hx hb dX5_next_69 (by decide) ?_
              exact ih x4 r8 (x4 + 1) σ7 _ _ _ hT hI (lv_sub hl [3, 1, 2, 0] rfl)
            · replace hT := hT.2 hc
              refine lv_goto (tgt := 66) hx hb dX5_next_53 (by decide) ?_
              refine lv_iinc (v := x4 + 1) (lv' := [(4, .int (x4 + 1)), (0, .ref (ad ob)), (1, .int x1), (2, .long x2)]) hx hb dX5_next_66 hl (k := 3) rfl rfl (Nat.le_of_ble_eq_true rfl) rfl (fun ls hl => ?_)
              refine lv_goto (tgt := 9) hx hb dX5_next_69 (by decide) ?_
              exact ih x1 x2 (x4 + 1) σ5 _ _ _ hT hI (lv_sub hl [1, 2, 3, 0] rfl)
  unfold U_X5_next at hT
  refine lv_iconst (v := -1) hx hb dX5_next_0 (by decide) ?_
  refine lv_istore_n (lv' := [(1, .int (-1)), (0, .ref (ad ob))]) hx hb dX5_next_1 rfl hl (Nat.le_of_ble_eq_true rfl) rfl (fun ls hl => ?_)
  refine lv_ldc2 hx hb hC.1.2.2.2.1 (hC.1.2.2.2.2 _ q1509) dX5_next_2 ?_
  refine lv_lstore_n (lv' := [(2, .long (-9223372036854775808)), (1, .int (-1)), (0, .ref (ad ob))]) hx hb dX5_next_5 rfl hl (Nat.le_of_ble_eq_true rfl) rfl (fun ls hl => ?_)
  refine lv_iconst (v := 0) hx hb dX5_next_6 (by decide) ?_
  refine lv_istore (lv' := [(4, .int 0), (2, .long (-9223372036854775808)), (1, .int (-1)), (0, .ref (ad ob))]) hx hb dX5_next_7 hl (Nat.le_of_ble_eq_true rfl) rfl (fun ls hl => ?_)
  obtain ⟨n9, hT⟩ := hT
  exact w_9 n9 (-1) (-9223372036854775808) 0 σ _ _ _ hT hI (lv_sub hl [3, 2, 1, 0] rfl)
set_option maxHeartbeats 4000000 in
set_option maxRecDepth 100000 in
theorem um_X5_passes (l : Launch) (D : va_G) (dA : Nat → ClassId) (ad : Nat → Nat) (Hs : Heap) (hA : cAd ad 1296 Hs.size) (σ : CS) (ob : Nat) (hp : stOK ob) (K : Int32 → CS → Prop) (hT : U_X5_passes σ ob K) : Met l yX5_passes (ws_ yX5_passes cX5_passes 3 (some .int)) ({ frames := 907, cells := 0, slots := 0, locals := 18640 }) (va_Pc [.ref (ad ob)] (cU D dA ad 1296 Hs σ)) (xQ rvI K (cU D dA ad 1296 Hs) (cA ad)) 0 0 (cA ad) := by
  refine xm_i hA (by decide) rfl (Nat.le_of_ble_eq_true rfl) ?_
  intro p e s m args below meth c Q hC hN hret hI ls hl
  have hx := hC.1.1
  have hb := hC.1.2.1
  have hB : 0 ≤ 0 ∧ 0 ≤ 0 := ⟨Nat.zero_le _, Nat.zero_le _⟩
  have hl : lv_has ls 3 [(0, .ref (ad ob))] := hl
  have w_157 : ∀ (n : Nat) (x1 : Int32) (σ : CS) (H : Heap) (locs : List Loc) (ls : Array Slot), U_X5_passes_157 K ob n x1 σ → xI D dA ad 1296 Hs s.heap σ H locs → lv_has ls 3 [(0, .ref (ad ob)), (1, .int x1)] → W p l e ({ frames := 907, cells := 0, slots := 0, locals := 18640 }) s m args below meth c H locs 0 0 Q (F0 m 157 ls []) := by
    intro n
    induction n with
    | zero => intro x1 σ H locs ls hT; exact hT.elim
    | succ n ih =>
      intro x1 σ H locs ls hT hI hl
      unfold U_X5_passes_157 at hT
      refine lv_iload_n hx hb dX5_passes_157 rfl (lv_at hl 1 rfl) ?_
      refine lv_iconst (v := -1) hx hb dX5_passes_158 (by decide) ?_
      refine lv_icmp_eq (tgt := 197) hx hb dX5_passes_159 (by decide) (fun hc => ?_) (fun hc => ?_)
      · replace hT := hT.1 hc
        refine lv_aload_n hx hb dX5_passes_197 rfl (lv_at hl 0 rfl) ?_
        refine lv_dup hx hb dX5_passes_198 rfl ?_
        refine xg5_0 (i := ob) hC hI (xst hI (st_lt hp (d := 0) (by decide)) (sls_0 hp)) q411 (fun _ h => h) dX5_passes_199 ?_
        refine lv_iconst (v := 1) hx hb dX5_passes_202 (by decide) ?_
        refine lv_iadd hx hb dX5_passes_203 ?_
        refine xp5_0 (i := ob) (v := (gI σ ob 0) + 1) hC hI (lt_cb (st_lt hp (d := 0) (by decide))) (xst hI (st_lt hp (d := 0) (by decide)) (sls_0 hp)) hT q411 (fun _ h => h) dX5_passes_204 (fun σ1 H locs hT hI => ?_)
        refine lv_aload_n hx hb dX5_passes_207 rfl (lv_at hl 0 rfl) ?_
        refine xg5_8 (i := ob) hC hI (xst hI (st_lt hp (d := 0) (by decide)) (sls_0 hp)) q427 (fun _ h => h) dX5_passes_208 ?_
        refine x_call (x_runS hC hI (um_J16_bitCount l D dA ad 1296 Hs hC.2.2 σ1 (gI σ1 ob 8) _ hT) (lw_S q1524 q1269 q197 q1270) 1 hdS_J16_bitCount ⟨rfl, rfl⟩ ⟨Nat.le_of_ble_eq_true rfl, Nat.le_of_ble_eq_true rfl⟩ rfl hl.1 rfl (Nat.le_of_ble_eq_true rfl) hB dX5_passes_211) hI (fun r3 σ2 H locs hT hI => ?_)
        refine W.eq (g2 := F0 m 214 ls [.int r3]) rfl ?_
        exact hret _ _ _ _ _ _ _ _ hT hI hB dX5_passes_214
      · replace hT := hT.2 hc
        refine lv_aload_n hx hb dX5_passes_162 rfl (lv_at hl 0 rfl) ?_
        refine lv_iload_n hx hb dX5_passes_163 rfl (lv_at hl 1 rfl) ?_
        refine x_call (x_runV (i := ob) hC hI (xst hI (st_lt hp (d := 0) (by decide)) (sls_0 hp)) rfl (um_X5_by l D dA ad Hs hC.2.2 σ ob x1 hp _ hT) (lw_V q1510 q1512 qs51 q169 q1513) 1 hdV_X5_by ⟨rfl, rfl⟩ ⟨Nat.le_of_ble_eq_true rfl, Nat.le_of_ble_eq_true rfl⟩ rfl hl.1 rfl (Nat.le_of_ble_eq_true rfl) hB dX5_passes_164) hI (fun r5 σ4 H locs hT hI => ?_)
        refine W.eq (g2 := F0 m 167 ls [.int r5]) rfl ?_
        refine lv_istore_n (lv' := [(2, .int r5), (0, .ref (ad ob)), (1, .int x1)]) hx hb dX5_passes_167 rfl hl (Nat.le_of_ble_eq_true rfl) rfl (fun ls hl => ?_)
        refine lv_aload_n hx hb dX5_passes_168 rfl (lv_at hl 1 rfl) ?_
        refine xg5_11 (i := ob) hC hI (xst hI (st_lt hp (d := 0) (by decide)) (sls_0 hp)) q433 (fun _ h => h) dX5_passes_169 ?_
        refine lv_iload_n hx hb dX5_passes_172 rfl (lv_at hl 0 rfl) ?_
        refine lv_dup2_11 hx hb dX5_passes_173 rfl rfl ?_
        refine x_iald (i := ob + 57) hC hI (xst hI (st_lt hp (d := 57) (by decide)) (sls_57 hp)) hT dX5_passes_174 (fun hT => ?_)
        refine lv_aload_n hx hb dX5_passes_175 rfl (lv_at hl 1 rfl) ?_
        refine lv_iload_n hx hb dX5_passes_176 rfl (lv_at hl 2 rfl) ?_
        refine lv_iload_n hx hb dX5_passes_177 rfl (lv_at hl 0 rfl) ?_
        refine x_call (x_runV (i := ob) hC hI (xst hI (st_lt hp (d := 0) (by decide)) (sls_0 hp)) rfl (um_X5_takes l D dA ad Hs hC.2.2 σ4 ob x1 r5 hp _ hT) (lw_V q1514 q1446 q1447 q169 q1448) 2 hdV_X5_takes ⟨rfl, rfl⟩ ⟨Nat.le_of_ble_eq_true rfl, Nat.le_of_ble_eq_true rfl⟩ rfl hl.1 rfl (Nat.le_of_ble_eq_true rfl) hB dX5_passes_178) hI (fun r7 σ6 H locs hT hI => ?_)
        refine W.eq (g2 := F0 m 181 ls [.int r7, .int (gI σ4 (ob + 57) (Int32.toNatClampNeg r5)), .int r5, .ref (ad (ob + 57))]) rfl ?_
        refine lv_isub hx hb dX5_passes_181 ?_
        refine x_iast (i := ob + 57) hC hI (lt_cb (st_lt hp (d := 57) (by decide))) (xst hI (st_lt hp (d := 57) (by decide)) (sls_57 hp)) hT dX5_passes_182 (fun σ8 H locs hT hI => ?_)
        refine lv_aload_n hx hb dX5_passes_183 rfl (lv_at hl 1 rfl) ?_
        refine lv_iload_n hx hb dX5_passes_184 rfl (lv_at hl 2 rfl) ?_
        refine lv_iload_n hx hb dX5_passes_185 rfl (lv_at hl 0 rfl) ?_
        refine x_call (x_runV (i := ob) hC hI (xst hI (st_lt hp (d := 0) (by decide)) (sls_0 hp)) rfl (um_X5_isMended l D dA ad Hs hC.2.2 σ8 ob x1 r5 hp _ hT) (lw_V q1519 q1520 q1521 q169 q1522) 2 hdV_X5_isMended ⟨rfl, rfl⟩ ⟨Nat.le_of_ble_eq_true rfl, Nat.le_of_ble_eq_true rfl⟩ rfl hl.1 rfl (Nat.le_of_ble_eq_true rfl) hB dX5_passes_186) hI (fun _ σ9 H locs hT hI => ?_)
        refine W.eq (g2 := F0 m 189 ls []) rfl ?_
        refine lv_aload_n hx hb dX5_passes_189 rfl (lv_at hl 1 rfl) ?_
        refine x_call (x_runV (i := ob) hC hI (xst hI (st_lt hp (d := 0) (by decide)) (sls_0 hp)) rfl (um_X5_next l D dA ad Hs hC.2.2 σ9 ob hp _ hT) (lw_V q1505 q1507 qs50 q169 q1508) 0 hdV_X5_next ⟨rfl, rfl⟩ ⟨Nat.le_of_ble_eq_true rfl, Nat.le_of_ble_eq_true rfl⟩ rfl hl.1 rfl (Nat.le_of_ble_eq_true rfl) hB dX5_passes_190) hI (fun r12 σ11 H locs hT hI => ?_)
        refine W.eq (g2 := F0 m 193 ls [.int r12]) rfl ?_
        refine lv_istore_n (lv' := [(1, .int r12), (2, .int r5), (0, .ref (ad ob))]) hx hb dX5_passes_193 rfl hl (Nat.le_of_ble_eq_true rfl) rfl (fun ls hl => ?_)
        refine lv_goto (tgt := 157) hx hb dX5_passes_194 (by decide) ?_
        exact ih r12 σ11 _ _ _ hT hI (lv_sub hl [2, 0] rfl)
  have w_118 : ∀ (n : Nat) (x1 : Int32) (σ : CS) (H : Heap) (locs : List Loc) (ls : Array Slot), U_X5_passes_118 K ob n x1 σ → xI D dA ad 1296 Hs s.heap σ H locs → lv_has ls 3 [(0, .ref (ad ob)), (1, .int x1)] → W p l e ({ frames := 907, cells := 0, slots := 0, locals := 18640 }) s m args below meth c H locs 0 0 Q (F0 m 118 ls []) := by
    intro n
    induction n with
    | zero => intro x1 σ H locs ls hT; exact hT.elim
    | succ n ih =>
      intro x1 σ H locs ls hT hI hl
      unfold U_X5_passes_118 at hT
      refine lv_iload_n hx hb dX5_passes_118 rfl (lv_at hl 1 rfl) ?_
      refine lv_aload_n hx hb dX5_passes_119 rfl (lv_at hl 0 rfl) ?_
      refine xg5_12 (i := ob) hC hI (xst hI (st_lt hp (d := 0) (by decide)) (sls_0 hp)) q434 (fun _ h => h) dX5_passes_120 ?_
      refine x_call (x_runVN (i := 0) hC hI (xst hI (Nat.le_of_ble_eq_true rfl) sl_0) rfl (um_X0_menders l D dA ad Hs hC.2.2 σ _ hT) q1504 q1257 qs35 q158 q1258 0 hdS_X0_menders ⟨rfl, rfl⟩ ⟨Nat.le_of_ble_eq_true rfl, Nat.le_of_ble_eq_true rfl⟩ rfl hl.1 rfl (Nat.le_of_ble_eq_true rfl) hB dX5_passes_123) hI (fun r14 σ13 H locs hT hI => ?_)
      refine W.eq (g2 := F0 m 126 ls [.int r14, .int x1]) rfl ?_
      refine lv_icmp_ge (tgt := 152) hx hb dX5_passes_126 (by decide) (fun hc => ?_) (fun hc => ?_)
      · replace hT := hT.1 hc
        refine lv_aload_n hx hb dX5_passes_152 rfl (lv_at hl 0 rfl) ?_
        refine x_call (x_runV (i := ob) hC hI (xst hI (st_lt hp (d := 0) (by decide)) (sls_0 hp)) rfl (um_X5_next l D dA ad Hs hC.2.2 σ13 ob hp _ hT) (lw_V q1505 q1507 qs50 q169 q1508) 0 hdV_X5_next ⟨rfl, rfl⟩ ⟨Nat.le_of_ble_eq_true rfl, Nat.le_of_ble_eq_true rfl⟩ rfl hl.1 rfl (Nat.le_of_ble_eq_true rfl) hB dX5_passes_153) hI (fun r16 σ15 H locs hT hI => ?_)
        refine W.eq (g2 := F0 m 156 ls [.int r16]) rfl ?_
        refine lv_istore_n (lv' := [(1, .int r16), (0, .ref (ad ob))]) hx hb dX5_passes_156 rfl hl (Nat.le_of_ble_eq_true rfl) rfl (fun ls hl => ?_)
        obtain ⟨n157, hT⟩ := hT
        exact w_157 n157 r16 σ15 _ _ _ hT hI (lv_sub hl [1, 0] rfl)
      · replace hT := hT.2 hc
        refine lv_aload_n hx hb dX5_passes_129 rfl (lv_at hl 0 rfl) ?_
        refine xg5_11 (i := ob) hC hI (xst hI (st_lt hp (d := 0) (by decide)) (sls_0 hp)) q433 (fun _ h => h) dX5_passes_130 ?_
        refine lv_iload_n hx hb dX5_passes_133 rfl (lv_at hl 1 rfl) ?_
        refine lv_aload_n hx hb dX5_passes_134 rfl (lv_at hl 0 rfl) ?_
        refine xg5_12 (i := ob) hC hI (xst hI (st_lt hp (d := 0) (by decide)) (sls_0 hp)) q434 (fun _ h => h) dX5_passes_135 ?_
        refine lv_iload_n hx hb dX5_passes_138 rfl (lv_at hl 1 rfl) ?_
        refine x_call (x_runVN (i := 0) hC hI (xst hI (Nat.le_of_ble_eq_true rfl) sl_0) rfl (um_X0_menderOf l D dA ad Hs hC.2.2 σ13 x1 _ hT) q1454 q1438 qs45 q158 q1439 1 hdS_X0_menderOf ⟨rfl, rfl⟩ ⟨Nat.le_of_ble_eq_true rfl, Nat.le_of_ble_eq_true rfl⟩ rfl hl.1 rfl (Nat.le_of_ble_eq_true rfl) hB dX5_passes_139) hI (fun r18 σ17 H locs hT hI => ?_)
        refine W.eq (g2 := F0 m 142 ls [va_rf (rgR ad r18), .int x1, .ref (ad (ob + 57))]) rfl ?_
        obtain ⟨q19, hqe_q19, hT_q19⟩ := hT
        have hl_q19 := hl
        subst hqe_q19
        replace hT := hT_q19
        refine W.eq (g2 := F0 m 142 ls [.ref (ad q19), .int x1, .ref (ad (ob + 57))]) rfl ?_
        have hl : lv_has ls 3 [(0, .ref (ad ob)), (1, .int x1)] := hl_q19
        obtain ⟨hL, hT⟩ := hT
        refine xgN8_2 (i := q19) hC hI hL q935 (fun _ h => h) dX5_passes_142 ?_
        refine x_iast (i := ob + 57) hC hI (lt_cb (st_lt hp (d := 57) (by decide))) (xst hI (st_lt hp (d := 57) (by decide)) (sls_57 hp)) hT dX5_passes_145 (fun σ20 H locs hT hI => ?_)
        refine lv_iinc (v := x1 + 1) (lv' := [(1, .int (x1 + 1)), (0, .ref (ad ob))]) hx hb dX5_passes_146 hl (k := 1) rfl rfl (Nat.le_of_ble_eq_true rfl) rfl (fun ls hl => ?_)
        refine lv_goto (tgt := 118) hx hb dX5_passes_149 (by decide) ?_
        exact ih (x1 + 1) σ20 _ _ _ hT hI (lv_sub hl [1, 0] rfl)
  have w_83 : ∀ (n : Nat) (x1 : Int32) (σ : CS) (H : Heap) (locs : List Loc) (ls : Array Slot), U_X5_passes_83 K ob n x1 σ → xI D dA ad 1296 Hs s.heap σ H locs → lv_has ls 3 [(0, .ref (ad ob)), (1, .int x1)] → W p l e ({ frames := 907, cells := 0, slots := 0, locals := 18640 }) s m args below meth c H locs 0 0 Q (F0 m 83 ls []) := by
    intro n
    induction n with
    | zero => intro x1 σ H locs ls hT; exact hT.elim
    | succ n ih =>
      intro x1 σ H locs ls hT hI hl
      unfold U_X5_passes_83 at hT
      refine lv_iload_n hx hb dX5_passes_83 rfl (lv_at hl 1 rfl) ?_
      refine lv_aload_n hx hb dX5_passes_84 rfl (lv_at hl 0 rfl) ?_
      refine xg5_12 (i := ob) hC hI (xst hI (st_lt hp (d := 0) (by decide)) (sls_0 hp)) q434 (fun _ h => h) dX5_passes_85 ?_
      refine x_call (x_runVN (i := 0) hC hI (xst hI (Nat.le_of_ble_eq_true rfl) sl_0) rfl (um_X0_things l D dA ad Hs hC.2.2 σ _ hT) q1267 q1251 qs34 q158 q1252 0 hdS_X0_things ⟨rfl, rfl⟩ ⟨Nat.le_of_ble_eq_true rfl, Nat.le_of_ble_eq_true rfl⟩ rfl hl.1 rfl (Nat.le_of_ble_eq_true rfl) hB dX5_passes_88) hI (fun r22 σ21 H locs hT hI => ?_)
      refine W.eq (g2 := F0 m 91 ls [.int r22, .int x1]) rfl ?_
      refine lv_icmp_ge (tgt := 116) hx hb dX5_passes_91 (by decide) (fun hc => ?_) (fun hc => ?_)
      · replace hT := hT.1 hc
        refine lv_iconst (v := 0) hx hb dX5_passes_116 (by decide) ?_
        refine lv_istore_n (lv' := [(1, .int 0), (0, .ref (ad ob))]) hx hb dX5_passes_117 rfl hl (Nat.le_of_ble_eq_true rfl) rfl (fun ls hl => ?_)
        obtain ⟨n118, hT⟩ := hT
        exact w_118 n118 0 σ21 _ _ _ hT hI (lv_sub hl [1, 0] rfl)
      · replace hT := hT.2 hc
        refine lv_aload_n hx hb dX5_passes_94 rfl (lv_at hl 0 rfl) ?_
        refine xg5_8 (i := ob) hC hI (xst hI (st_lt hp (d := 0) (by decide)) (sls_0 hp)) q427 (fun _ h => h) dX5_passes_95 ?_
        refine lv_iload_n hx hb dX5_passes_98 rfl (lv_at hl 1 rfl) ?_
        refine x_call (x_runSN hC hI (um_X0_has l D dA ad 1296 Hs hC.2.2 σ21 (gI σ21 ob 8) x1 _ hT) q1494 q1094 q158 q1095 2 hdS_X0_has ⟨rfl, rfl⟩ ⟨Nat.le_of_ble_eq_true rfl, Nat.le_of_ble_eq_true rfl⟩ rfl hl.1 rfl (Nat.le_of_ble_eq_true rfl) hB dX5_passes_99) hI (fun r24 σ23 H locs hT hI => ?_)
        refine W.eq (g2 := F0 m 102 ls [.int r24]) rfl ?_
        refine lv_if_eq (tgt := 110) hx hb dX5_passes_102 (by decide) (fun hc => ?_) (fun hc => ?_)
        · replace hT := hT.1 hc
          refine lv_iinc (v := x1 + 1) (lv' := [(1, .int (x1 + 1)), (0, .ref (ad ob))]) hx hb dX5_passes_110 hl (k := 1) rfl rfl (Nat.le_of_ble_eq_true rfl) rfl (fun ls hl => ?_)
          refine lv_goto (tgt := 83) hx hb dX5_passes_113 (by decide) ?_
          exact ih (x1 + 1) σ23 _ _ _ hT hI (lv_sub hl [1, 0] rfl)
        · replace hT := hT.2 hc
          refine lv_aload_n hx hb dX5_passes_105 rfl (lv_at hl 0 rfl) ?_
          refine lv_iload_n hx hb dX5_passes_106 rfl (lv_at hl 1 rfl) ?_
          refine x_call (x_runV (i := ob) hC hI (xst hI (st_lt hp (d := 0) (by decide)) (sls_0 hp)) rfl (um_X5_breaks l D dA ad Hs hC.2.2 σ23 ob x1 hp _ hT) (lw_V q1495 q1496 q1497 q169 q1498) 1 hdV_X5_breaks ⟨rfl, rfl⟩ ⟨Nat.le_of_ble_eq_true rfl, Nat.le_of_ble_eq_true rfl⟩ rfl hl.1 rfl (Nat.le_of_ble_eq_true rfl) hB dX5_passes_107) hI (fun _ σ25 H locs hT hI => ?_)
          refine W.eq (g2 := F0 m 110 ls []) rfl ?_
          refine lv_iinc (v := x1 + 1) (lv' := [(1, .int (x1 + 1)), (0, .ref (ad ob))]) hx hb dX5_passes_110 hl (k := 1) rfl rfl (Nat.le_of_ble_eq_true rfl) rfl (fun ls hl => ?_)
          refine lv_goto (tgt := 83) hx hb dX5_passes_113 (by decide) ?_
          exact ih (x1 + 1) σ25 _ _ _ hT hI (lv_sub hl [1, 0] rfl)
  have w_7 : ∀ (n : Nat) (x1 : Int32) (σ : CS) (H : Heap) (locs : List Loc) (ls : Array Slot), U_X5_passes_7 K ob n x1 σ → xI D dA ad 1296 Hs s.heap σ H locs → lv_has ls 3 [(0, .ref (ad ob)), (1, .int x1)] → W p l e ({ frames := 907, cells := 0, slots := 0, locals := 18640 }) s m args below meth c H locs 0 0 Q (F0 m 7 ls []) := by
    intro n
    induction n with
    | zero => intro x1 σ H locs ls hT; exact hT.elim
    | succ n ih =>
      intro x1 σ H locs ls hT hI hl
      unfold U_X5_passes_7 at hT
      refine lv_iload_n hx hb dX5_passes_7 rfl (lv_at hl 1 rfl) ?_
      refine lv_aload_n hx hb dX5_passes_8 rfl (lv_at hl 0 rfl) ?_
      refine xg5_12 (i := ob) hC hI (xst hI (st_lt hp (d := 0) (by decide)) (sls_0 hp)) q434 (fun _ h => h) dX5_passes_9 ?_
      refine x_call (x_runVN (i := 0) hC hI (xst hI (Nat.le_of_ble_eq_true rfl) sl_0) rfl (um_X0_things l D dA ad Hs hC.2.2 σ _ hT) q1267 q1251 qs34 q158 q1252 0 hdS_X0_things ⟨rfl, rfl⟩ ⟨Nat.le_of_ble_eq_true rfl, Nat.le_of_ble_eq_true rfl⟩ rfl hl.1 rfl (Nat.le_of_ble_eq_true rfl) hB dX5_passes_12) hI (fun r28 σ27 H locs hT hI => ?_)
      refine W.eq (g2 := F0 m 15 ls [.int r28, .int x1]) rfl ?_
      refine lv_icmp_ge (tgt := 81) hx hb dX5_passes_15 (by decide) (fun hc => ?_) (fun hc => ?_)
      · replace hT := hT.1 hc
        refine lv_iconst (v := 0) hx hb dX5_passes_81 (by decide) ?_
        refine lv_istore_n (lv' := [(1, .int 0), (0, .ref (ad ob))]) hx hb dX5_passes_82 rfl hl (Nat.le_of_ble_eq_true rfl) rfl (fun ls hl => ?_)
        obtain ⟨n83, hT⟩ := hT
        exact w_83 n83 0 σ27 _ _ _ hT hI (lv_sub hl [1, 0] rfl)
      · replace hT := hT.2 hc
        refine lv_aload_n hx hb dX5_passes_18 rfl (lv_at hl 0 rfl) ?_
        refine xg5_12 (i := ob) hC hI (xst hI (st_lt hp (d := 0) (by decide)) (sls_0 hp)) q434 (fun _ h => h) dX5_passes_19 ?_
        refine xgN0_0 (i := 0) hC hI (xst hI (Nat.le_of_ble_eq_true rfl) sl_0) q470 (fun _ h => h) dX5_passes_22 ?_
        obtain ⟨q29, hq30, hT⟩ := hT
        refine W.eq (congrArg (fun z => F0 m 25 ls [z]) (xrq hq30)) ?_
        obtain ⟨hL, hT⟩ := hT
        refine xgN1_6 (i := q29) hC hI hL q256 (fun _ h => h) dX5_passes_25 ?_
        refine x_ifnull (tgt := 81) hx hb dX5_passes_28 (by decide) (fun hc => ?_) (fun hc => ?_)
        · replace hT := hT.1 hc
          refine lv_iconst (v := 0) hx hb dX5_passes_81 (by decide) ?_
          refine lv_istore_n (lv' := [(1, .int 0), (0, .ref (ad ob))]) hx hb dX5_passes_82 rfl hl (Nat.le_of_ble_eq_true rfl) rfl (fun ls hl => ?_)
          obtain ⟨n83, hT⟩ := hT
          exact w_83 n83 0 σ27 _ _ _ hT hI (lv_sub hl [1, 0] rfl)
        · replace hT := hT.2 hc
          refine lv_aload_n hx hb dX5_passes_31 rfl (lv_at hl 0 rfl) ?_
          refine lv_dup hx hb dX5_passes_32 rfl ?_
          refine xg5_8 (i := ob) hC hI (xst hI (st_lt hp (d := 0) (by decide)) (sls_0 hp)) q427 (fun _ h => h) dX5_passes_33 ?_
          refine lv_aload_n hx hb dX5_passes_36 rfl (lv_at hl 0 rfl) ?_
          refine xg5_2 (i := ob) hC hI (xst hI (st_lt hp (d := 0) (by decide)) (sls_0 hp)) q415 (fun _ h => h) dX5_passes_37 ?_
          refine lv_iload_n hx hb dX5_passes_40 rfl (lv_at hl 1 rfl) ?_
          refine x_iald (i := ob + 1) hC hI (xst hI (st_lt hp (d := 1) (by decide)) (sls_1 hp)) hT dX5_passes_41 (fun hT => ?_)
          refine lv_iconst (v := 1) hx hb dX5_passes_42 (by decide) ?_
          refine lv_icmp_eq (tgt := 70) hx hb dX5_passes_43 (by decide) (fun hc => ?_) (fun hc => ?_)
          · replace hT := hT.1 hc
            refine lv_iconst (v := 0) hx hb dX5_passes_70 (by decide) ?_
            refine lv_ior hx hb dX5_passes_71 ?_
            refine xp5_8 (i := ob) (v := (gI σ27 ob 8) ||| 0) hC hI (lt_cb (st_lt hp (d := 0) (by decide))) (xst hI (st_lt hp (d := 0) (by decide)) (sls_0 hp)) hT q427 (fun _ h => h) dX5_passes_72 (fun σ31 H locs hT hI => ?_)
            refine lv_iinc (v := x1 + 1) (lv' := [(1, .int (x1 + 1)), (0, .ref (ad ob))]) hx hb dX5_passes_75 hl (k := 1) rfl rfl (Nat.le_of_ble_eq_true rfl) rfl (fun ls hl => ?_)
            refine lv_goto (tgt := 7) hx hb dX5_passes_78 (by decide) ?_
            exact ih (x1 + 1) σ31 _ _ _ hT hI (lv_sub hl [1, 0] rfl)
          · replace hT := hT.2 hc
            refine lv_aload_n hx hb dX5_passes_46 rfl (lv_at hl 0 rfl) ?_
            refine lv_aload_n hx hb dX5_passes_47 rfl (lv_at hl 0 rfl) ?_
            refine xg5_12 (i := ob) hC hI (xst hI (st_lt hp (d := 0) (by decide)) (sls_0 hp)) q434 (fun _ h => h) dX5_passes_48 ?_
            refine xgN0_0 (i := 0) hC hI (xst hI (Nat.le_of_ble_eq_true rfl) sl_0) q470 (fun _ h => h) dX5_passes_51 ?_
            obtain ⟨q32, hq33, hT⟩ := hT
            refine W.eq (congrArg (fun z => F0 m 54 ls [z, .ref (ad ob), .int (gI σ27 ob 8), .ref (ad ob)]) (xrq hq33)) ?_
            obtain ⟨hL, hT⟩ := hT
            refine xgN1_6 (i := q32) hC hI hL q256 (fun _ h => h) dX5_passes_54 ?_
            refine lv_iload_n hx hb dX5_passes_57 rfl (lv_at hl 1 rfl) ?_
            obtain ⟨q34, hq35, hT⟩ := hT
            refine W.eq (congrArg (fun z => F0 m 58 ls [.int x1, z, .ref (ad ob), .int (gI σ27 ob 8), .ref (ad ob)]) (xrq hq35)) ?_
            refine x_call (x_runV (i := ob) hC hI (xst hI (st_lt hp (d := 0) (by decide)) (sls_0 hp)) rfl (um_X5_holds l D dA ad Hs hC.2.2 900 18500 _ _ (ev_V l D dA ad Hs hC.2.2 100) (ev_T l D dA ad Hs hC.2.2 100) σ27 ob q34 x1 hp _ hT) (lw_V q1282 q1284 qs37 q169 q1285) 2 hdV_X5_holds ⟨rfl, rfl⟩ ⟨Nat.le_of_ble_eq_true rfl, Nat.le_of_ble_eq_true rfl⟩ rfl hl.1 rfl (Nat.le_of_ble_eq_true rfl) hB dX5_passes_58) hI (fun r37 σ36 H locs hT hI => ?_)
            refine W.eq (g2 := F0 m 61 ls [.int r37, .int (gI σ27 ob 8), .ref (ad ob)]) rfl ?_
            refine lv_if_eq (tgt := 70) hx hb dX5_passes_61 (by decide) (fun hc => ?_) (fun hc => ?_)
            · replace hT := hT.1 hc
              refine lv_iconst (v := 0) hx hb dX5_passes_70 (by decide) ?_
              refine lv_ior hx hb dX5_passes_71 ?_
              refine xp5_8 (i := ob) (v := (gI σ27 ob 8) ||| 0) hC hI (lt_cb (st_lt hp (d := 0) (by decide))) (xst hI (st_lt hp (d := 0) (by decide)) (sls_0 hp)) hT q427 (fun _ h => h) dX5_passes_72 (fun σ38 H locs hT hI => ?_)
              refine lv_iinc (v := x1 + 1) (lv' := [(1, .int (x1 + 1)), (0, .ref (ad ob))]) hx hb dX5_passes_75 hl (k := 1) rfl rfl (Nat.le_of_ble_eq_true rfl) rfl (fun ls hl => ?_)
              refine lv_goto (tgt := 7) hx hb dX5_passes_78 (by decide) ?_
              exact ih (x1 + 1) σ38 _ _ _ hT hI (lv_sub hl [1, 0] rfl)
            · replace hT := hT.2 hc
              refine lv_iconst (v := 1) hx hb dX5_passes_64 (by decide) ?_
              refine lv_iload_n hx hb dX5_passes_65 rfl (lv_at hl 1 rfl) ?_
              refine lv_ishl hx hb dX5_passes_66 ?_
              refine lv_goto (tgt := 71) hx hb dX5_passes_67 (by decide) ?_
              refine lv_ior hx hb dX5_passes_71 ?_
              refine xp5_8 (i := ob) (v := (gI σ27 ob 8) ||| (1 <<< (x1 &&& 31))) hC hI (lt_cb (st_lt hp (d := 0) (by decide))) (xst hI (st_lt hp (d := 0) (by decide)) (sls_0 hp)) hT q427 (fun _ h => h) dX5_passes_72 (fun σ39 H locs hT hI => ?_)
              refine lv_iinc (v := x1 + 1) (lv' := [(1, .int (x1 + 1)), (0, .ref (ad ob))]) hx hb dX5_passes_75 hl (k := 1) rfl rfl (Nat.le_of_ble_eq_true rfl) rfl (fun ls hl => ?_)
              refine lv_goto (tgt := 7) hx hb dX5_passes_78 (by decide) ?_
              exact ih (x1 + 1) σ39 _ _ _ hT hI (lv_sub hl [1, 0] rfl)
  unfold U_X5_passes at hT
  refine lv_aload_n hx hb dX5_passes_0 rfl (lv_at hl 0 rfl) ?_
  refine lv_iconst (v := 0) hx hb dX5_passes_1 (by decide) ?_
  refine xp5_8 (i := ob) (v := 0) hC hI (lt_cb (st_lt hp (d := 0) (by decide))) (xst hI (st_lt hp (d := 0) (by decide)) (sls_0 hp)) hT q427 (fun _ h => h) dX5_passes_2 (fun σ40 H locs hT hI => ?_)
  refine lv_iconst (v := 0) hx hb dX5_passes_5 (by decide) ?_
  refine lv_istore_n (lv' := [(1, .int 0), (0, .ref (ad ob))]) hx hb dX5_passes_6 rfl hl (Nat.le_of_ble_eq_true rfl) rfl (fun ls hl => ?_)
  obtain ⟨n7, hT⟩ := hT
  exact w_7 n7 0 σ40 _ _ _ hT hI (lv_sub hl [1, 0] rfl)
set_option maxHeartbeats 4000000 in
set_option maxRecDepth 100000 in
theorem um_X0_later (l : Launch) (D : va_G) (dA : Nat → ClassId) (ad : Nat → Nat) (Hs : Heap) (hA : cAd ad 1296 Hs.size) (σ : CS) (x1 : Int32) (x2 : Int32) (K : Int32 → CS → Prop) (hT : U_X0_later σ x1 x2 K) : Met l yX0_later (ws_ yX0_later cX0_later 5 (some .int)) ({ frames := 909, cells := 0, slots := 0, locals := 18683 }) (va_Pc [.ref (ad 0), .int x1, .int x2] (cU D dA ad 1296 Hs σ)) (xQ rvI K (cU D dA ad 1296 Hs) (cA ad)) 0 0 (cA ad) := by
  refine xm_i hA (by decide) rfl (Nat.le_of_ble_eq_true rfl) ?_
  intro p e s m args below meth c Q hC hN hret hI ls hl
  have hx := hC.1.1
  have hb := hC.1.2.1
  have hB : 0 ≤ 0 ∧ 0 ≤ 0 := ⟨Nat.zero_le _, Nat.zero_le _⟩
  have hl : lv_has ls 5 [(0, .ref (ad 0)), (1, .int x1), (2, .int x2)] := hl
  have w_39 : ∀ (x1 : Int32) (x2 : Int32) (n : Nat) (x3 : Int32) (x4 : Int32) (σ : CS) (H : Heap) (locs : List Loc) (ls : Array Slot), U_X0_later_39 K x1 x2 n x3 x4 σ → xI D dA ad 1296 Hs s.heap σ H locs → lv_has ls 5 [(0, .ref (ad 0)), (1, .int x1), (2, .int x2), (3, .int x3), (4, .int x4)] → W p l e ({ frames := 909, cells := 0, slots := 0, locals := 18683 }) s m args below meth c H locs 0 0 Q (F0 m 39 ls []) := by
    intro x1 x2 n
    induction n with
    | zero => intro x3 x4 σ H locs ls hT; exact hT.elim
    | succ n ih =>
      intro x3 x4 σ H locs ls hT hI hl
      unfold U_X0_later_39 at hT
      refine lv_iload hx hb dX0_later_39 (lv_at hl 4 rfl) ?_
      refine lv_iload_n hx hb dX0_later_41 rfl (lv_at hl 1 rfl) ?_
      refine lv_icmp_ge (tgt := 61) hx hb dX0_later_42 (by decide) (fun hc => ?_) (fun hc => ?_)
      · replace hT := hT.1 hc
        refine lv_iload_n hx hb dX0_later_61 rfl (lv_at hl 2 rfl) ?_
        refine lv_if_ne (tgt := 75) hx hb dX0_later_62 (by decide) (fun hc => ?_) (fun hc => ?_)
        · replace hT := hT.1 hc
          refine lv_iload_n hx hb dX0_later_75 rfl (lv_at hl 2 rfl) ?_
          refine lv_iconst (v := 1) hx hb dX0_later_76 (by decide) ?_
          refine lv_icmp_ne (tgt := 91) hx hb dX0_later_77 (by decide) (fun hc => ?_) (fun hc => ?_)
          · replace hT := hT.1 hc
            refine lv_iload_n hx hb dX0_later_91 rfl (lv_at hl 2 rfl) ?_
            refine lv_iconst (v := 2) hx hb dX0_later_92 (by decide) ?_
            refine lv_icmp_ne (tgt := 110) hx hb dX0_later_93 (by decide) (fun hc => ?_) (fun hc => ?_)
            · replace hT := hT.1 hc
              refine lv_iload_n hx hb dX0_later_110 rfl (lv_at hl 3 rfl) ?_
              exact hret _ _ _ _ _ _ _ _ hT hI hB dX0_later_111
            · replace hT := hT.2 hc
              refine lv_aload_n hx hb dX0_later_96 rfl (lv_at hl 0 rfl) ?_
              refine lv_aload_n hx hb dX0_later_97 rfl (lv_at hl 0 rfl) ?_
              refine xg0_10 (i := 0) hC hI (xst hI (Nat.le_of_ble_eq_true rfl) sl_0) q482 (fun _ h => h) dX0_later_98 ?_
              refine x_call (x_runV (i := 74) hC hI (xst hI (st_lt (Or.inr (Or.inl rfl) : stOK 74) (d := 0) (by decide)) (sls_0 (Or.inr (Or.inl rfl) : stOK 74))) rfl (um_X5_standing l D dA ad Hs hC.2.2 σ 74 (Or.inr (Or.inl rfl) : stOK 74) _ hT) (lw_V q1274 q1275 q1276 q169 q1277) 0 hdV_X5_standing ⟨rfl, rfl⟩ ⟨Nat.le_of_ble_eq_true rfl, Nat.le_of_ble_eq_true rfl⟩ rfl hl.1 rfl (Nat.le_of_ble_eq_true rfl) hB dX0_later_101) hI (fun r2 σ1 H locs hT hI => ?_)
              refine W.eq (g2 := F0 m 104 ls [.int r2, .ref (ad 0)]) rfl ?_
              refine x_call (x_runV (i := 0) hC hI (xst hI (Nat.le_of_ble_eq_true rfl) sl_0) rfl (um_X0_useOf l D dA ad Hs hC.2.2 σ1 r2 _ hT) (lw_V q1388 q1390 qs42 q158 q1391) 1 hdV_X0_useOf ⟨rfl, rfl⟩ ⟨Nat.le_of_ble_eq_true rfl, Nat.le_of_ble_eq_true rfl⟩ rfl hl.1 rfl (Nat.le_of_ble_eq_true rfl) hB dX0_later_104) hI (fun r4 σ3 H locs hT hI => ?_)
              refine W.eq (g2 := F0 m 107 ls [.int r4]) rfl ?_
              refine lv_goto (tgt := 111) hx hb dX0_later_107 (by decide) ?_
              exact hret _ _ _ _ _ _ _ _ hT hI hB dX0_later_111
          · replace hT := hT.2 hc
            refine lv_aload_n hx hb dX0_later_80 rfl (lv_at hl 0 rfl) ?_
            refine xg0_10 (i := 0) hC hI (xst hI (Nat.le_of_ble_eq_true rfl) sl_0) q482 (fun _ h => h) dX0_later_81 ?_
            refine lv_iconst (v := 1) hx hb dX0_later_84 (by decide) ?_
            refine x_call (x_runV (i := 74) hC hI (xst hI (st_lt (Or.inr (Or.inl rfl) : stOK 74) (d := 0) (by decide)) (sls_0 (Or.inr (Or.inl rfl) : stOK 74))) rfl (um_X5_are l D dA ad Hs hC.2.2 σ 74 1 (Or.inr (Or.inl rfl) : stOK 74) _ hT) (lw_V q1263 q1264 q1265 q169 q1266) 1 hdV_X5_are ⟨rfl, rfl⟩ ⟨Nat.le_of_ble_eq_true rfl, Nat.le_of_ble_eq_true rfl⟩ rfl hl.1 rfl (Nat.le_of_ble_eq_true rfl) hB dX0_later_85) hI (fun r6 σ5 H locs hT hI => ?_)
            refine W.eq (g2 := F0 m 88 ls [.int r6]) rfl ?_
            refine lv_goto (tgt := 111) hx hb dX0_later_88 (by decide) ?_
            exact hret _ _ _ _ _ _ _ _ hT hI hB dX0_later_111
        · replace hT := hT.2 hc
          refine lv_aload_n hx hb dX0_later_65 rfl (lv_at hl 0 rfl) ?_
          refine xg0_10 (i := 0) hC hI (xst hI (Nat.le_of_ble_eq_true rfl) sl_0) q482 (fun _ h => h) dX0_later_66 ?_
          refine x_call (x_runV (i := 74) hC hI (xst hI (st_lt (Or.inr (Or.inl rfl) : stOK 74) (d := 0) (by decide)) (sls_0 (Or.inr (Or.inl rfl) : stOK 74))) rfl (um_X5_standing l D dA ad Hs hC.2.2 σ 74 (Or.inr (Or.inl rfl) : stOK 74) _ hT) (lw_V q1274 q1275 q1276 q169 q1277) 0 hdV_X5_standing ⟨rfl, rfl⟩ ⟨Nat.le_of_ble_eq_true rfl, Nat.le_of_ble_eq_true rfl⟩ rfl hl.1 rfl (Nat.le_of_ble_eq_true rfl) hB dX0_later_69) hI (fun r8 σ7 H locs hT hI => ?_)
          refine W.eq (g2 := F0 m 72 ls [.int r8]) rfl ?_
          refine lv_goto (tgt := 111) hx hb dX0_later_72 (by decide) ?_
          exact hret _ _ _ _ _ _ _ _ hT hI hB dX0_later_111
      · replace hT := hT.2 hc
        refine lv_iload_n hx hb dX0_later_45 rfl (lv_at hl 3 rfl) ?_
        refine lv_aload_n hx hb dX0_later_46 rfl (lv_at hl 0 rfl) ?_
        refine xg0_10 (i := 0) hC hI (xst hI (Nat.le_of_ble_eq_true rfl) sl_0) q482 (fun _ h => h) dX0_later_47 ?_
        refine x_call (x_runV (i := 74) hC hI (xst hI (st_lt (Or.inr (Or.inl rfl) : stOK 74) (d := 0) (by decide)) (sls_0 (Or.inr (Or.inl rfl) : stOK 74))) rfl (um_X5_passes l D dA ad Hs hC.2.2 σ 74 (Or.inr (Or.inl rfl) : stOK 74) _ hT) (lw_V q1490 q1491 q1492 q169 q1493) 0 hdV_X5_passes ⟨rfl, rfl⟩ ⟨Nat.le_of_ble_eq_true rfl, Nat.le_of_ble_eq_true rfl⟩ rfl hl.1 rfl (Nat.le_of_ble_eq_true rfl) hB dX0_later_50) hI (fun r10 σ9 H locs hT hI => ?_)
        refine W.eq (g2 := F0 m 53 ls [.int r10, .int x3]) rfl ?_
        refine lv_iadd hx hb dX0_later_53 ?_
        refine lv_istore_n (lv' := [(3, .int (x3 + r10)), (0, .ref (ad 0)), (1, .int x1), (2, .int x2), (4, .int x4)]) hx hb dX0_later_54 rfl hl (Nat.le_of_ble_eq_true rfl) rfl (fun ls hl => ?_)
        refine lv_iinc (v := x4 + 1) (lv' := [(4, .int (x4 + 1)), (3, .int (x3 + r10)), (0, .ref (ad 0)), (1, .int x1), (2, .int x2)]) hx hb dX0_later_55 hl (k := 4) rfl rfl (Nat.le_of_ble_eq_true rfl) rfl (fun ls hl => ?_)
        refine lv_goto (tgt := 39) hx hb dX0_later_58 (by decide) ?_
        exact ih (x3 + r10) (x4 + 1) σ9 _ _ _ hT hI (lv_sub hl [2, 3, 4, 1, 0] rfl)
  unfold U_X0_later at hT
  refine lv_aload_n hx hb dX0_later_0 rfl (lv_at hl 0 rfl) ?_
  refine lv_iload_n hx hb dX0_later_1 rfl (lv_at hl 1 rfl) ?_
  refine lv_iconst (v := 0) hx hb dX0_later_2 (by decide) ?_
  refine lv_bipush (v := 60) hx hb dX0_later_3 (by decide) ?_
  refine x_call (x_runV (i := 0) hC hI (xst hI (Nat.le_of_ble_eq_true rfl) sl_0) rfl (um_X0_isAhead l D dA ad Hs hC.2.2 σ x1 0 60 _ hT) (lw_V q1482 q1484 qs48 q158 q1485) 3 hdV_X0_isAhead ⟨rfl, rfl⟩ ⟨Nat.le_of_ble_eq_true rfl, Nat.le_of_ble_eq_true rfl⟩ rfl hl.1 rfl (Nat.le_of_ble_eq_true rfl) hB dX0_later_5) hI (fun r12 σ11 H locs hT hI => ?_)
  refine W.eq (g2 := F0 m 8 ls [.int r12]) rfl ?_
  refine lv_if_eq (tgt := 20) hx hb dX0_later_8 (by decide) (fun hc => ?_) (fun hc => ?_)
  · replace hT := hT.1 hc
    refine lv_iconst (v := -1) hx hb dX0_later_20 (by decide) ?_
    exact hret _ _ _ _ _ _ _ _ hT hI hB dX0_later_21
  · replace hT := hT.2 hc
    refine lv_iload_n hx hb dX0_later_11 rfl (lv_at hl 2 rfl) ?_
    refine lv_iconst (v := 0) hx hb dX0_later_12 (by decide) ?_
    refine lv_iconst (v := 3) hx hb dX0_later_13 (by decide) ?_
    refine x_call (x_runS hC hI (um_X0_is l D dA ad 1296 Hs hC.2.2 σ11 x2 0 3 _ hT) (lw_S q1398 q815 q158 q816) 3 hdS_X0_is ⟨rfl, rfl⟩ ⟨Nat.le_of_ble_eq_true rfl, Nat.le_of_ble_eq_true rfl⟩ rfl hl.1 rfl (Nat.le_of_ble_eq_true rfl) hB dX0_later_14) hI (fun r14 σ13 H locs hT hI => ?_)
    refine W.eq (g2 := F0 m 17 ls [.int r14]) rfl ?_
    refine lv_if_ne (tgt := 22) hx hb dX0_later_17 (by decide) (fun hc => ?_) (fun hc => ?_)
    · replace hT := hT.1 hc
      refine lv_aload_n hx hb dX0_later_22 rfl (lv_at hl 0 rfl) ?_
      refine xg0_10 (i := 0) hC hI (xst hI (Nat.le_of_ble_eq_true rfl) sl_0) q482 (fun _ h => h) dX0_later_23 ?_
      refine lv_aload_n hx hb dX0_later_26 rfl (lv_at hl 0 rfl) ?_
      refine xg0_9 (i := 0) hC hI (xst hI (Nat.le_of_ble_eq_true rfl) sl_0) q481 (fun _ h => h) dX0_later_27 ?_
      refine x_call (x_runV (i := 74) hC hI (xst hI (st_lt (Or.inr (Or.inl rfl) : stOK 74) (d := 0) (by decide)) (sls_0 (Or.inr (Or.inl rfl) : stOK 74))) rfl (um_X5_copy l D dA ad Hs hC.2.2 σ13 74 16 (Or.inr (Or.inl rfl) : stOK 74) (Or.inl rfl : stOK 16) _ hT) (lw_V q1486 q1487 q1488 q169 q1489) 1 hdV_X5_copy ⟨rfl, rfl⟩ ⟨Nat.le_of_ble_eq_true rfl, Nat.le_of_ble_eq_true rfl⟩ rfl hl.1 rfl (Nat.le_of_ble_eq_true rfl) hB dX0_later_30) hI (fun r16 σ15 H locs hT hI => ?_)
      refine W.eq (g2 := F0 m 33 ls [va_rf (rgR ad r16)]) rfl ?_
      refine lv_pop hx hb dX0_later_33 (va_rf_cat _) ?_
      refine lv_iconst (v := 0) hx hb dX0_later_34 (by decide) ?_
      refine lv_istore_n (lv' := [(3, .int 0), (0, .ref (ad 0)), (1, .int x1), (2, .int x2)]) hx hb dX0_later_35 rfl hl (Nat.le_of_ble_eq_true rfl) rfl (fun ls hl => ?_)
      refine lv_iconst (v := 0) hx hb dX0_later_36 (by decide) ?_
      refine lv_istore (lv' := [(4, .int 0), (3, .int 0), (0, .ref (ad 0)), (1, .int x1), (2, .int x2)]) hx hb dX0_later_37 hl (Nat.le_of_ble_eq_true rfl) rfl (fun ls hl => ?_)
      obtain ⟨n39, hT⟩ := hT
      exact w_39 x1 x2 n39 0 0 σ15 _ _ _ hT hI (lv_sub hl [2, 3, 4, 1, 0] rfl)
    · replace hT := hT.2 hc
      refine lv_iconst (v := -1) hx hb dX0_later_20 (by decide) ?_
      exact hret _ _ _ _ _ _ _ _ hT hI hB dX0_later_21
set_option maxHeartbeats 4000000 in
set_option maxRecDepth 100000 in
theorem um_X0_breaks (l : Launch) (D : va_G) (dA : Nat → ClassId) (ad : Nat → Nat) (Hs : Heap) (hA : cAd ad 1296 Hs.size) (σ : CS) (x1 : Int32) (K : Int32 → CS → Prop) (hT : U_X0_breaks σ x1 K) : Met l yX0_breaks (ws_ yX0_breaks cX0_breaks 3 (some .int)) ({ frames := 908, cells := 0, slots := 0, locals := 18662 }) (va_Pc [.ref (ad 0), .int x1] (cU D dA ad 1296 Hs σ)) (xQ rvI K (cU D dA ad 1296 Hs) (cA ad)) 0 0 (cA ad) := by
  refine xm_i hA (by decide) rfl (Nat.le_of_ble_eq_true rfl) ?_
  intro p e s m args below meth c Q hC hN hret hI ls hl
  have hx := hC.1.1
  have hb := hC.1.2.1
  have hB : 0 ≤ 0 ∧ 0 ≤ 0 := ⟨Nat.zero_le _, Nat.zero_le _⟩
  have hl : lv_has ls 3 [(0, .ref (ad 0)), (1, .int x1)] := hl
  have w_24 : ∀ (x1 : Int32) (n : Nat) (x2 : Int32) (σ : CS) (H : Heap) (locs : List Loc) (ls : Array Slot), U_X0_breaks_24 K x1 n x2 σ → xI D dA ad 1296 Hs s.heap σ H locs → lv_has ls 3 [(0, .ref (ad 0)), (1, .int x1), (2, .int x2)] → W p l e ({ frames := 908, cells := 0, slots := 0, locals := 18662 }) s m args below meth c H locs 0 0 Q (F0 m 24 ls []) := by
    intro x1 n
    induction n with
    | zero => intro x2 σ H locs ls hT; exact hT.elim
    | succ n ih =>
      intro x2 σ H locs ls hT hI hl
      unfold U_X0_breaks_24 at hT
      refine lv_aload_n hx hb dX0_breaks_24 rfl (lv_at hl 0 rfl) ?_
      refine lv_iload_n hx hb dX0_breaks_25 rfl (lv_at hl 2 rfl) ?_
      refine lv_iconst (v := 1) hx hb dX0_breaks_26 (by decide) ?_
      refine lv_bipush (v := 60) hx hb dX0_breaks_27 (by decide) ?_
      refine x_call (x_runV (i := 0) hC hI (xst hI (Nat.le_of_ble_eq_true rfl) sl_0) rfl (um_X0_isAhead l D dA ad Hs hC.2.2 σ x2 1 60 _ hT) (lw_V q1482 q1484 qs48 q158 q1485) 3 hdV_X0_isAhead ⟨rfl, rfl⟩ ⟨Nat.le_of_ble_eq_true rfl, Nat.le_of_ble_eq_true rfl⟩ rfl hl.1 rfl (Nat.le_of_ble_eq_true rfl) hB dX0_breaks_29) hI (fun r2 σ1 H locs hT hI => ?_)
      refine W.eq (g2 := F0 m 32 ls [.int r2]) rfl ?_
      refine lv_if_eq (tgt := 65) hx hb dX0_breaks_32 (by decide) (fun hc => ?_) (fun hc => ?_)
      · replace hT := hT.1 hc
        refine lv_iconst (v := -1) hx hb dX0_breaks_65 (by decide) ?_
        exact hret _ _ _ _ _ _ _ _ hT hI hB dX0_breaks_66
      · replace hT := hT.2 hc
        refine lv_aload_n hx hb dX0_breaks_35 rfl (lv_at hl 0 rfl) ?_
        refine xg0_10 (i := 0) hC hI (xst hI (Nat.le_of_ble_eq_true rfl) sl_0) q482 (fun _ h => h) dX0_breaks_36 ?_
        refine x_call (x_runV (i := 74) hC hI (xst hI (st_lt (Or.inr (Or.inl rfl) : stOK 74) (d := 0) (by decide)) (sls_0 (Or.inr (Or.inl rfl) : stOK 74))) rfl (um_X5_passes l D dA ad Hs hC.2.2 σ1 74 (Or.inr (Or.inl rfl) : stOK 74) _ hT) (lw_V q1490 q1491 q1492 q169 q1493) 0 hdV_X5_passes ⟨rfl, rfl⟩ ⟨Nat.le_of_ble_eq_true rfl, Nat.le_of_ble_eq_true rfl⟩ rfl hl.1 rfl (Nat.le_of_ble_eq_true rfl) hB dX0_breaks_39) hI (fun r4 σ3 H locs hT hI => ?_)
        refine W.eq (g2 := F0 m 42 ls [.int r4]) rfl ?_
        refine lv_pop hx hb dX0_breaks_42 rfl ?_
        refine lv_aload_n hx hb dX0_breaks_43 rfl (lv_at hl 0 rfl) ?_
        refine xg0_10 (i := 0) hC hI (xst hI (Nat.le_of_ble_eq_true rfl) sl_0) q482 (fun _ h => h) dX0_breaks_44 ?_
        refine xgN5_8 (i := 74) hC hI (xst hI (st_lt (Or.inr (Or.inl rfl) : stOK 74) (d := 0) (by decide)) (sls_0 (Or.inr (Or.inl rfl) : stOK 74))) q428 (fun _ h => h) dX0_breaks_47 ?_
        refine lv_iload_n hx hb dX0_breaks_50 rfl (lv_at hl 1 rfl) ?_
        refine x_call (x_runS hC hI (um_X0_has l D dA ad 1296 Hs hC.2.2 σ3 (gI σ3 74 8) x1 _ hT) (lw_S q1392 q1094 q158 q1095) 2 hdS_X0_has ⟨rfl, rfl⟩ ⟨Nat.le_of_ble_eq_true rfl, Nat.le_of_ble_eq_true rfl⟩ rfl hl.1 rfl (Nat.le_of_ble_eq_true rfl) hB dX0_breaks_51) hI (fun r6 σ5 H locs hT hI => ?_)
        refine W.eq (g2 := F0 m 54 ls [.int r6]) rfl ?_
        refine lv_if_eq (tgt := 59) hx hb dX0_breaks_54 (by decide) (fun hc => ?_) (fun hc => ?_)
        · replace hT := hT.1 hc
          refine lv_iinc (v := x2 + 1) (lv' := [(2, .int (x2 + 1)), (0, .ref (ad 0)), (1, .int x1)]) hx hb dX0_breaks_59 hl (k := 2) rfl rfl (Nat.le_of_ble_eq_true rfl) rfl (fun ls hl => ?_)
          refine lv_goto (tgt := 24) hx hb dX0_breaks_62 (by decide) ?_
          exact ih (x2 + 1) σ5 _ _ _ hT hI (lv_sub hl [1, 2, 0] rfl)
        · replace hT := hT.2 hc
          refine lv_iload_n hx hb dX0_breaks_57 rfl (lv_at hl 2 rfl) ?_
          exact hret _ _ _ _ _ _ _ _ hT hI hB dX0_breaks_58
  unfold U_X0_breaks at hT
  refine lv_aload_n hx hb dX0_breaks_0 rfl (lv_at hl 0 rfl) ?_
  refine lv_iload_n hx hb dX0_breaks_1 rfl (lv_at hl 1 rfl) ?_
  refine x_call (x_runV (i := 0) hC hI (xst hI (Nat.le_of_ble_eq_true rfl) sl_0) rfl (um_X0_isThing l D dA ad Hs hC.2.2 σ x1 _ hT) (lw_V q1423 q1425 qs43 q158 q1426) 1 hdV_X0_isThing ⟨rfl, rfl⟩ ⟨Nat.le_of_ble_eq_true rfl, Nat.le_of_ble_eq_true rfl⟩ rfl hl.1 rfl (Nat.le_of_ble_eq_true rfl) hB dX0_breaks_2) hI (fun r8 σ7 H locs hT hI => ?_)
  refine W.eq (g2 := F0 m 5 ls [.int r8]) rfl ?_
  refine lv_if_ne (tgt := 10) hx hb dX0_breaks_5 (by decide) (fun hc => ?_) (fun hc => ?_)
  · replace hT := hT.1 hc
    refine lv_aload_n hx hb dX0_breaks_10 rfl (lv_at hl 0 rfl) ?_
    refine xg0_10 (i := 0) hC hI (xst hI (Nat.le_of_ble_eq_true rfl) sl_0) q482 (fun _ h => h) dX0_breaks_11 ?_
    refine lv_aload_n hx hb dX0_breaks_14 rfl (lv_at hl 0 rfl) ?_
    refine xg0_9 (i := 0) hC hI (xst hI (Nat.le_of_ble_eq_true rfl) sl_0) q481 (fun _ h => h) dX0_breaks_15 ?_
    refine x_call (x_runV (i := 74) hC hI (xst hI (st_lt (Or.inr (Or.inl rfl) : stOK 74) (d := 0) (by decide)) (sls_0 (Or.inr (Or.inl rfl) : stOK 74))) rfl (um_X5_copy l D dA ad Hs hC.2.2 σ7 74 16 (Or.inr (Or.inl rfl) : stOK 74) (Or.inl rfl : stOK 16) _ hT) (lw_V q1486 q1487 q1488 q169 q1489) 1 hdV_X5_copy ⟨rfl, rfl⟩ ⟨Nat.le_of_ble_eq_true rfl, Nat.le_of_ble_eq_true rfl⟩ rfl hl.1 rfl (Nat.le_of_ble_eq_true rfl) hB dX0_breaks_18) hI (fun r10 σ9 H locs hT hI => ?_)
    refine W.eq (g2 := F0 m 21 ls [va_rf (rgR ad r10)]) rfl ?_
    refine lv_pop hx hb dX0_breaks_21 (va_rf_cat _) ?_
    refine lv_iconst (v := 1) hx hb dX0_breaks_22 (by decide) ?_
    refine lv_istore_n (lv' := [(2, .int 1), (0, .ref (ad 0)), (1, .int x1)]) hx hb dX0_breaks_23 rfl hl (Nat.le_of_ble_eq_true rfl) rfl (fun ls hl => ?_)
    obtain ⟨n24, hT⟩ := hT
    exact w_24 x1 n24 1 σ9 _ _ _ hT hI (lv_sub hl [1, 2, 0] rfl)
  · replace hT := hT.2 hc
    refine lv_iconst (v := -1) hx hb dX0_breaks_8 (by decide) ?_
    exact hret _ _ _ _ _ _ _ _ hT hI hB dX0_breaks_9
set_option maxHeartbeats 4000000 in
set_option maxRecDepth 100000 in
theorem um_X0_worthOf (l : Launch) (D : va_G) (dA : Nat → ClassId) (ad : Nat → Nat) (Hs : Heap) (hA : cAd ad 1296 Hs.size) (σ : CS) (x1 : Int32) (K : Int32 → CS → Prop) (hT : U_X0_worthOf σ x1 K) : Met l yX0_worthOf (ws_ yX0_worthOf cX0_worthOf 4 (some .int)) ({ frames := 5, cells := 0, slots := 0, locals := 97 }) (va_Pc [.ref (ad 0), .int x1] (cU D dA ad 1296 Hs σ)) (xQ rvI K (cU D dA ad 1296 Hs) (cA ad)) 0 0 (cA ad) := by
  refine xm_i hA (by decide) rfl (Nat.le_of_ble_eq_true rfl) ?_
  intro p e s m args below meth c Q hC hN hret hI ls hl
  have hx := hC.1.1
  have hb := hC.1.2.1
  have hB : 0 ≤ 0 ∧ 0 ≤ 0 := ⟨Nat.zero_le _, Nat.zero_le _⟩
  have hl : lv_has ls 4 [(0, .ref (ad 0)), (1, .int x1)] := hl
  have w_4 : ∀ (x1 : Int32) (n : Nat) (x2 : Int32) (x3 : Int32) (σ : CS) (H : Heap) (locs : List Loc) (ls : Array Slot), U_X0_worthOf_4 K x1 n x2 x3 σ → xI D dA ad 1296 Hs s.heap σ H locs → lv_has ls 4 [(0, .ref (ad 0)), (1, .int x1), (2, .int x2), (3, .int x3)] → W p l e ({ frames := 5, cells := 0, slots := 0, locals := 97 }) s m args below meth c H locs 0 0 Q (F0 m 4 ls []) := by
    intro x1 n
    induction n with
    | zero => intro x2 x3 σ H locs ls hT; exact hT.elim
    | succ n ih =>
      intro x2 x3 σ H locs ls hT hI hl
      unfold U_X0_worthOf_4 at hT
      refine lv_iload_n hx hb dX0_worthOf_4 rfl (lv_at hl 3 rfl) ?_
      refine lv_aload_n hx hb dX0_worthOf_5 rfl (lv_at hl 0 rfl) ?_
      refine x_call (x_runV (i := 0) hC hI (xst hI (Nat.le_of_ble_eq_true rfl) sl_0) rfl (um_X0_things l D dA ad Hs hC.2.2 σ _ hT) (lw_V q1249 q1251 qs34 q158 q1252) 0 hdV_X0_things ⟨rfl, rfl⟩ ⟨Nat.le_of_ble_eq_true rfl, Nat.le_of_ble_eq_true rfl⟩ rfl hl.1 rfl (Nat.le_of_ble_eq_true rfl) hB dX0_worthOf_6) hI (fun r2 σ1 H locs hT hI => ?_)
      refine W.eq (g2 := F0 m 9 ls [.int r2, .int x3]) rfl ?_
      refine lv_icmp_ge (tgt := 41) hx hb dX0_worthOf_9 (by decide) (fun hc => ?_) (fun hc => ?_)
      · replace hT := hT.1 hc
        refine lv_iload_n hx hb dX0_worthOf_41 rfl (lv_at hl 2 rfl) ?_
        exact hret _ _ _ _ _ _ _ _ hT hI hB dX0_worthOf_42
      · replace hT := hT.2 hc
        refine lv_iload_n hx hb dX0_worthOf_12 rfl (lv_at hl 2 rfl) ?_
        refine lv_iload_n hx hb dX0_worthOf_13 rfl (lv_at hl 1 rfl) ?_
        refine lv_iload_n hx hb dX0_worthOf_14 rfl (lv_at hl 3 rfl) ?_
        refine x_call (x_runS hC hI (um_X0_has l D dA ad 1296 Hs hC.2.2 σ1 x1 x3 _ hT) (lw_S q1392 q1094 q158 q1095) 2 hdS_X0_has ⟨rfl, rfl⟩ ⟨Nat.le_of_ble_eq_true rfl, Nat.le_of_ble_eq_true rfl⟩ rfl hl.1 rfl (Nat.le_of_ble_eq_true rfl) hB dX0_worthOf_15) hI (fun r4 σ3 H locs hT hI => ?_)
        refine W.eq (g2 := F0 m 18 ls [.int r4, .int x2]) rfl ?_
        refine lv_if_eq (tgt := 32) hx hb dX0_worthOf_18 (by decide) (fun hc => ?_) (fun hc => ?_)
        · replace hT := hT.1 hc
          refine lv_iconst (v := 0) hx hb dX0_worthOf_32 (by decide) ?_
          refine lv_iadd hx hb dX0_worthOf_33 ?_
          refine lv_istore_n (lv' := [(2, .int (x2 + 0)), (0, .ref (ad 0)), (1, .int x1), (3, .int x3)]) hx hb dX0_worthOf_34 rfl hl (Nat.le_of_ble_eq_true rfl) rfl (fun ls hl => ?_)
          refine lv_iinc (v := x3 + 1) (lv' := [(3, .int (x3 + 1)), (2, .int (x2 + 0)), (0, .ref (ad 0)), (1, .int x1)]) hx hb dX0_worthOf_35 hl (k := 3) rfl rfl (Nat.le_of_ble_eq_true rfl) rfl (fun ls hl => ?_)
          refine lv_goto (tgt := 4) hx hb dX0_worthOf_38 (by decide) ?_
          exact ih (x2 + 0) (x3 + 1) σ3 _ _ _ hT hI (lv_sub hl [2, 3, 1, 0] rfl)
        · replace hT := hT.2 hc
          refine lv_aload_n hx hb dX0_worthOf_21 rfl (lv_at hl 0 rfl) ?_
          refine lv_iload_n hx hb dX0_worthOf_22 rfl (lv_at hl 3 rfl) ?_
          refine x_call (x_runV (i := 0) hC hI (xst hI (Nat.le_of_ble_eq_true rfl) sl_0) rfl (um_X0_thingOf l D dA ad Hs hC.2.2 σ3 x3 _ hT) (lw_V q1393 q1292 qs39 q158 q1293) 1 hdV_X0_thingOf ⟨rfl, rfl⟩ ⟨Nat.le_of_ble_eq_true rfl, Nat.le_of_ble_eq_true rfl⟩ rfl hl.1 rfl (Nat.le_of_ble_eq_true rfl) hB dX0_worthOf_23) hI (fun r6 σ5 H locs hT hI => ?_)
          refine W.eq (g2 := F0 m 26 ls [va_rf (rgR ad r6), .int x2]) rfl ?_
          obtain ⟨q7, hqe_q7, hT_q7⟩ := hT
          have hl_q7 := hl
          subst hqe_q7
          replace hT := hT_q7
          refine W.eq (g2 := F0 m 26 ls [.ref (ad q7), .int x2]) rfl ?_
          have hl : lv_has ls 4 [(0, .ref (ad 0)), (1, .int x1), (2, .int x2), (3, .int x3)] := hl_q7
          obtain ⟨hL, hT⟩ := hT
          refine xgN7_1 (i := q7) hC hI hL q830 (fun _ h => h) dX0_worthOf_26 ?_
          refine lv_goto (tgt := 33) hx hb dX0_worthOf_29 (by decide) ?_
          refine lv_iadd hx hb dX0_worthOf_33 ?_
          refine lv_istore_n (lv' := [(2, .int (x2 + (gI σ5 q7 1))), (0, .ref (ad 0)), (1, .int x1), (3, .int x3)]) hx hb dX0_worthOf_34 rfl hl (Nat.le_of_ble_eq_true rfl) rfl (fun ls hl => ?_)
          refine lv_iinc (v := x3 + 1) (lv' := [(3, .int (x3 + 1)), (2, .int (x2 + (gI σ5 q7 1))), (0, .ref (ad 0)), (1, .int x1)]) hx hb dX0_worthOf_35 hl (k := 3) rfl rfl (Nat.le_of_ble_eq_true rfl) rfl (fun ls hl => ?_)
          refine lv_goto (tgt := 4) hx hb dX0_worthOf_38 (by decide) ?_
          exact ih (x2 + (gI σ5 q7 1)) (x3 + 1) σ5 _ _ _ hT hI (lv_sub hl [2, 3, 1, 0] rfl)
  unfold U_X0_worthOf at hT
  refine lv_iconst (v := 0) hx hb dX0_worthOf_0 (by decide) ?_
  refine lv_istore_n (lv' := [(2, .int 0), (0, .ref (ad 0)), (1, .int x1)]) hx hb dX0_worthOf_1 rfl hl (Nat.le_of_ble_eq_true rfl) rfl (fun ls hl => ?_)
  refine lv_iconst (v := 0) hx hb dX0_worthOf_2 (by decide) ?_
  refine lv_istore_n (lv' := [(3, .int 0), (2, .int 0), (0, .ref (ad 0)), (1, .int x1)]) hx hb dX0_worthOf_3 rfl hl (Nat.le_of_ble_eq_true rfl) rfl (fun ls hl => ?_)
  obtain ⟨n4, hT⟩ := hT
  exact w_4 x1 n4 0 0 σ _ _ _ hT hI (lv_sub hl [2, 3, 1, 0] rfl)
set_option maxHeartbeats 4000000 in
set_option maxRecDepth 100000 in
theorem um_X0_house (l : Launch) (D : va_G) (dA : Nat → ClassId) (ad : Nat → Nat) (Hs : Heap) (hA : cAd ad 1296 Hs.size) (σ : CS) (x1 : Int32) (x2 : Int32) (K : Int32 → CS → Prop) (hT : U_X0_house σ x1 x2 K) : Met l yX0_house (ws_ yX0_house cX0_house 8 (some .int)) ({ frames := 909, cells := 0, slots := 0, locals := 18683 }) (va_Pc [.ref (ad 0), .int x1, .int x2] (cU D dA ad 1296 Hs σ)) (xQ rvI K (cU D dA ad 1296 Hs) (cA ad)) 0 0 (cA ad) := by
  refine xm_i hA (by decide) rfl (Nat.le_of_ble_eq_true rfl) ?_
  intro p e s m args below meth c Q hC hN hret hI ls hl
  have hx := hC.1.1
  have hb := hC.1.2.1
  have hB : 0 ≤ 0 ∧ 0 ≤ 0 := ⟨Nat.zero_le _, Nat.zero_le _⟩
  have hl : lv_has ls 8 [(0, .ref (ad 0)), (1, .int x1), (2, .int x2)] := hl
  have w_137 : ∀ (x1 : Int32) (x2 : Int32) (k34 : Int32 → Int32 → CS → Prop), (∀ (x3 : Int32) (x4 : Int32) (σ : CS) (H : Heap) (locs : List Loc) (ls : Array Slot), k34 x3 x4 σ → xI D dA ad 1296 Hs s.heap σ H locs → lv_has ls 8 [(0, .ref (ad 0)), (1, .int x1), (2, .int x2), (3, .int x3), (4, .int x4)] → W p l e ({ frames := 909, cells := 0, slots := 0, locals := 18683 }) s m args below meth c H locs 0 0 Q (F0 m 34 ls [])) → ∀ (x3 : Int32) (x4 : Int32) (n : Nat) (x7 : Int32) (σ : CS) (H : Heap) (locs : List Loc) (ls : Array Slot), U_X0_house_137 K k34 x1 x2 x3 x4 n x7 σ → xI D dA ad 1296 Hs s.heap σ H locs → lv_has ls 8 [(0, .ref (ad 0)), (1, .int x1), (2, .int x2), (3, .int x3), (4, .int x4), (7, .int x7)] → W p l e ({ frames := 909, cells := 0, slots := 0, locals := 18683 }) s m args below meth c H locs 0 0 Q (F0 m 137 ls []) := by
    intro x1 x2 k34 hk34 x3 x4 n
    induction n with
    | zero => intro x7 σ H locs ls hT; exact hT.elim
    | succ n ih =>
      intro x7 σ H locs ls hT hI hl
      unfold U_X0_house_137 at hT
      refine lv_iload hx hb dX0_house_137 (lv_at hl 5 rfl) ?_
      refine lv_aload_n hx hb dX0_house_139 rfl (lv_at hl 0 rfl) ?_
      refine x_call (x_runV (i := 0) hC hI (xst hI (Nat.le_of_ble_eq_true rfl) sl_0) rfl (um_X0_things l D dA ad Hs hC.2.2 σ _ hT) (lw_V q1249 q1251 qs34 q158 q1252) 0 hdV_X0_things ⟨rfl, rfl⟩ ⟨Nat.le_of_ble_eq_true rfl, Nat.le_of_ble_eq_true rfl⟩ rfl hl.1 rfl (Nat.le_of_ble_eq_true rfl) hB dX0_house_140) hI (fun r2 σ1 H locs hT hI => ?_)
      refine W.eq (g2 := F0 m 143 ls [.int r2, .int x7]) rfl ?_
      refine lv_icmp_ge (tgt := 184) hx hb dX0_house_143 (by decide) (fun hc => ?_) (fun hc => ?_)
      · replace hT := hT.1 hc
        refine lv_aload_n hx hb dX0_house_184 rfl (lv_at hl 0 rfl) ?_
        refine lv_aload_n hx hb dX0_house_185 rfl (lv_at hl 0 rfl) ?_
        refine xg0_10 (i := 0) hC hI (xst hI (Nat.le_of_ble_eq_true rfl) sl_0) q482 (fun _ h => h) dX0_house_186 ?_
        refine x_call (x_runV (i := 74) hC hI (xst hI (st_lt (Or.inr (Or.inl rfl) : stOK 74) (d := 0) (by decide)) (sls_0 (Or.inr (Or.inl rfl) : stOK 74))) rfl (um_X5_standing l D dA ad Hs hC.2.2 σ1 74 (Or.inr (Or.inl rfl) : stOK 74) _ hT) (lw_V q1274 q1275 q1276 q169 q1277) 0 hdV_X5_standing ⟨rfl, rfl⟩ ⟨Nat.le_of_ble_eq_true rfl, Nat.le_of_ble_eq_true rfl⟩ rfl hl.1 rfl (Nat.le_of_ble_eq_true rfl) hB dX0_house_189) hI (fun r4 σ3 H locs hT hI => ?_)
        refine W.eq (g2 := F0 m 192 ls [.int r4, .ref (ad 0)]) rfl ?_
        refine x_call (x_runV (i := 0) hC hI (xst hI (Nat.le_of_ble_eq_true rfl) sl_0) rfl (um_X0_useOf l D dA ad Hs hC.2.2 σ3 r4 _ hT) (lw_V q1388 q1390 qs42 q158 q1391) 1 hdV_X0_useOf ⟨rfl, rfl⟩ ⟨Nat.le_of_ble_eq_true rfl, Nat.le_of_ble_eq_true rfl⟩ rfl hl.1 rfl (Nat.le_of_ble_eq_true rfl) hB dX0_house_192) hI (fun r6 σ5 H locs hT hI => ?_)
        refine W.eq (g2 := F0 m 195 ls [.int r6]) rfl ?_
        refine lv_iload_n hx hb dX0_house_195 rfl (lv_at hl 1 rfl) ?_
        refine lv_icmp_lt (tgt := 202) hx hb dX0_house_196 (by decide) (fun hc => ?_) (fun hc => ?_)
        · replace hT := hT.1 hc
          refine lv_iinc (v := x4 + 1) (lv' := [(4, .int (x4 + 1)), (0, .ref (ad 0)), (1, .int x1), (2, .int x2), (3, .int x3), (7, .int x7)]) hx hb dX0_house_202 hl (k := 4) rfl rfl (Nat.le_of_ble_eq_true rfl) rfl (fun ls hl => ?_)
          refine lv_goto (tgt := 34) hx hb dX0_house_205 (by decide) ?_
          exact hk34 x3 (x4 + 1) σ5 _ _ _ hT hI (lv_sub hl [1, 2, 3, 4, 0] rfl)
        · replace hT := hT.2 hc
          refine lv_iload hx hb dX0_house_199 (lv_at hl 4 rfl) ?_
          refine lv_istore_n (lv' := [(3, .int x4), (0, .ref (ad 0)), (1, .int x1), (2, .int x2), (4, .int x4), (7, .int x7)]) hx hb dX0_house_201 rfl hl (Nat.le_of_ble_eq_true rfl) rfl (fun ls hl => ?_)
          refine lv_iinc (v := x4 + 1) (lv' := [(4, .int (x4 + 1)), (3, .int x4), (0, .ref (ad 0)), (1, .int x1), (2, .int x2), (7, .int x7)]) hx hb dX0_house_202 hl (k := 4) rfl rfl (Nat.le_of_ble_eq_true rfl) rfl (fun ls hl => ?_)
          refine lv_goto (tgt := 34) hx hb dX0_house_205 (by decide) ?_
          exact hk34 x4 (x4 + 1) σ5 _ _ _ hT hI (lv_sub hl [2, 3, 4, 1, 0] rfl)
      · replace hT := hT.2 hc
        refine lv_iload hx hb dX0_house_146 (lv_at hl 4 rfl) ?_
        refine lv_iload hx hb dX0_house_148 (lv_at hl 5 rfl) ?_
        refine x_call (x_runS hC hI (um_X0_has l D dA ad 1296 Hs hC.2.2 σ1 x4 x7 _ hT) (lw_S q1392 q1094 q158 q1095) 2 hdS_X0_has ⟨rfl, rfl⟩ ⟨Nat.le_of_ble_eq_true rfl, Nat.le_of_ble_eq_true rfl⟩ rfl hl.1 rfl (Nat.le_of_ble_eq_true rfl) hB dX0_house_150) hI (fun r8 σ7 H locs hT hI => ?_)
        refine W.eq (g2 := F0 m 153 ls [.int r8]) rfl ?_
        refine lv_if_ne (tgt := 159) hx hb dX0_house_153 (by decide) (fun hc => ?_) (fun hc => ?_)
        · replace hT := hT.1 hc
          refine lv_aload_n hx hb dX0_house_159 rfl (lv_at hl 0 rfl) ?_
          refine xg0_10 (i := 0) hC hI (xst hI (Nat.le_of_ble_eq_true rfl) sl_0) q482 (fun _ h => h) dX0_house_160 ?_
          refine lv_iload hx hb dX0_house_163 (lv_at hl 5 rfl) ?_
          refine x_call (x_runV (i := 74) hC hI (xst hI (st_lt (Or.inr (Or.inl rfl) : stOK 74) (d := 0) (by decide)) (sls_0 (Or.inr (Or.inl rfl) : stOK 74))) rfl (um_X5_breaks l D dA ad Hs hC.2.2 σ7 74 x7 (Or.inr (Or.inl rfl) : stOK 74) _ hT) (lw_V q1537 q1496 q1497 q169 q1498) 1 hdV_X5_breaks ⟨rfl, rfl⟩ ⟨Nat.le_of_ble_eq_true rfl, Nat.le_of_ble_eq_true rfl⟩ rfl hl.1 rfl (Nat.le_of_ble_eq_true rfl) hB dX0_house_165) hI (fun _ σ9 H locs hT hI => ?_)
          refine W.eq (g2 := F0 m 168 ls []) rfl ?_
          refine lv_aload_n hx hb dX0_house_168 rfl (lv_at hl 0 rfl) ?_
          refine xg0_10 (i := 0) hC hI (xst hI (Nat.le_of_ble_eq_true rfl) sl_0) q482 (fun _ h => h) dX0_house_169 ?_
          refine lv_iload hx hb dX0_house_172 (lv_at hl 5 rfl) ?_
          refine lv_iconst (v := 0) hx hb dX0_house_174 (by decide) ?_
          refine x_call (x_runV (i := 74) hC hI (xst hI (st_lt (Or.inr (Or.inl rfl) : stOK 74) (d := 0) (by decide)) (sls_0 (Or.inr (Or.inl rfl) : stOK 74))) rfl (um_X5_isMended l D dA ad Hs hC.2.2 σ9 74 x7 0 (Or.inr (Or.inl rfl) : stOK 74) _ hT) (lw_V q1538 q1520 q1521 q169 q1522) 2 hdV_X5_isMended ⟨rfl, rfl⟩ ⟨Nat.le_of_ble_eq_true rfl, Nat.le_of_ble_eq_true rfl⟩ rfl hl.1 rfl (Nat.le_of_ble_eq_true rfl) hB dX0_house_175) hI (fun _ σ11 H locs hT hI => ?_)
          refine W.eq (g2 := F0 m 178 ls []) rfl ?_
          refine lv_iinc (v := x7 + 1) (lv' := [(7, .int (x7 + 1)), (0, .ref (ad 0)), (1, .int x1), (2, .int x2), (3, .int x3), (4, .int x4)]) hx hb dX0_house_178 hl (k := 5) rfl rfl (Nat.le_of_ble_eq_true rfl) rfl (fun ls hl => ?_)
          refine lv_goto (tgt := 137) hx hb dX0_house_181 (by decide) ?_
          exact ih (x7 + 1) σ11 _ _ _ hT hI (lv_sub hl [1, 2, 3, 4, 5, 0] rfl)
        · replace hT := hT.2 hc
          refine lv_goto (tgt := 178) hx hb dX0_house_156 (by decide) ?_
          refine lv_iinc (v := x7 + 1) (lv' := [(7, .int (x7 + 1)), (0, .ref (ad 0)), (1, .int x1), (2, .int x2), (3, .int x3), (4, .int x4)]) hx hb dX0_house_178 hl (k := 5) rfl rfl (Nat.le_of_ble_eq_true rfl) rfl (fun ls hl => ?_)
          refine lv_goto (tgt := 137) hx hb dX0_house_181 (by decide) ?_
          exact ih (x7 + 1) σ7 _ _ _ hT hI (lv_sub hl [1, 2, 3, 4, 5, 0] rfl)
  have w_112 : ∀ (x1 : Int32) (x2 : Int32) (k34 : Int32 → Int32 → CS → Prop), (∀ (x3 : Int32) (x4 : Int32) (σ : CS) (H : Heap) (locs : List Loc) (ls : Array Slot), k34 x3 x4 σ → xI D dA ad 1296 Hs s.heap σ H locs → lv_has ls 8 [(0, .ref (ad 0)), (1, .int x1), (2, .int x2), (3, .int x3), (4, .int x4)] → W p l e ({ frames := 909, cells := 0, slots := 0, locals := 18683 }) s m args below meth c H locs 0 0 Q (F0 m 34 ls [])) → ∀ (x3 : Int32) (x4 : Int32) (s0 : Int32) (σ : CS) (H : Heap) (locs : List Loc) (ls : Array Slot), U_X0_house_112 K k34 x1 x2 x3 x4 s0 σ → xI D dA ad 1296 Hs s.heap σ H locs → lv_has ls 8 [(0, .ref (ad 0)), (1, .int x1), (2, .int x2), (3, .int x3), (4, .int x4)] → W p l e ({ frames := 909, cells := 0, slots := 0, locals := 18683 }) s m args below meth c H locs 0 0 Q (F0 m 112 ls [.int s0]) := by
    intro x1 x2 k34 hk34 x3 x4 s0 σ H locs ls hT hI hl
    unfold U_X0_house_112 at hT
    refine lv_istore (lv' := [(6, .int s0), (0, .ref (ad 0)), (1, .int x1), (2, .int x2), (3, .int x3), (4, .int x4)]) hx hb dX0_house_112 hl (Nat.le_of_ble_eq_true rfl) rfl (fun ls hl => ?_)
    refine lv_iload hx hb dX0_house_114 (lv_at hl 0 rfl) ?_
    refine lv_if_eq (tgt := 122) hx hb dX0_house_116 (by decide) (fun hc => ?_) (fun hc => ?_)
    · replace hT := hT.1 hc
      refine lv_aload_n hx hb dX0_house_122 rfl (lv_at hl 1 rfl) ?_
      refine xg0_10 (i := 0) hC hI (xst hI (Nat.le_of_ble_eq_true rfl) sl_0) q482 (fun _ h => h) dX0_house_123 ?_
      refine lv_aload_n hx hb dX0_house_126 rfl (lv_at hl 1 rfl) ?_
      refine xg0_9 (i := 0) hC hI (xst hI (Nat.le_of_ble_eq_true rfl) sl_0) q481 (fun _ h => h) dX0_house_127 ?_
      refine x_call (x_runV (i := 74) hC hI (xst hI (st_lt (Or.inr (Or.inl rfl) : stOK 74) (d := 0) (by decide)) (sls_0 (Or.inr (Or.inl rfl) : stOK 74))) rfl (um_X5_copy l D dA ad Hs hC.2.2 σ 74 16 (Or.inr (Or.inl rfl) : stOK 74) (Or.inl rfl : stOK 16) _ hT) (lw_V q1486 q1487 q1488 q169 q1489) 1 hdV_X5_copy ⟨rfl, rfl⟩ ⟨Nat.le_of_ble_eq_true rfl, Nat.le_of_ble_eq_true rfl⟩ rfl hl.1 rfl (Nat.le_of_ble_eq_true rfl) hB dX0_house_130) hI (fun r14 σ13 H locs hT hI => ?_)
      refine W.eq (g2 := F0 m 133 ls [va_rf (rgR ad r14)]) rfl ?_
      refine lv_pop hx hb dX0_house_133 (va_rf_cat _) ?_
      refine lv_iconst (v := 0) hx hb dX0_house_134 (by decide) ?_
      refine lv_istore (lv' := [(7, .int 0), (6, .int s0), (0, .ref (ad 0)), (1, .int x1), (2, .int x2), (3, .int x3), (4, .int x4)]) hx hb dX0_house_135 hl (Nat.le_of_ble_eq_true rfl) rfl (fun ls hl => ?_)
      obtain ⟨n137, hT⟩ := hT
      exact w_137 x1 x2 (k34) (hk34) x3 x4 n137 0 σ13 _ _ _ hT hI (lv_sub hl [2, 3, 4, 5, 6, 0] rfl)
    · replace hT := hT.2 hc
      refine lv_goto (tgt := 202) hx hb dX0_house_119 (by decide) ?_
      refine lv_iinc (v := x4 + 1) (lv' := [(4, .int (x4 + 1)), (6, .int s0), (0, .ref (ad 0)), (1, .int x1), (2, .int x2), (3, .int x3)]) hx hb dX0_house_202 hl (k := 5) rfl rfl (Nat.le_of_ble_eq_true rfl) rfl (fun ls hl => ?_)
      refine lv_goto (tgt := 34) hx hb dX0_house_205 (by decide) ?_
      exact hk34 x3 (x4 + 1) σ _ _ _ hT hI (lv_sub hl [2, 3, 4, 5, 0] rfl)
  have w_34 : ∀ (x1 : Int32) (x2 : Int32) (n : Nat) (x3 : Int32) (x4 : Int32) (σ : CS) (H : Heap) (locs : List Loc) (ls : Array Slot), U_X0_house_34 K x1 x2 n x3 x4 σ → xI D dA ad 1296 Hs s.heap σ H locs → lv_has ls 8 [(0, .ref (ad 0)), (1, .int x1), (2, .int x2), (3, .int x3), (4, .int x4)] → W p l e ({ frames := 909, cells := 0, slots := 0, locals := 18683 }) s m args below meth c H locs 0 0 Q (F0 m 34 ls []) := by
    intro x1 x2 n
    induction n with
    | zero => intro x3 x4 σ H locs ls hT; exact hT.elim
    | succ n ih =>
      intro x3 x4 σ H locs ls hT hI hl
      unfold U_X0_house_34 at hT
      refine lv_iload hx hb dX0_house_34 (lv_at hl 4 rfl) ?_
      refine lv_iconst (v := 1) hx hb dX0_house_36 (by decide) ?_
      refine lv_aload_n hx hb dX0_house_37 rfl (lv_at hl 0 rfl) ?_
      refine x_call (x_runV (i := 0) hC hI (xst hI (Nat.le_of_ble_eq_true rfl) sl_0) rfl (um_X0_things l D dA ad Hs hC.2.2 σ _ hT) (lw_V q1249 q1251 qs34 q158 q1252) 0 hdV_X0_things ⟨rfl, rfl⟩ ⟨Nat.le_of_ble_eq_true rfl, Nat.le_of_ble_eq_true rfl⟩ rfl hl.1 rfl (Nat.le_of_ble_eq_true rfl) hB dX0_house_38) hI (fun r16 σ15 H locs hT hI => ?_)
      refine W.eq (g2 := F0 m 41 ls [.int r16, .int 1, .int x4]) rfl ?_
      refine lv_ishl hx hb dX0_house_41 ?_
      refine lv_icmp_ge (tgt := 208) hx hb dX0_house_42 (by decide) (fun hc => ?_) (fun hc => ?_)
      · replace hT := hT.1 hc
        refine lv_iload_n hx hb dX0_house_208 rfl (lv_at hl 3 rfl) ?_
        refine lv_iconst (v := -1) hx hb dX0_house_209 (by decide) ?_
        refine lv_icmp_eq (tgt := 217) hx hb dX0_house_210 (by decide) (fun hc => ?_) (fun hc => ?_)
        · replace hT := hT.1 hc
          refine lv_iload_n hx hb dX0_house_217 rfl (lv_at hl 3 rfl) ?_
          refine lv_goto (tgt := 226) hx hb dX0_house_218 (by decide) ?_
          exact hret _ _ _ _ _ _ _ _ hT hI hB dX0_house_226
        · replace hT := hT.2 hc
          refine lv_iload_n hx hb dX0_house_213 rfl (lv_at hl 2 rfl) ?_
          refine lv_if_ne (tgt := 221) hx hb dX0_house_214 (by decide) (fun hc => ?_) (fun hc => ?_)
          · replace hT := hT.1 hc
            refine lv_aload_n hx hb dX0_house_221 rfl (lv_at hl 0 rfl) ?_
            refine lv_iload_n hx hb dX0_house_222 rfl (lv_at hl 3 rfl) ?_
            refine x_call (x_runV (i := 0) hC hI (xst hI (Nat.le_of_ble_eq_true rfl) sl_0) rfl (um_X0_worthOf l D dA ad Hs hC.2.2 σ15 x3 _ hT) (lw_V q1533 q1535 qs53 q158 q1536) 1 hdV_X0_worthOf ⟨rfl, rfl⟩ ⟨Nat.le_of_ble_eq_true rfl, Nat.le_of_ble_eq_true rfl⟩ rfl hl.1 rfl (Nat.le_of_ble_eq_true rfl) hB dX0_house_223) hI (fun r18 σ17 H locs hT hI => ?_)
            refine W.eq (g2 := F0 m 226 ls [.int r18]) rfl ?_
            exact hret _ _ _ _ _ _ _ _ hT hI hB dX0_house_226
          · replace hT := hT.2 hc
            refine lv_iload_n hx hb dX0_house_217 rfl (lv_at hl 3 rfl) ?_
            refine lv_goto (tgt := 226) hx hb dX0_house_218 (by decide) ?_
            exact hret _ _ _ _ _ _ _ _ hT hI hB dX0_house_226
      · replace hT := hT.2 hc
        refine lv_iload hx hb dX0_house_45 (lv_at hl 4 rfl) ?_
        refine lv_aload_n hx hb dX0_house_47 rfl (lv_at hl 0 rfl) ?_
        refine xg0_9 (i := 0) hC hI (xst hI (Nat.le_of_ble_eq_true rfl) sl_0) q481 (fun _ h => h) dX0_house_48 ?_
        refine lv_iconst (v := 1) hx hb dX0_house_51 (by decide) ?_
        refine x_call (x_runV (i := 16) hC hI (xst hI (st_lt (Or.inl rfl : stOK 16) (d := 0) (by decide)) (sls_0 (Or.inl rfl : stOK 16))) rfl (um_X5_are l D dA ad Hs hC.2.2 σ15 16 1 (Or.inl rfl : stOK 16) _ hT) (lw_V q1263 q1264 q1265 q169 q1266) 1 hdV_X5_are ⟨rfl, rfl⟩ ⟨Nat.le_of_ble_eq_true rfl, Nat.le_of_ble_eq_true rfl⟩ rfl hl.1 rfl (Nat.le_of_ble_eq_true rfl) hB dX0_house_52) hI (fun r20 σ19 H locs hT hI => ?_)
        refine W.eq (g2 := F0 m 55 ls [.int r20, .int x4]) rfl ?_
        refine lv_iand hx hb dX0_house_55 ?_
        refine lv_if_eq (tgt := 62) hx hb dX0_house_56 (by decide) (fun hc => ?_) (fun hc => ?_)
        · replace hT := hT.1 hc
          refine lv_aload_n hx hb dX0_house_62 rfl (lv_at hl 0 rfl) ?_
          refine lv_iload hx hb dX0_house_63 (lv_at hl 4 rfl) ?_
          refine x_call (x_runV (i := 0) hC hI (xst hI (Nat.le_of_ble_eq_true rfl) sl_0) rfl (um_X0_worthOf l D dA ad Hs hC.2.2 σ19 x4 _ hT) (lw_V q1533 q1535 qs53 q158 q1536) 1 hdV_X0_worthOf ⟨rfl, rfl⟩ ⟨Nat.le_of_ble_eq_true rfl, Nat.le_of_ble_eq_true rfl⟩ rfl hl.1 rfl (Nat.le_of_ble_eq_true rfl) hB dX0_house_65) hI (fun r22 σ21 H locs hT hI => ?_)
          refine W.eq (g2 := F0 m 68 ls [.int r22]) rfl ?_
          refine lv_istore (lv' := [(5, .int r22), (0, .ref (ad 0)), (1, .int x1), (2, .int x2), (3, .int x3), (4, .int x4)]) hx hb dX0_house_68 hl (Nat.le_of_ble_eq_true rfl) rfl (fun ls hl => ?_)
          refine lv_iload_n hx hb dX0_house_70 rfl (lv_at hl 4 rfl) ?_
          refine lv_iconst (v := -1) hx hb dX0_house_71 (by decide) ?_
          refine lv_icmp_eq (tgt := 111) hx hb dX0_house_72 (by decide) (fun hc => ?_) (fun hc => ?_)
          · replace hT := hT.1 hc
            refine lv_iconst (v := 0) hx hb dX0_house_111 (by decide) ?_
            exact w_112 x1 x2 (U_X0_house_34 K x1 x2 n) (ih) x3 x4 0 σ21 _ _ _ hT hI (lv_sub hl [1, 2, 3, 4, 5] rfl)
          · replace hT := hT.2 hc
            refine lv_iload hx hb dX0_house_75 (lv_at hl 0 rfl) ?_
            refine lv_aload_n hx hb dX0_house_77 rfl (lv_at hl 1 rfl) ?_
            refine lv_iload_n hx hb dX0_house_78 rfl (lv_at hl 4 rfl) ?_
            refine x_call (x_runV (i := 0) hC hI (xst hI (Nat.le_of_ble_eq_true rfl) sl_0) rfl (um_X0_worthOf l D dA ad Hs hC.2.2 σ21 x3 _ hT) (lw_V q1533 q1535 qs53 q158 q1536) 1 hdV_X0_worthOf ⟨rfl, rfl⟩ ⟨Nat.le_of_ble_eq_true rfl, Nat.le_of_ble_eq_true rfl⟩ rfl hl.1 rfl (Nat.le_of_ble_eq_true rfl) hB dX0_house_79) hI (fun r24 σ23 H locs hT hI => ?_)
            refine W.eq (g2 := F0 m 82 ls [.int r24, .int r22]) rfl ?_
            refine lv_icmp_gt (tgt := 107) hx hb dX0_house_82 (by decide) (fun hc => ?_) (fun hc => ?_)
            · replace hT := hT.1 hc
              refine lv_iconst (v := 1) hx hb dX0_house_107 (by decide) ?_
              refine lv_goto (tgt := 112) hx hb dX0_house_108 (by decide) ?_
              exact w_112 x1 x2 (U_X0_house_34 K x1 x2 n) (ih) x3 x4 1 σ23 _ _ _ hT hI (lv_sub hl [1, 2, 3, 4, 5] rfl)
            · replace hT := hT.2 hc
              refine lv_iload hx hb dX0_house_85 (lv_at hl 0 rfl) ?_
              refine lv_aload_n hx hb dX0_house_87 rfl (lv_at hl 1 rfl) ?_
              refine lv_iload_n hx hb dX0_house_88 rfl (lv_at hl 4 rfl) ?_
              refine x_call (x_runV (i := 0) hC hI (xst hI (Nat.le_of_ble_eq_true rfl) sl_0) rfl (um_X0_worthOf l D dA ad Hs hC.2.2 σ23 x3 _ hT) (lw_V q1533 q1535 qs53 q158 q1536) 1 hdV_X0_worthOf ⟨rfl, rfl⟩ ⟨Nat.le_of_ble_eq_true rfl, Nat.le_of_ble_eq_true rfl⟩ rfl hl.1 rfl (Nat.le_of_ble_eq_true rfl) hB dX0_house_89) hI (fun r26 σ25 H locs hT hI => ?_)
              refine W.eq (g2 := F0 m 92 ls [.int r26, .int r22]) rfl ?_
              refine lv_icmp_ne (tgt := 111) hx hb dX0_house_92 (by decide) (fun hc => ?_) (fun hc => ?_)
              · replace hT := hT.1 hc
                refine lv_iconst (v := 0) hx hb dX0_house_111 (by decide) ?_
                exact w_112 x1 x2 (U_X0_house_34 K x1 x2 n) (ih) x3 x4 0 σ25 _ _ _ hT hI (lv_sub hl [1, 2, 3, 4, 5] rfl)
              · replace hT := hT.2 hc
                refine lv_iload hx hb dX0_house_95 (lv_at hl 5 rfl) ?_
                refine x_call (x_runS hC hI (um_J16_bitCount l D dA ad 1296 Hs hC.2.2 σ25 x4 _ hT) (lw_S q1268 q1269 q197 q1270) 1 hdS_J16_bitCount ⟨rfl, rfl⟩ ⟨Nat.le_of_ble_eq_true rfl, Nat.le_of_ble_eq_true rfl⟩ rfl hl.1 rfl (Nat.le_of_ble_eq_true rfl) hB dX0_house_97) hI (fun r28 σ27 H locs hT hI => ?_)
                refine W.eq (g2 := F0 m 100 ls [.int r28]) rfl ?_
                refine lv_iload_n hx hb dX0_house_100 rfl (lv_at hl 4 rfl) ?_
                refine x_call (x_runS hC hI (um_J16_bitCount l D dA ad 1296 Hs hC.2.2 σ27 x3 _ hT) (lw_S q1268 q1269 q197 q1270) 1 hdS_J16_bitCount ⟨rfl, rfl⟩ ⟨Nat.le_of_ble_eq_true rfl, Nat.le_of_ble_eq_true rfl⟩ rfl hl.1 rfl (Nat.le_of_ble_eq_true rfl) hB dX0_house_101) hI (fun r30 σ29 H locs hT hI => ?_)
                refine W.eq (g2 := F0 m 104 ls [.int r30, .int r28]) rfl ?_
                refine lv_icmp_lt (tgt := 111) hx hb dX0_house_104 (by decide) (fun hc => ?_) (fun hc => ?_)
                · replace hT := hT.1 hc
                  refine lv_iconst (v := 0) hx hb dX0_house_111 (by decide) ?_
                  exact w_112 x1 x2 (U_X0_house_34 K x1 x2 n) (ih) x3 x4 0 σ29 _ _ _ hT hI (lv_sub hl [1, 2, 3, 4, 5] rfl)
                · replace hT := hT.2 hc
                  refine lv_iconst (v := 1) hx hb dX0_house_107 (by decide) ?_
                  refine lv_goto (tgt := 112) hx hb dX0_house_108 (by decide) ?_
                  exact w_112 x1 x2 (U_X0_house_34 K x1 x2 n) (ih) x3 x4 1 σ29 _ _ _ hT hI (lv_sub hl [1, 2, 3, 4, 5] rfl)
        · replace hT := hT.2 hc
          refine lv_goto (tgt := 202) hx hb dX0_house_59 (by decide) ?_
          refine lv_iinc (v := x4 + 1) (lv' := [(4, .int (x4 + 1)), (0, .ref (ad 0)), (1, .int x1), (2, .int x2), (3, .int x3)]) hx hb dX0_house_202 hl (k := 4) rfl rfl (Nat.le_of_ble_eq_true rfl) rfl (fun ls hl => ?_)
          refine lv_goto (tgt := 34) hx hb dX0_house_205 (by decide) ?_
          exact ih x3 (x4 + 1) σ19 _ _ _ hT hI (lv_sub hl [1, 2, 3, 4, 0] rfl)
  unfold U_X0_house at hT
  refine lv_aload_n hx hb dX0_house_0 rfl (lv_at hl 0 rfl) ?_
  refine x_call (x_runV (i := 0) hC hI (xst hI (Nat.le_of_ble_eq_true rfl) sl_0) rfl (um_X0_menders l D dA ad Hs hC.2.2 σ _ hT) (lw_V q1255 q1257 qs35 q158 q1258) 0 hdV_X0_menders ⟨rfl, rfl⟩ ⟨Nat.le_of_ble_eq_true rfl, Nat.le_of_ble_eq_true rfl⟩ rfl hl.1 rfl (Nat.le_of_ble_eq_true rfl) hB dX0_house_1) hI (fun r32 σ31 H locs hT hI => ?_)
  refine W.eq (g2 := F0 m 4 ls [.int r32]) rfl ?_
  refine lv_if_eq (tgt := 27) hx hb dX0_house_4 (by decide) (fun hc => ?_) (fun hc => ?_)
  · replace hT := hT.1 hc
    refine lv_iconst (v := -1) hx hb dX0_house_27 (by decide) ?_
    exact hret _ _ _ _ _ _ _ _ hT hI hB dX0_house_28
  · replace hT := hT.2 hc
    refine lv_iload_n hx hb dX0_house_7 rfl (lv_at hl 1 rfl) ?_
    refine lv_iconst (v := 0) hx hb dX0_house_8 (by decide) ?_
    refine lv_sipush (v := 999) hx hb dX0_house_9 (by decide) ?_
    refine x_call (x_runS hC hI (um_X0_is l D dA ad 1296 Hs hC.2.2 σ31 x1 0 999 _ hT) (lw_S q1398 q815 q158 q816) 3 hdS_X0_is ⟨rfl, rfl⟩ ⟨Nat.le_of_ble_eq_true rfl, Nat.le_of_ble_eq_true rfl⟩ rfl hl.1 rfl (Nat.le_of_ble_eq_true rfl) hB dX0_house_12) hI (fun r34 σ33 H locs hT hI => ?_)
    refine W.eq (g2 := F0 m 15 ls [.int r34]) rfl ?_
    refine lv_if_eq (tgt := 27) hx hb dX0_house_15 (by decide) (fun hc => ?_) (fun hc => ?_)
    · replace hT := hT.1 hc
      refine lv_iconst (v := -1) hx hb dX0_house_27 (by decide) ?_
      exact hret _ _ _ _ _ _ _ _ hT hI hB dX0_house_28
    · replace hT := hT.2 hc
      refine lv_iload_n hx hb dX0_house_18 rfl (lv_at hl 2 rfl) ?_
      refine lv_iconst (v := 0) hx hb dX0_house_19 (by decide) ?_
      refine lv_iconst (v := 1) hx hb dX0_house_20 (by decide) ?_
      refine x_call (x_runS hC hI (um_X0_is l D dA ad 1296 Hs hC.2.2 σ33 x2 0 1 _ hT) (lw_S q1398 q815 q158 q816) 3 hdS_X0_is ⟨rfl, rfl⟩ ⟨Nat.le_of_ble_eq_true rfl, Nat.le_of_ble_eq_true rfl⟩ rfl hl.1 rfl (Nat.le_of_ble_eq_true rfl) hB dX0_house_21) hI (fun r36 σ35 H locs hT hI => ?_)
      refine W.eq (g2 := F0 m 24 ls [.int r36]) rfl ?_
      refine lv_if_ne (tgt := 29) hx hb dX0_house_24 (by decide) (fun hc => ?_) (fun hc => ?_)
      · replace hT := hT.1 hc
        refine lv_iconst (v := -1) hx hb dX0_house_29 (by decide) ?_
        refine lv_istore_n (lv' := [(3, .int (-1)), (0, .ref (ad 0)), (1, .int x1), (2, .int x2)]) hx hb dX0_house_30 rfl hl (Nat.le_of_ble_eq_true rfl) rfl (fun ls hl => ?_)
        refine lv_iconst (v := 0) hx hb dX0_house_31 (by decide) ?_
        refine lv_istore (lv' := [(4, .int 0), (3, .int (-1)), (0, .ref (ad 0)), (1, .int x1), (2, .int x2)]) hx hb dX0_house_32 hl (Nat.le_of_ble_eq_true rfl) rfl (fun ls hl => ?_)
        obtain ⟨n34, hT⟩ := hT
        exact w_34 x1 x2 n34 (-1) 0 σ35 _ _ _ hT hI (lv_sub hl [2, 3, 4, 1, 0] rfl)
      · replace hT := hT.2 hc
        refine lv_iconst (v := -1) hx hb dX0_house_27 (by decide) ?_
        exact hret _ _ _ _ _ _ _ _ hT hI hB dX0_house_28
set_option maxHeartbeats 4000000 in
set_option maxRecDepth 100000 in
theorem um_X0_gain (l : Launch) (D : va_G) (dA : Nat → ClassId) (ad : Nat → Nat) (Hs : Heap) (hA : cAd ad 1296 Hs.size) (σ : CS) (x1 : Int32) (x2 : Int32) (K : Int64 → CS → Prop) (hT : U_X0_gain σ x1 x2 K) : Met l yX0_gain (ws_ yX0_gain cX0_gain 3 (some .long)) ({ frames := 909, cells := 0, slots := 0, locals := 18683 }) (va_Pc [.ref (ad 0), .int x1, .int x2] (cU D dA ad 1296 Hs σ)) (xQ rvL K (cU D dA ad 1296 Hs) (cA ad)) 0 0 (cA ad) := by
  refine xm_l hA (by decide) rfl (Nat.le_of_ble_eq_true rfl) ?_
  intro p e s m args below meth c Q hC hN hret hI ls hl
  have hx := hC.1.1
  have hb := hC.1.2.1
  have hB : 0 ≤ 0 ∧ 0 ≤ 0 := ⟨Nat.zero_le _, Nat.zero_le _⟩
  have hl : lv_has ls 3 [(0, .ref (ad 0)), (1, .int x1), (2, .int x2)] := hl
  unfold U_X0_gain at hT
  refine lv_aload_n hx hb dX0_gain_0 rfl (lv_at hl 0 rfl) ?_
  refine lv_iload_n hx hb dX0_gain_1 rfl (lv_at hl 1 rfl) ?_
  refine x_call (x_runV (i := 0) hC hI (xst hI (Nat.le_of_ble_eq_true rfl) sl_0) rfl (um_X0_isThing l D dA ad Hs hC.2.2 σ x1 _ hT) (lw_V q1423 q1425 qs43 q158 q1426) 1 hdV_X0_isThing ⟨rfl, rfl⟩ ⟨Nat.le_of_ble_eq_true rfl, Nat.le_of_ble_eq_true rfl⟩ rfl hl.1 rfl (Nat.le_of_ble_eq_true rfl) hB dX0_gain_2) hI (fun r2 σ1 H locs hT hI => ?_)
  refine W.eq (g2 := F0 m 5 ls [.int r2]) rfl ?_
  refine lv_if_eq (tgt := 29) hx hb dX0_gain_5 (by decide) (fun hc => ?_) (fun hc => ?_)
  · replace hT := hT.1 hc
    refine lv_ldc2 hx hb hC.1.2.2.2.1 (hC.1.2.2.2.2 _ q1543) dX0_gain_29 ?_
    exact hret _ _ _ _ _ _ _ _ hT hI hB dX0_gain_32
  · replace hT := hT.2 hc
    refine lv_aload_n hx hb dX0_gain_8 rfl (lv_at hl 0 rfl) ?_
    refine lv_iload_n hx hb dX0_gain_9 rfl (lv_at hl 2 rfl) ?_
    refine x_call (x_runV (i := 0) hC hI (xst hI (Nat.le_of_ble_eq_true rfl) sl_0) rfl (um_X0_isMender l D dA ad Hs hC.2.2 σ1 x2 _ hT) (lw_V q1432 q1434 qs44 q158 q1435) 1 hdV_X0_isMender ⟨rfl, rfl⟩ ⟨Nat.le_of_ble_eq_true rfl, Nat.le_of_ble_eq_true rfl⟩ rfl hl.1 rfl (Nat.le_of_ble_eq_true rfl) hB dX0_gain_10) hI (fun r4 σ3 H locs hT hI => ?_)
    refine W.eq (g2 := F0 m 13 ls [.int r4]) rfl ?_
    refine lv_if_eq (tgt := 29) hx hb dX0_gain_13 (by decide) (fun hc => ?_) (fun hc => ?_)
    · replace hT := hT.1 hc
      refine lv_ldc2 hx hb hC.1.2.2.2.1 (hC.1.2.2.2.2 _ q1543) dX0_gain_29 ?_
      exact hret _ _ _ _ _ _ _ _ hT hI hB dX0_gain_32
    · replace hT := hT.2 hc
      refine lv_aload_n hx hb dX0_gain_16 rfl (lv_at hl 0 rfl) ?_
      refine xg0_9 (i := 0) hC hI (xst hI (Nat.le_of_ble_eq_true rfl) sl_0) q481 (fun _ h => h) dX0_gain_17 ?_
      refine xgN5_2 (i := 16) hC hI (xst hI (st_lt (Or.inl rfl : stOK 16) (d := 0) (by decide)) (sls_0 (Or.inl rfl : stOK 16))) q416 (fun _ h => h) dX0_gain_20 ?_
      refine lv_iload_n hx hb dX0_gain_23 rfl (lv_at hl 1 rfl) ?_
      refine x_iald (i := 17) hC hI (xst hI (st_lt (Or.inl rfl : stOK 16) (d := 1) (by decide)) (sls_1 (Or.inl rfl : stOK 16))) hT dX0_gain_24 (fun hT => ?_)
      refine lv_iconst (v := 1) hx hb dX0_gain_25 (by decide) ?_
      refine lv_icmp_eq (tgt := 33) hx hb dX0_gain_26 (by decide) (fun hc => ?_) (fun hc => ?_)
      · replace hT := hT.1 hc
        refine lv_aload_n hx hb dX0_gain_33 rfl (lv_at hl 0 rfl) ?_
        refine xg0_10 (i := 0) hC hI (xst hI (Nat.le_of_ble_eq_true rfl) sl_0) q482 (fun _ h => h) dX0_gain_34 ?_
        refine lv_aload_n hx hb dX0_gain_37 rfl (lv_at hl 0 rfl) ?_
        refine xg0_9 (i := 0) hC hI (xst hI (Nat.le_of_ble_eq_true rfl) sl_0) q481 (fun _ h => h) dX0_gain_38 ?_
        refine x_call (x_runV (i := 74) hC hI (xst hI (st_lt (Or.inr (Or.inl rfl) : stOK 74) (d := 0) (by decide)) (sls_0 (Or.inr (Or.inl rfl) : stOK 74))) rfl (um_X5_copy l D dA ad Hs hC.2.2 σ3 74 16 (Or.inr (Or.inl rfl) : stOK 74) (Or.inl rfl : stOK 16) _ hT) (lw_V q1486 q1487 q1488 q169 q1489) 1 hdV_X5_copy ⟨rfl, rfl⟩ ⟨Nat.le_of_ble_eq_true rfl, Nat.le_of_ble_eq_true rfl⟩ rfl hl.1 rfl (Nat.le_of_ble_eq_true rfl) hB dX0_gain_41) hI (fun r6 σ5 H locs hT hI => ?_)
        refine W.eq (g2 := F0 m 44 ls [va_rf (rgR ad r6)]) rfl ?_
        refine lv_iload_n hx hb dX0_gain_44 rfl (lv_at hl 1 rfl) ?_
        refine lv_iload_n hx hb dX0_gain_45 rfl (lv_at hl 2 rfl) ?_
        obtain ⟨q7, hqe_q7, hT_q7⟩ := hT
        have hl_q7 := hl
        subst hqe_q7
        replace hT := hT_q7
        refine W.eq (g2 := F0 m 46 ls [.int x2, .int x1, .ref (ad q7)]) rfl ?_
        have hl : lv_has ls 3 [(0, .ref (ad 0)), (1, .int x1), (2, .int x2)] := hl_q7
        obtain ⟨hst, hT⟩ := hT
        obtain ⟨hL, hT⟩ := hT
        refine x_call (x_runV (i := q7) hC hI hL rfl (um_X5_isMended l D dA ad Hs hC.2.2 σ5 q7 x1 x2 hst _ hT) (lw_V q1538 q1520 q1521 q169 q1522) 2 hdV_X5_isMended ⟨rfl, rfl⟩ ⟨Nat.le_of_ble_eq_true rfl, Nat.le_of_ble_eq_true rfl⟩ rfl hl.1 rfl (Nat.le_of_ble_eq_true rfl) hB dX0_gain_46) hI (fun _ σ8 H locs hT hI => ?_)
        refine W.eq (g2 := F0 m 49 ls []) rfl ?_
        refine lv_aload_n hx hb dX0_gain_49 rfl (lv_at hl 0 rfl) ?_
        refine lv_aload_n hx hb dX0_gain_50 rfl (lv_at hl 0 rfl) ?_
        refine xg0_10 (i := 0) hC hI (xst hI (Nat.le_of_ble_eq_true rfl) sl_0) q482 (fun _ h => h) dX0_gain_51 ?_
        refine x_call (x_runV (i := 74) hC hI (xst hI (st_lt (Or.inr (Or.inl rfl) : stOK 74) (d := 0) (by decide)) (sls_0 (Or.inr (Or.inl rfl) : stOK 74))) rfl (um_X5_standing l D dA ad Hs hC.2.2 σ8 74 (Or.inr (Or.inl rfl) : stOK 74) _ hT) (lw_V q1274 q1275 q1276 q169 q1277) 0 hdV_X5_standing ⟨rfl, rfl⟩ ⟨Nat.le_of_ble_eq_true rfl, Nat.le_of_ble_eq_true rfl⟩ rfl hl.1 rfl (Nat.le_of_ble_eq_true rfl) hB dX0_gain_54) hI (fun r11 σ10 H locs hT hI => ?_)
        refine W.eq (g2 := F0 m 57 ls [.int r11, .ref (ad 0)]) rfl ?_
        refine x_call (x_runV (i := 0) hC hI (xst hI (Nat.le_of_ble_eq_true rfl) sl_0) rfl (um_X0_useOf l D dA ad Hs hC.2.2 σ10 r11 _ hT) (lw_V q1388 q1390 qs42 q158 q1391) 1 hdV_X0_useOf ⟨rfl, rfl⟩ ⟨Nat.le_of_ble_eq_true rfl, Nat.le_of_ble_eq_true rfl⟩ rfl hl.1 rfl (Nat.le_of_ble_eq_true rfl) hB dX0_gain_57) hI (fun r13 σ12 H locs hT hI => ?_)
        refine W.eq (g2 := F0 m 60 ls [.int r13]) rfl ?_
        refine lv_aload_n hx hb dX0_gain_60 rfl (lv_at hl 0 rfl) ?_
        refine lv_aload_n hx hb dX0_gain_61 rfl (lv_at hl 0 rfl) ?_
        refine xg0_9 (i := 0) hC hI (xst hI (Nat.le_of_ble_eq_true rfl) sl_0) q481 (fun _ h => h) dX0_gain_62 ?_
        refine x_call (x_runV (i := 16) hC hI (xst hI (st_lt (Or.inl rfl : stOK 16) (d := 0) (by decide)) (sls_0 (Or.inl rfl : stOK 16))) rfl (um_X5_standing l D dA ad Hs hC.2.2 σ12 16 (Or.inl rfl : stOK 16) _ hT) (lw_V q1274 q1275 q1276 q169 q1277) 0 hdV_X5_standing ⟨rfl, rfl⟩ ⟨Nat.le_of_ble_eq_true rfl, Nat.le_of_ble_eq_true rfl⟩ rfl hl.1 rfl (Nat.le_of_ble_eq_true rfl) hB dX0_gain_65) hI (fun r15 σ14 H locs hT hI => ?_)
        refine W.eq (g2 := F0 m 68 ls [.int r15, .ref (ad 0), .int r13]) rfl ?_
        refine x_call (x_runV (i := 0) hC hI (xst hI (Nat.le_of_ble_eq_true rfl) sl_0) rfl (um_X0_useOf l D dA ad Hs hC.2.2 σ14 r15 _ hT) (lw_V q1388 q1390 qs42 q158 q1391) 1 hdV_X0_useOf ⟨rfl, rfl⟩ ⟨Nat.le_of_ble_eq_true rfl, Nat.le_of_ble_eq_true rfl⟩ rfl hl.1 rfl (Nat.le_of_ble_eq_true rfl) hB dX0_gain_68) hI (fun r17 σ16 H locs hT hI => ?_)
        refine W.eq (g2 := F0 m 71 ls [.int r17, .int r13]) rfl ?_
        refine lv_isub hx hb dX0_gain_71 ?_
        refine lv_i2l hx hb dX0_gain_72 rfl ?_
        exact hret _ _ _ _ _ _ _ _ hT hI hB dX0_gain_73
      · replace hT := hT.2 hc
        refine lv_ldc2 hx hb hC.1.2.2.2.1 (hC.1.2.2.2.2 _ q1543) dX0_gain_29 ?_
        exact hret _ _ _ _ _ _ _ _ hT hI hB dX0_gain_32
set_option maxHeartbeats 4000000 in
set_option maxRecDepth 100000 in
theorem um_X0_isParted (l : Launch) (D : va_G) (dA : Nat → ClassId) (ad : Nat → Nat) (Hs : Heap) (hA : cAd ad 1296 Hs.size) (σ : CS) (x1 : Int32) (K : Int32 → CS → Prop) (hT : U_X0_isParted σ x1 K) : Met l yX0_isParted (ws_ yX0_isParted cX0_isParted 6 (some .boolean)) ({ frames := 908, cells := 0, slots := 0, locals := 18662 }) (va_Pc [.ref (ad 0), .int x1] (cU D dA ad 1296 Hs σ)) (xQ rvI K (cU D dA ad 1296 Hs) (cA ad)) 0 0 (cA ad) := by
  refine xm_z hA (by decide) rfl (Nat.le_of_ble_eq_true rfl) ?_
  intro p e s m args below meth c Q hC hN hret hI ls hl
  have hx := hC.1.1
  have hb := hC.1.2.1
  have hB : 0 ≤ 0 ∧ 0 ≤ 0 := ⟨Nat.zero_le _, Nat.zero_le _⟩
  have hl : lv_has ls 6 [(0, .ref (ad 0)), (1, .int x1)] := hl
  have w_66 : ∀ (x1 : Int32) (x2 : Int32) (k2 : Int32 → CS → Prop) (k12 : Int32 → CS → Prop), (∀ (x2 : Int32) (σ : CS) (H : Heap) (locs : List Loc) (ls : Array Slot), k2 x2 σ → xI D dA ad 1296 Hs s.heap σ H locs → lv_has ls 6 [(0, .ref (ad 0)), (1, .int x1), (2, .int x2)] → W p l e ({ frames := 908, cells := 0, slots := 0, locals := 18662 }) s m args below meth c H locs 0 0 Q (F0 m 2 ls [])) → (∀ (x3 : Int32) (σ : CS) (H : Heap) (locs : List Loc) (ls : Array Slot), k12 x3 σ → xI D dA ad 1296 Hs s.heap σ H locs → lv_has ls 6 [(0, .ref (ad 0)), (1, .int x1), (2, .int x2), (3, .int x3)] → W p l e ({ frames := 908, cells := 0, slots := 0, locals := 18662 }) s m args below meth c H locs 0 0 Q (F0 m 12 ls [])) → ∀ (x3 : Int32) (n : Nat) (x4 : Int32) (x5 : Int32) (σ : CS) (H : Heap) (locs : List Loc) (ls : Array Slot), U_X0_isParted_66 K k2 k12 x1 x2 x3 n x4 x5 σ → xI D dA ad 1296 Hs s.heap σ H locs → lv_has ls 6 [(0, .ref (ad 0)), (1, .int x1), (2, .int x2), (3, .int x3), (4, .int x4), (5, .int x5)] → W p l e ({ frames := 908, cells := 0, slots := 0, locals := 18662 }) s m args below meth c H locs 0 0 Q (F0 m 66 ls []) := by
    intro x1 x2 k2 k12 hk2 hk12 x3 n
    induction n with
    | zero => intro x4 x5 σ H locs ls hT; exact hT.elim
    | succ n ih =>
      intro x4 x5 σ H locs ls hT hI hl
      unfold U_X0_isParted_66 at hT
      refine lv_iload hx hb dX0_isParted_66 (lv_at hl 5 rfl) ?_
      refine lv_aload_n hx hb dX0_isParted_68 rfl (lv_at hl 0 rfl) ?_
      refine x_call (x_runV (i := 0) hC hI (xst hI (Nat.le_of_ble_eq_true rfl) sl_0) rfl (um_X0_trials l D dA ad Hs hC.2.2 σ _ hT) (lw_V q1259 q1261 qs36 q158 q1262) 0 hdV_X0_trials ⟨rfl, rfl⟩ ⟨Nat.le_of_ble_eq_true rfl, Nat.le_of_ble_eq_true rfl⟩ rfl hl.1 rfl (Nat.le_of_ble_eq_true rfl) hB dX0_isParted_69) hI (fun r2 σ1 H locs hT hI => ?_)
      refine W.eq (g2 := F0 m 72 ls [.int r2, .int x5]) rfl ?_
      refine lv_icmp_ge (tgt := 119) hx hb dX0_isParted_72 (by decide) (fun hc => ?_) (fun hc => ?_)
      · replace hT := hT.1 hc
        refine lv_iload hx hb dX0_isParted_119 (lv_at hl 4 rfl) ?_
        refine lv_if_ne (tgt := 126) hx hb dX0_isParted_121 (by decide) (fun hc => ?_) (fun hc => ?_)
        · replace hT := hT.1 hc
          refine lv_iinc (v := x3 + 1) (lv' := [(3, .int (x3 + 1)), (0, .ref (ad 0)), (1, .int x1), (2, .int x2), (4, .int x4), (5, .int x5)]) hx hb dX0_isParted_126 hl (k := 3) rfl rfl (Nat.le_of_ble_eq_true rfl) rfl (fun ls hl => ?_)
          refine lv_goto (tgt := 12) hx hb dX0_isParted_129 (by decide) ?_
          exact hk12 (x3 + 1) σ1 _ _ _ hT hI (lv_sub hl [1, 2, 3, 0] rfl)
        · replace hT := hT.2 hc
          refine lv_iconst (v := 0) hx hb dX0_isParted_124 (by decide) ?_
          exact hret _ _ _ _ _ _ _ _ rfl hT hI hB dX0_isParted_125
      · replace hT := hT.2 hc
        refine lv_iload hx hb dX0_isParted_75 (lv_at hl 4 rfl) ?_
        refine lv_if_ne (tgt := 106) hx hb dX0_isParted_77 (by decide) (fun hc => ?_) (fun hc => ?_)
        · replace hT := hT.1 hc
          refine lv_iconst (v := 1) hx hb dX0_isParted_106 (by decide) ?_
          refine lv_goto (tgt := 111) hx hb dX0_isParted_107 (by decide) ?_
          refine lv_istore (lv' := [(4, .int 1), (0, .ref (ad 0)), (1, .int x1), (2, .int x2), (3, .int x3), (5, .int x5)]) hx hb dX0_isParted_111 hl (Nat.le_of_ble_eq_true rfl) rfl (fun ls hl => ?_)
          refine lv_iinc (v := x5 + 1) (lv' := [(5, .int (x5 + 1)), (4, .int 1), (0, .ref (ad 0)), (1, .int x1), (2, .int x2), (3, .int x3)]) hx hb dX0_isParted_113 hl (k := 5) rfl rfl (Nat.le_of_ble_eq_true rfl) rfl (fun ls hl => ?_)
          refine lv_goto (tgt := 66) hx hb dX0_isParted_116 (by decide) ?_
          exact ih 1 (x5 + 1) σ1 _ _ _ hT hI (lv_sub hl [2, 3, 4, 5, 1, 0] rfl)
        · replace hT := hT.2 hc
          refine lv_iload_n hx hb dX0_isParted_80 rfl (lv_at hl 1 rfl) ?_
          refine lv_iload hx hb dX0_isParted_81 (lv_at hl 5 rfl) ?_
          refine x_call (x_runS hC hI (um_X0_has l D dA ad 1296 Hs hC.2.2 σ1 x1 x5 _ hT) (lw_S q1392 q1094 q158 q1095) 2 hdS_X0_has ⟨rfl, rfl⟩ ⟨Nat.le_of_ble_eq_true rfl, Nat.le_of_ble_eq_true rfl⟩ rfl hl.1 rfl (Nat.le_of_ble_eq_true rfl) hB dX0_isParted_83) hI (fun r4 σ3 H locs hT hI => ?_)
          refine W.eq (g2 := F0 m 86 ls [.int r4]) rfl ?_
          refine lv_if_eq (tgt := 110) hx hb dX0_isParted_86 (by decide) (fun hc => ?_) (fun hc => ?_)
          · replace hT := hT.1 hc
            refine lv_iconst (v := 0) hx hb dX0_isParted_110 (by decide) ?_
            refine lv_istore (lv' := [(4, .int 0), (0, .ref (ad 0)), (1, .int x1), (2, .int x2), (3, .int x3), (5, .int x5)]) hx hb dX0_isParted_111 hl (Nat.le_of_ble_eq_true rfl) rfl (fun ls hl => ?_)
            refine lv_iinc (v := x5 + 1) (lv' := [(5, .int (x5 + 1)), (4, .int 0), (0, .ref (ad 0)), (1, .int x1), (2, .int x2), (3, .int x3)]) hx hb dX0_isParted_113 hl (k := 5) rfl rfl (Nat.le_of_ble_eq_true rfl) rfl (fun ls hl => ?_)
            refine lv_goto (tgt := 66) hx hb dX0_isParted_116 (by decide) ?_
            exact ih 0 (x5 + 1) σ3 _ _ _ hT hI (lv_sub hl [2, 3, 4, 5, 1, 0] rfl)
          · replace hT := hT.2 hc
            refine lv_aload_n hx hb dX0_isParted_89 rfl (lv_at hl 0 rfl) ?_
            refine lv_iload hx hb dX0_isParted_90 (lv_at hl 5 rfl) ?_
            refine lv_iload_n hx hb dX0_isParted_92 rfl (lv_at hl 2 rfl) ?_
            refine x_call (x_runV (i := 0) hC hI (xst hI (Nat.le_of_ble_eq_true rfl) sl_0) rfl (um_X0_holdsFor l D dA ad Hs hC.2.2 900 18500 _ _ (ev_V l D dA ad Hs hC.2.2 100) (ev_T l D dA ad Hs hC.2.2 100) σ3 x5 x2 _ hT) (lw_V q1353 q1355 qs41 q158 q1356) 2 hdV_X0_holdsFor ⟨rfl, rfl⟩ ⟨Nat.le_of_ble_eq_true rfl, Nat.le_of_ble_eq_true rfl⟩ rfl hl.1 rfl (Nat.le_of_ble_eq_true rfl) hB dX0_isParted_93) hI (fun r6 σ5 H locs hT hI => ?_)
            refine W.eq (g2 := F0 m 96 ls [.int r6]) rfl ?_
            refine lv_aload_n hx hb dX0_isParted_96 rfl (lv_at hl 0 rfl) ?_
            refine lv_iload hx hb dX0_isParted_97 (lv_at hl 5 rfl) ?_
            refine lv_iload_n hx hb dX0_isParted_99 rfl (lv_at hl 3 rfl) ?_
            refine x_call (x_runV (i := 0) hC hI (xst hI (Nat.le_of_ble_eq_true rfl) sl_0) rfl (um_X0_holdsFor l D dA ad Hs hC.2.2 900 18500 _ _ (ev_V l D dA ad Hs hC.2.2 100) (ev_T l D dA ad Hs hC.2.2 100) σ5 x5 x3 _ hT) (lw_V q1353 q1355 qs41 q158 q1356) 2 hdV_X0_holdsFor ⟨rfl, rfl⟩ ⟨Nat.le_of_ble_eq_true rfl, Nat.le_of_ble_eq_true rfl⟩ rfl hl.1 rfl (Nat.le_of_ble_eq_true rfl) hB dX0_isParted_100) hI (fun r8 σ7 H locs hT hI => ?_)
            refine W.eq (g2 := F0 m 103 ls [.int r8, .int r6]) rfl ?_
            refine lv_icmp_eq (tgt := 110) hx hb dX0_isParted_103 (by decide) (fun hc => ?_) (fun hc => ?_)
            · replace hT := hT.1 hc
              refine lv_iconst (v := 0) hx hb dX0_isParted_110 (by decide) ?_
              refine lv_istore (lv' := [(4, .int 0), (0, .ref (ad 0)), (1, .int x1), (2, .int x2), (3, .int x3), (5, .int x5)]) hx hb dX0_isParted_111 hl (Nat.le_of_ble_eq_true rfl) rfl (fun ls hl => ?_)
              refine lv_iinc (v := x5 + 1) (lv' := [(5, .int (x5 + 1)), (4, .int 0), (0, .ref (ad 0)), (1, .int x1), (2, .int x2), (3, .int x3)]) hx hb dX0_isParted_113 hl (k := 5) rfl rfl (Nat.le_of_ble_eq_true rfl) rfl (fun ls hl => ?_)
              refine lv_goto (tgt := 66) hx hb dX0_isParted_116 (by decide) ?_
              exact ih 0 (x5 + 1) σ7 _ _ _ hT hI (lv_sub hl [2, 3, 4, 5, 1, 0] rfl)
            · replace hT := hT.2 hc
              refine lv_iconst (v := 1) hx hb dX0_isParted_106 (by decide) ?_
              refine lv_goto (tgt := 111) hx hb dX0_isParted_107 (by decide) ?_
              refine lv_istore (lv' := [(4, .int 1), (0, .ref (ad 0)), (1, .int x1), (2, .int x2), (3, .int x3), (5, .int x5)]) hx hb dX0_isParted_111 hl (Nat.le_of_ble_eq_true rfl) rfl (fun ls hl => ?_)
              refine lv_iinc (v := x5 + 1) (lv' := [(5, .int (x5 + 1)), (4, .int 1), (0, .ref (ad 0)), (1, .int x1), (2, .int x2), (3, .int x3)]) hx hb dX0_isParted_113 hl (k := 5) rfl rfl (Nat.le_of_ble_eq_true rfl) rfl (fun ls hl => ?_)
              refine lv_goto (tgt := 66) hx hb dX0_isParted_116 (by decide) ?_
              exact ih 1 (x5 + 1) σ7 _ _ _ hT hI (lv_sub hl [2, 3, 4, 5, 1, 0] rfl)
  have w_12 : ∀ (x1 : Int32) (k2 : Int32 → CS → Prop), (∀ (x2 : Int32) (σ : CS) (H : Heap) (locs : List Loc) (ls : Array Slot), k2 x2 σ → xI D dA ad 1296 Hs s.heap σ H locs → lv_has ls 6 [(0, .ref (ad 0)), (1, .int x1), (2, .int x2)] → W p l e ({ frames := 908, cells := 0, slots := 0, locals := 18662 }) s m args below meth c H locs 0 0 Q (F0 m 2 ls [])) → ∀ (x2 : Int32) (n : Nat) (x3 : Int32) (σ : CS) (H : Heap) (locs : List Loc) (ls : Array Slot), U_X0_isParted_12 K k2 x1 x2 n x3 σ → xI D dA ad 1296 Hs s.heap σ H locs → lv_has ls 6 [(0, .ref (ad 0)), (1, .int x1), (2, .int x2), (3, .int x3)] → W p l e ({ frames := 908, cells := 0, slots := 0, locals := 18662 }) s m args below meth c H locs 0 0 Q (F0 m 12 ls []) := by
    intro x1 k2 hk2 x2 n
    induction n with
    | zero => intro x3 σ H locs ls hT; exact hT.elim
    | succ n ih =>
      intro x3 σ H locs ls hT hI hl
      unfold U_X0_isParted_12 at hT
      refine lv_iload_n hx hb dX0_isParted_12 rfl (lv_at hl 3 rfl) ?_
      refine lv_aload_n hx hb dX0_isParted_13 rfl (lv_at hl 0 rfl) ?_
      refine x_call (x_runV (i := 0) hC hI (xst hI (Nat.le_of_ble_eq_true rfl) sl_0) rfl (um_X0_things l D dA ad Hs hC.2.2 σ _ hT) (lw_V q1249 q1251 qs34 q158 q1252) 0 hdV_X0_things ⟨rfl, rfl⟩ ⟨Nat.le_of_ble_eq_true rfl, Nat.le_of_ble_eq_true rfl⟩ rfl hl.1 rfl (Nat.le_of_ble_eq_true rfl) hB dX0_isParted_14) hI (fun r10 σ9 H locs hT hI => ?_)
      refine W.eq (g2 := F0 m 17 ls [.int r10, .int x3]) rfl ?_
      refine lv_icmp_ge (tgt := 132) hx hb dX0_isParted_17 (by decide) (fun hc => ?_) (fun hc => ?_)
      · replace hT := hT.1 hc
        refine lv_iinc (v := x2 + 1) (lv' := [(2, .int (x2 + 1)), (0, .ref (ad 0)), (1, .int x1), (3, .int x3)]) hx hb dX0_isParted_132 hl (k := 2) rfl rfl (Nat.le_of_ble_eq_true rfl) rfl (fun ls hl => ?_)
        refine lv_goto (tgt := 2) hx hb dX0_isParted_135 (by decide) ?_
        exact hk2 (x2 + 1) σ9 _ _ _ hT hI (lv_sub hl [1, 2, 0] rfl)
      · replace hT := hT.2 hc
        refine lv_aload_n hx hb dX0_isParted_20 rfl (lv_at hl 0 rfl) ?_
        refine xg0_9 (i := 0) hC hI (xst hI (Nat.le_of_ble_eq_true rfl) sl_0) q481 (fun _ h => h) dX0_isParted_21 ?_
        refine xgN5_6 (i := 16) hC hI (xst hI (st_lt (Or.inl rfl : stOK 16) (d := 0) (by decide)) (sls_0 (Or.inl rfl : stOK 16))) q424 (fun _ h => h) dX0_isParted_24 ?_
        refine lv_iload_n hx hb dX0_isParted_27 rfl (lv_at hl 2 rfl) ?_
        refine x_zald (i := 21) hC hI (xst hI (st_lt (Or.inl rfl : stOK 16) (d := 5) (by decide)) (sls_5 (Or.inl rfl : stOK 16))) hT dX0_isParted_28 (fun hT => ?_)
        refine lv_if_eq (tgt := 126) hx hb dX0_isParted_29 (by decide) (fun hc => ?_) (fun hc => ?_)
        · replace hT := hT.1 hc
          refine lv_iinc (v := x3 + 1) (lv' := [(3, .int (x3 + 1)), (0, .ref (ad 0)), (1, .int x1), (2, .int x2)]) hx hb dX0_isParted_126 hl (k := 3) rfl rfl (Nat.le_of_ble_eq_true rfl) rfl (fun ls hl => ?_)
          refine lv_goto (tgt := 12) hx hb dX0_isParted_129 (by decide) ?_
          exact ih (x3 + 1) σ9 _ _ _ hT hI (lv_sub hl [1, 2, 3, 0] rfl)
        · replace hT := hT.2 hc
          refine lv_aload_n hx hb dX0_isParted_32 rfl (lv_at hl 0 rfl) ?_
          refine xg0_9 (i := 0) hC hI (xst hI (Nat.le_of_ble_eq_true rfl) sl_0) q481 (fun _ h => h) dX0_isParted_33 ?_
          refine xgN5_2 (i := 16) hC hI (xst hI (st_lt (Or.inl rfl : stOK 16) (d := 0) (by decide)) (sls_0 (Or.inl rfl : stOK 16))) q416 (fun _ h => h) dX0_isParted_36 ?_
          refine lv_iload_n hx hb dX0_isParted_39 rfl (lv_at hl 3 rfl) ?_
          refine x_iald (i := 17) hC hI (xst hI (st_lt (Or.inl rfl : stOK 16) (d := 1) (by decide)) (sls_1 (Or.inl rfl : stOK 16))) hT dX0_isParted_40 (fun hT => ?_)
          refine lv_iconst (v := 2) hx hb dX0_isParted_41 (by decide) ?_
          refine lv_icmp_ne (tgt := 126) hx hb dX0_isParted_42 (by decide) (fun hc => ?_) (fun hc => ?_)
          · replace hT := hT.1 hc
            refine lv_iinc (v := x3 + 1) (lv' := [(3, .int (x3 + 1)), (0, .ref (ad 0)), (1, .int x1), (2, .int x2)]) hx hb dX0_isParted_126 hl (k := 3) rfl rfl (Nat.le_of_ble_eq_true rfl) rfl (fun ls hl => ?_)
            refine lv_goto (tgt := 12) hx hb dX0_isParted_129 (by decide) ?_
            exact ih (x3 + 1) σ9 _ _ _ hT hI (lv_sub hl [1, 2, 3, 0] rfl)
          · replace hT := hT.2 hc
            refine lv_aload_n hx hb dX0_isParted_45 rfl (lv_at hl 0 rfl) ?_
            refine xg0_9 (i := 0) hC hI (xst hI (Nat.le_of_ble_eq_true rfl) sl_0) q481 (fun _ h => h) dX0_isParted_46 ?_
            refine xgN5_6 (i := 16) hC hI (xst hI (st_lt (Or.inl rfl : stOK 16) (d := 0) (by decide)) (sls_0 (Or.inl rfl : stOK 16))) q424 (fun _ h => h) dX0_isParted_49 ?_
            refine lv_iload_n hx hb dX0_isParted_52 rfl (lv_at hl 3 rfl) ?_
            refine x_zald (i := 21) hC hI (xst hI (st_lt (Or.inl rfl : stOK 16) (d := 5) (by decide)) (sls_5 (Or.inl rfl : stOK 16))) hT dX0_isParted_53 (fun hT => ?_)
            refine lv_if_eq (tgt := 60) hx hb dX0_isParted_54 (by decide) (fun hc => ?_) (fun hc => ?_)
            · replace hT := hT.1 hc
              refine lv_iconst (v := 0) hx hb dX0_isParted_60 (by decide) ?_
              refine lv_istore (lv' := [(4, .int 0), (0, .ref (ad 0)), (1, .int x1), (2, .int x2), (3, .int x3)]) hx hb dX0_isParted_61 hl (Nat.le_of_ble_eq_true rfl) rfl (fun ls hl => ?_)
              refine lv_iconst (v := 0) hx hb dX0_isParted_63 (by decide) ?_
              refine lv_istore (lv' := [(5, .int 0), (4, .int 0), (0, .ref (ad 0)), (1, .int x1), (2, .int x2), (3, .int x3)]) hx hb dX0_isParted_64 hl (Nat.le_of_ble_eq_true rfl) rfl (fun ls hl => ?_)
              obtain ⟨n66, hT⟩ := hT
              exact w_66 x1 x2 (k2) (U_X0_isParted_12 K k2 x1 x2 n) (hk2) (ih) x3 n66 0 0 σ9 _ _ _ hT hI (lv_sub hl [2, 3, 4, 5, 1, 0] rfl)
            · replace hT := hT.2 hc
              refine lv_goto (tgt := 126) hx hb dX0_isParted_57 (by decide) ?_
              refine lv_iinc (v := x3 + 1) (lv' := [(3, .int (x3 + 1)), (0, .ref (ad 0)), (1, .int x1), (2, .int x2)]) hx hb dX0_isParted_126 hl (k := 3) rfl rfl (Nat.le_of_ble_eq_true rfl) rfl (fun ls hl => ?_)
              refine lv_goto (tgt := 12) hx hb dX0_isParted_129 (by decide) ?_
              exact ih (x3 + 1) σ9 _ _ _ hT hI (lv_sub hl [1, 2, 3, 0] rfl)
  have w_2 : ∀ (x1 : Int32) (n : Nat) (x2 : Int32) (σ : CS) (H : Heap) (locs : List Loc) (ls : Array Slot), U_X0_isParted_2 K x1 n x2 σ → xI D dA ad 1296 Hs s.heap σ H locs → lv_has ls 6 [(0, .ref (ad 0)), (1, .int x1), (2, .int x2)] → W p l e ({ frames := 908, cells := 0, slots := 0, locals := 18662 }) s m args below meth c H locs 0 0 Q (F0 m 2 ls []) := by
    intro x1 n
    induction n with
    | zero => intro x2 σ H locs ls hT; exact hT.elim
    | succ n ih =>
      intro x2 σ H locs ls hT hI hl
      unfold U_X0_isParted_2 at hT
      refine lv_iload_n hx hb dX0_isParted_2 rfl (lv_at hl 2 rfl) ?_
      refine lv_aload_n hx hb dX0_isParted_3 rfl (lv_at hl 0 rfl) ?_
      refine x_call (x_runV (i := 0) hC hI (xst hI (Nat.le_of_ble_eq_true rfl) sl_0) rfl (um_X0_things l D dA ad Hs hC.2.2 σ _ hT) (lw_V q1249 q1251 qs34 q158 q1252) 0 hdV_X0_things ⟨rfl, rfl⟩ ⟨Nat.le_of_ble_eq_true rfl, Nat.le_of_ble_eq_true rfl⟩ rfl hl.1 rfl (Nat.le_of_ble_eq_true rfl) hB dX0_isParted_4) hI (fun r12 σ11 H locs hT hI => ?_)
      refine W.eq (g2 := F0 m 7 ls [.int r12, .int x2]) rfl ?_
      refine lv_icmp_ge (tgt := 138) hx hb dX0_isParted_7 (by decide) (fun hc => ?_) (fun hc => ?_)
      · replace hT := hT.1 hc
        refine lv_iconst (v := 1) hx hb dX0_isParted_138 (by decide) ?_
        exact hret _ _ _ _ _ _ _ _ rfl hT hI hB dX0_isParted_139
      · replace hT := hT.2 hc
        refine lv_iconst (v := 0) hx hb dX0_isParted_10 (by decide) ?_
        refine lv_istore_n (lv' := [(3, .int 0), (0, .ref (ad 0)), (1, .int x1), (2, .int x2)]) hx hb dX0_isParted_11 rfl hl (Nat.le_of_ble_eq_true rfl) rfl (fun ls hl => ?_)
        obtain ⟨n12, hT⟩ := hT
        exact w_12 x1 (U_X0_isParted_2 K x1 n) (ih) x2 n12 0 σ11 _ _ _ hT hI (lv_sub hl [1, 2, 3, 0] rfl)
  unfold U_X0_isParted at hT
  refine lv_iconst (v := 0) hx hb dX0_isParted_0 (by decide) ?_
  refine lv_istore_n (lv' := [(2, .int 0), (0, .ref (ad 0)), (1, .int x1)]) hx hb dX0_isParted_1 rfl hl (Nat.le_of_ble_eq_true rfl) rfl (fun ls hl => ?_)
  obtain ⟨n2, hT⟩ := hT
  exact w_2 x1 n2 0 σ _ _ _ hT hI (lv_sub hl [1, 2, 0] rfl)
set_option maxHeartbeats 4000000 in
set_option maxRecDepth 100000 in
theorem um_X0_parts (l : Launch) (D : va_G) (dA : Nat → ClassId) (ad : Nat → Nat) (Hs : Heap) (hA : cAd ad 1296 Hs.size) (σ : CS) (K : Int32 → CS → Prop) (hT : U_X0_parts σ K) : Met l yX0_parts (ws_ yX0_parts cX0_parts 3 (some .int)) ({ frames := 909, cells := 0, slots := 0, locals := 18687 }) (va_Pc [.ref (ad 0)] (cU D dA ad 1296 Hs σ)) (xQ rvI K (cU D dA ad 1296 Hs) (cA ad)) 0 0 (cA ad) := by
  refine xm_i hA (by decide) rfl (Nat.le_of_ble_eq_true rfl) ?_
  intro p e s m args below meth c Q hC hN hret hI ls hl
  have hx := hC.1.1
  have hb := hC.1.2.1
  have hB : 0 ≤ 0 ∧ 0 ≤ 0 := ⟨Nat.zero_le _, Nat.zero_le _⟩
  have hl : lv_has ls 3 [(0, .ref (ad 0))] := hl
  have w_30 : ∀ (k4 : Int32 → Int32 → CS → Prop), (∀ (x1 : Int32) (x2 : Int32) (σ : CS) (H : Heap) (locs : List Loc) (ls : Array Slot), k4 x1 x2 σ → xI D dA ad 1296 Hs s.heap σ H locs → lv_has ls 3 [(0, .ref (ad 0)), (1, .int x1), (2, .int x2)] → W p l e ({ frames := 909, cells := 0, slots := 0, locals := 18687 }) s m args below meth c H locs 0 0 Q (F0 m 4 ls [])) → ∀ (x1 : Int32) (x2 : Int32) (σ : CS) (H : Heap) (locs : List Loc) (ls : Array Slot), U_X0_parts_30 K k4 x1 x2 σ → xI D dA ad 1296 Hs s.heap σ H locs → lv_has ls 3 [(0, .ref (ad 0)), (1, .int x1), (2, .int x2)] → W p l e ({ frames := 909, cells := 0, slots := 0, locals := 18687 }) s m args below meth c H locs 0 0 Q (F0 m 30 ls []) := by
    intro k4 hk4 x1 x2 σ H locs ls hT hI hl
    unfold U_X0_parts_30 at hT
    refine lv_aload_n hx hb dX0_parts_30 rfl (lv_at hl 0 rfl) ?_
    refine lv_iload_n hx hb dX0_parts_31 rfl (lv_at hl 2 rfl) ?_
    refine x_call (x_runV (i := 0) hC hI (xst hI (Nat.le_of_ble_eq_true rfl) sl_0) rfl (um_X0_isParted l D dA ad Hs hC.2.2 σ x2 _ hT) (lw_V q1557 q1559 qs55 q158 q1560) 1 hdV_X0_isParted ⟨rfl, rfl⟩ ⟨Nat.le_of_ble_eq_true rfl, Nat.le_of_ble_eq_true rfl⟩ rfl hl.1 rfl (Nat.le_of_ble_eq_true rfl) hB dX0_parts_32) hI (fun r2 σ1 H locs hT hI => ?_)
    refine W.eq (g2 := F0 m 35 ls [.int r2]) rfl ?_
    refine lv_if_eq (tgt := 40) hx hb dX0_parts_35 (by decide) (fun hc => ?_) (fun hc => ?_)
    · replace hT := hT.1 hc
      refine lv_iinc (v := x2 + 1) (lv' := [(2, .int (x2 + 1)), (0, .ref (ad 0)), (1, .int x1)]) hx hb dX0_parts_40 hl (k := 2) rfl rfl (Nat.le_of_ble_eq_true rfl) rfl (fun ls hl => ?_)
      refine lv_goto (tgt := 4) hx hb dX0_parts_43 (by decide) ?_
      exact hk4 x1 (x2 + 1) σ1 _ _ _ hT hI (lv_sub hl [1, 2, 0] rfl)
    · replace hT := hT.2 hc
      refine lv_iload_n hx hb dX0_parts_38 rfl (lv_at hl 2 rfl) ?_
      refine lv_istore_n (lv' := [(1, .int x2), (0, .ref (ad 0)), (2, .int x2)]) hx hb dX0_parts_39 rfl hl (Nat.le_of_ble_eq_true rfl) rfl (fun ls hl => ?_)
      refine lv_iinc (v := x2 + 1) (lv' := [(2, .int (x2 + 1)), (1, .int x2), (0, .ref (ad 0))]) hx hb dX0_parts_40 hl (k := 2) rfl rfl (Nat.le_of_ble_eq_true rfl) rfl (fun ls hl => ?_)
      refine lv_goto (tgt := 4) hx hb dX0_parts_43 (by decide) ?_
      exact hk4 x2 (x2 + 1) σ1 _ _ _ hT hI (lv_sub hl [2, 1, 0] rfl)
  have w_4 : ∀ (n : Nat) (x1 : Int32) (x2 : Int32) (σ : CS) (H : Heap) (locs : List Loc) (ls : Array Slot), U_X0_parts_4 K n x1 x2 σ → xI D dA ad 1296 Hs s.heap σ H locs → lv_has ls 3 [(0, .ref (ad 0)), (1, .int x1), (2, .int x2)] → W p l e ({ frames := 909, cells := 0, slots := 0, locals := 18687 }) s m args below meth c H locs 0 0 Q (F0 m 4 ls []) := by
    intro n
    induction n with
    | zero => intro x1 x2 σ H locs ls hT; exact hT.elim
    | succ n ih =>
      intro x1 x2 σ H locs ls hT hI hl
      unfold U_X0_parts_4 at hT
      refine lv_iload_n hx hb dX0_parts_4 rfl (lv_at hl 2 rfl) ?_
      refine lv_iconst (v := 1) hx hb dX0_parts_5 (by decide) ?_
      refine lv_aload_n hx hb dX0_parts_6 rfl (lv_at hl 0 rfl) ?_
      refine x_call (x_runV (i := 0) hC hI (xst hI (Nat.le_of_ble_eq_true rfl) sl_0) rfl (um_X0_trials l D dA ad Hs hC.2.2 σ _ hT) (lw_V q1259 q1261 qs36 q158 q1262) 0 hdV_X0_trials ⟨rfl, rfl⟩ ⟨Nat.le_of_ble_eq_true rfl, Nat.le_of_ble_eq_true rfl⟩ rfl hl.1 rfl (Nat.le_of_ble_eq_true rfl) hB dX0_parts_7) hI (fun r4 σ3 H locs hT hI => ?_)
      refine W.eq (g2 := F0 m 10 ls [.int r4, .int 1, .int x2]) rfl ?_
      refine lv_ishl hx hb dX0_parts_10 ?_
      refine lv_icmp_ge (tgt := 46) hx hb dX0_parts_11 (by decide) (fun hc => ?_) (fun hc => ?_)
      · replace hT := hT.1 hc
        refine lv_iload_n hx hb dX0_parts_46 rfl (lv_at hl 1 rfl) ?_
        exact hret _ _ _ _ _ _ _ _ hT hI hB dX0_parts_47
      · replace hT := hT.2 hc
        refine lv_iload_n hx hb dX0_parts_14 rfl (lv_at hl 1 rfl) ?_
        refine lv_iconst (v := -1) hx hb dX0_parts_15 (by decide) ?_
        refine lv_icmp_eq (tgt := 30) hx hb dX0_parts_16 (by decide) (fun hc => ?_) (fun hc => ?_)
        · replace hT := hT.1 hc
          exact w_30 (U_X0_parts_4 K n) (ih) x1 x2 σ3 _ _ _ hT hI (lv_sub hl [0, 1, 2] rfl)
        · replace hT := hT.2 hc
          refine lv_iload_n hx hb dX0_parts_19 rfl (lv_at hl 2 rfl) ?_
          refine x_call (x_runS hC hI (um_J16_bitCount l D dA ad 1296 Hs hC.2.2 σ3 x2 _ hT) (lw_S q1268 q1269 q197 q1270) 1 hdS_J16_bitCount ⟨rfl, rfl⟩ ⟨Nat.le_of_ble_eq_true rfl, Nat.le_of_ble_eq_true rfl⟩ rfl hl.1 rfl (Nat.le_of_ble_eq_true rfl) hB dX0_parts_20) hI (fun r6 σ5 H locs hT hI => ?_)
          refine W.eq (g2 := F0 m 23 ls [.int r6]) rfl ?_
          refine lv_iload_n hx hb dX0_parts_23 rfl (lv_at hl 1 rfl) ?_
          refine x_call (x_runS hC hI (um_J16_bitCount l D dA ad 1296 Hs hC.2.2 σ5 x1 _ hT) (lw_S q1268 q1269 q197 q1270) 1 hdS_J16_bitCount ⟨rfl, rfl⟩ ⟨Nat.le_of_ble_eq_true rfl, Nat.le_of_ble_eq_true rfl⟩ rfl hl.1 rfl (Nat.le_of_ble_eq_true rfl) hB dX0_parts_24) hI (fun r8 σ7 H locs hT hI => ?_)
          refine W.eq (g2 := F0 m 27 ls [.int r8, .int r6]) rfl ?_
          refine lv_icmp_ge (tgt := 40) hx hb dX0_parts_27 (by decide) (fun hc => ?_) (fun hc => ?_)
          · replace hT := hT.1 hc
            refine lv_iinc (v := x2 + 1) (lv' := [(2, .int (x2 + 1)), (0, .ref (ad 0)), (1, .int x1)]) hx hb dX0_parts_40 hl (k := 2) rfl rfl (Nat.le_of_ble_eq_true rfl) rfl (fun ls hl => ?_)
            refine lv_goto (tgt := 4) hx hb dX0_parts_43 (by decide) ?_
            exact ih x1 (x2 + 1) σ7 _ _ _ hT hI (lv_sub hl [1, 2, 0] rfl)
          · replace hT := hT.2 hc
            exact w_30 (U_X0_parts_4 K n) (ih) x1 x2 σ7 _ _ _ hT hI (lv_sub hl [0, 1, 2] rfl)
  unfold U_X0_parts at hT
  refine lv_iconst (v := -1) hx hb dX0_parts_0 (by decide) ?_
  refine lv_istore_n (lv' := [(1, .int (-1)), (0, .ref (ad 0))]) hx hb dX0_parts_1 rfl hl (Nat.le_of_ble_eq_true rfl) rfl (fun ls hl => ?_)
  refine lv_iconst (v := 0) hx hb dX0_parts_2 (by decide) ?_
  refine lv_istore_n (lv' := [(2, .int 0), (1, .int (-1)), (0, .ref (ad 0))]) hx hb dX0_parts_3 rfl hl (Nat.le_of_ble_eq_true rfl) rfl (fun ls hl => ?_)
  obtain ⟨n4, hT⟩ := hT
  exact w_4 n4 (-1) 0 σ _ _ _ hT hI (lv_sub hl [2, 1, 0] rfl)
set_option maxHeartbeats 4000000 in
set_option maxRecDepth 100000 in
theorem um_X0_lawed (l : Launch) (D : va_G) (dA : Nat → ClassId) (ad : Nat → Nat) (Hs : Heap) (hA : cAd ad 1296 Hs.size) (σ : CS) (x1 : Int32) (x2 : Int32) (K : Int32 → CS → Prop) (hT : U_X0_lawed σ x1 x2 K) : Met l yX0_lawed (ws_ yX0_lawed cX0_lawed 7 (some .int)) ({ frames := 909, cells := 0, slots := 0, locals := 18683 }) (va_Pc [.ref (ad 0), .int x1, .int x2] (cU D dA ad 1296 Hs σ)) (xQ rvI K (cU D dA ad 1296 Hs) (cA ad)) 0 0 (cA ad) := by
  refine xm_i hA (by decide) rfl (Nat.le_of_ble_eq_true rfl) ?_
  intro p e s m args below meth c Q hC hN hret hI ls hl
  have hx := hC.1.1
  have hb := hC.1.2.1
  have hB : 0 ≤ 0 ∧ 0 ≤ 0 := ⟨Nat.zero_le _, Nat.zero_le _⟩
  have hl : lv_has ls 7 [(0, .ref (ad 0)), (1, .int x1), (2, .int x2)] := hl
  have w_94 : ∀ (x1 : Int32) (x2 : Int32) (x3 : Int32) (k34 : Int32 → Int32 → CS → Prop), (∀ (x4 : Int32) (x5 : Int32) (σ : CS) (H : Heap) (locs : List Loc) (ls : Array Slot), k34 x4 x5 σ → xI D dA ad 1296 Hs s.heap σ H locs → lv_has ls 7 [(0, .ref (ad 0)), (1, .int x1), (2, .int x2), (3, .int x3), (4, .int x4), (5, .int x5)] → W p l e ({ frames := 909, cells := 0, slots := 0, locals := 18683 }) s m args below meth c H locs 0 0 Q (F0 m 34 ls [])) → ∀ (x4 : Int32) (x5 : Int32) (s0 : Int32) (σ : CS) (H : Heap) (locs : List Loc) (ls : Array Slot), U_X0_lawed_94 K k34 x1 x2 x3 x4 x5 s0 σ → xI D dA ad 1296 Hs s.heap σ H locs → lv_has ls 7 [(0, .ref (ad 0)), (1, .int x1), (2, .int x2), (3, .int x3), (4, .int x4), (5, .int x5)] → W p l e ({ frames := 909, cells := 0, slots := 0, locals := 18683 }) s m args below meth c H locs 0 0 Q (F0 m 94 ls [.int s0]) := by
    intro x1 x2 x3 k34 hk34 x4 x5 s0 σ H locs ls hT hI hl
    unfold U_X0_lawed_94 at hT
    refine lv_istore (lv' := [(6, .int s0), (0, .ref (ad 0)), (1, .int x1), (2, .int x2), (3, .int x3), (4, .int x4), (5, .int x5)]) hx hb dX0_lawed_94 hl (Nat.le_of_ble_eq_true rfl) rfl (fun ls hl => ?_)
    refine lv_iload hx hb dX0_lawed_96 (lv_at hl 5 rfl) ?_
    refine lv_iload hx hb dX0_lawed_98 (lv_at hl 0 rfl) ?_
    refine lv_if_eq (tgt := 110) hx hb dX0_lawed_100 (by decide) (fun hc => ?_) (fun hc => ?_)
    · replace hT := hT.1 hc
      refine lv_iconst (v := 0) hx hb dX0_lawed_110 (by decide) ?_
      refine lv_ior hx hb dX0_lawed_111 ?_
      refine lv_istore (lv' := [(4, .int (x4 ||| 0)), (6, .int s0), (0, .ref (ad 0)), (1, .int x1), (2, .int x2), (3, .int x3), (5, .int x5)]) hx hb dX0_lawed_112 hl (Nat.le_of_ble_eq_true rfl) rfl (fun ls hl => ?_)
      refine lv_iinc (v := x5 + 1) (lv' := [(5, .int (x5 + 1)), (4, .int (x4 ||| 0)), (6, .int s0), (0, .ref (ad 0)), (1, .int x1), (2, .int x2), (3, .int x3)]) hx hb dX0_lawed_114 hl (k := 6) rfl rfl (Nat.le_of_ble_eq_true rfl) rfl (fun ls hl => ?_)
      refine lv_goto (tgt := 34) hx hb dX0_lawed_117 (by decide) ?_
      exact hk34 (x4 ||| 0) (x5 + 1) σ _ _ _ hT hI (lv_sub hl [3, 4, 5, 6, 1, 0] rfl)
    · replace hT := hT.2 hc
      refine lv_iconst (v := 1) hx hb dX0_lawed_103 (by decide) ?_
      refine lv_iload hx hb dX0_lawed_104 (lv_at hl 6 rfl) ?_
      refine lv_ishl hx hb dX0_lawed_106 ?_
      refine lv_goto (tgt := 111) hx hb dX0_lawed_107 (by decide) ?_
      refine lv_ior hx hb dX0_lawed_111 ?_
      refine lv_istore (lv' := [(4, .int (x4 ||| (1 <<< (x5 &&& 31)))), (6, .int s0), (0, .ref (ad 0)), (1, .int x1), (2, .int x2), (3, .int x3), (5, .int x5)]) hx hb dX0_lawed_112 hl (Nat.le_of_ble_eq_true rfl) rfl (fun ls hl => ?_)
      refine lv_iinc (v := x5 + 1) (lv' := [(5, .int (x5 + 1)), (4, .int (x4 ||| (1 <<< (x5 &&& 31)))), (6, .int s0), (0, .ref (ad 0)), (1, .int x1), (2, .int x2), (3, .int x3)]) hx hb dX0_lawed_114 hl (k := 6) rfl rfl (Nat.le_of_ble_eq_true rfl) rfl (fun ls hl => ?_)
      refine lv_goto (tgt := 34) hx hb dX0_lawed_117 (by decide) ?_
      exact hk34 (x4 ||| (1 <<< (x5 &&& 31))) (x5 + 1) σ _ _ _ hT hI (lv_sub hl [3, 4, 5, 6, 1, 0] rfl)
  have w_34 : ∀ (x1 : Int32) (x2 : Int32) (x3 : Int32) (n : Nat) (x4 : Int32) (x5 : Int32) (σ : CS) (H : Heap) (locs : List Loc) (ls : Array Slot), U_X0_lawed_34 K x1 x2 x3 n x4 x5 σ → xI D dA ad 1296 Hs s.heap σ H locs → lv_has ls 7 [(0, .ref (ad 0)), (1, .int x1), (2, .int x2), (3, .int x3), (4, .int x4), (5, .int x5)] → W p l e ({ frames := 909, cells := 0, slots := 0, locals := 18683 }) s m args below meth c H locs 0 0 Q (F0 m 34 ls []) := by
    intro x1 x2 x3 n
    induction n with
    | zero => intro x4 x5 σ H locs ls hT; exact hT.elim
    | succ n ih =>
      intro x4 x5 σ H locs ls hT hI hl
      unfold U_X0_lawed_34 at hT
      refine lv_iload hx hb dX0_lawed_34 (lv_at hl 5 rfl) ?_
      refine lv_aload_n hx hb dX0_lawed_36 rfl (lv_at hl 0 rfl) ?_
      refine x_call (x_runV (i := 0) hC hI (xst hI (Nat.le_of_ble_eq_true rfl) sl_0) rfl (um_X0_things l D dA ad Hs hC.2.2 σ _ hT) (lw_V q1249 q1251 qs34 q158 q1252) 0 hdV_X0_things ⟨rfl, rfl⟩ ⟨Nat.le_of_ble_eq_true rfl, Nat.le_of_ble_eq_true rfl⟩ rfl hl.1 rfl (Nat.le_of_ble_eq_true rfl) hB dX0_lawed_37) hI (fun r2 σ1 H locs hT hI => ?_)
      refine W.eq (g2 := F0 m 40 ls [.int r2, .int x5]) rfl ?_
      refine lv_icmp_ge (tgt := 120) hx hb dX0_lawed_40 (by decide) (fun hc => ?_) (fun hc => ?_)
      · replace hT := hT.1 hc
        refine lv_iload_n hx hb dX0_lawed_120 rfl (lv_at hl 2 rfl) ?_
        refine lv_if_ne (tgt := 133) hx hb dX0_lawed_121 (by decide) (fun hc => ?_) (fun hc => ?_)
        · replace hT := hT.1 hc
          refine lv_iload hx hb dX0_lawed_133 (lv_at hl 4 rfl) ?_
          refine lv_iload_n hx hb dX0_lawed_135 rfl (lv_at hl 3 rfl) ?_
          refine lv_ixor hx hb dX0_lawed_136 ?_
          exact hret _ _ _ _ _ _ _ _ hT hI hB dX0_lawed_137
        · replace hT := hT.2 hc
          refine lv_aload_n hx hb dX0_lawed_124 rfl (lv_at hl 0 rfl) ?_
          refine lv_iload hx hb dX0_lawed_125 (lv_at hl 4 rfl) ?_
          refine x_call (x_runV (i := 0) hC hI (xst hI (Nat.le_of_ble_eq_true rfl) sl_0) rfl (um_X0_useOf l D dA ad Hs hC.2.2 σ1 x4 _ hT) (lw_V q1388 q1390 qs42 q158 q1391) 1 hdV_X0_useOf ⟨rfl, rfl⟩ ⟨Nat.le_of_ble_eq_true rfl, Nat.le_of_ble_eq_true rfl⟩ rfl hl.1 rfl (Nat.le_of_ble_eq_true rfl) hB dX0_lawed_127) hI (fun r4 σ3 H locs hT hI => ?_)
          refine W.eq (g2 := F0 m 130 ls [.int r4]) rfl ?_
          refine lv_goto (tgt := 137) hx hb dX0_lawed_130 (by decide) ?_
          exact hret _ _ _ _ _ _ _ _ hT hI hB dX0_lawed_137
      · replace hT := hT.2 hc
        refine lv_iload_n hx hb dX0_lawed_43 rfl (lv_at hl 1 rfl) ?_
        refine lv_if_ne (tgt := 56) hx hb dX0_lawed_44 (by decide) (fun hc => ?_) (fun hc => ?_)
        · replace hT := hT.1 hc
          refine lv_aload_n hx hb dX0_lawed_56 rfl (lv_at hl 0 rfl) ?_
          refine xg0_9 (i := 0) hC hI (xst hI (Nat.le_of_ble_eq_true rfl) sl_0) q481 (fun _ h => h) dX0_lawed_57 ?_
          refine xgN5_2 (i := 16) hC hI (xst hI (st_lt (Or.inl rfl : stOK 16) (d := 0) (by decide)) (sls_0 (Or.inl rfl : stOK 16))) q416 (fun _ h => h) dX0_lawed_60 ?_
          refine lv_iload hx hb dX0_lawed_63 (lv_at hl 5 rfl) ?_
          refine x_iald (i := 17) hC hI (xst hI (st_lt (Or.inl rfl : stOK 16) (d := 1) (by decide)) (sls_1 (Or.inl rfl : stOK 16))) hT dX0_lawed_65 (fun hT => ?_)
          refine lv_iconst (v := 2) hx hb dX0_lawed_66 (by decide) ?_
          refine lv_icmp_ne (tgt := 93) hx hb dX0_lawed_67 (by decide) (fun hc => ?_) (fun hc => ?_)
          · replace hT := hT.1 hc
            refine lv_iconst (v := 0) hx hb dX0_lawed_93 (by decide) ?_
            exact w_94 x1 x2 x3 (U_X0_lawed_34 K x1 x2 x3 n) (ih) x4 x5 0 σ1 _ _ _ hT hI (lv_sub hl [0, 1, 2, 3, 4, 5] rfl)
          · replace hT := hT.2 hc
            refine lv_iload_n hx hb dX0_lawed_70 rfl (lv_at hl 1 rfl) ?_
            refine lv_iconst (v := 1) hx hb dX0_lawed_71 (by decide) ?_
            refine lv_icmp_eq (tgt := 89) hx hb dX0_lawed_72 (by decide) (fun hc => ?_) (fun hc => ?_)
            · replace hT := hT.1 hc
              refine lv_iconst (v := 1) hx hb dX0_lawed_89 (by decide) ?_
              refine lv_goto (tgt := 94) hx hb dX0_lawed_90 (by decide) ?_
              exact w_94 x1 x2 x3 (U_X0_lawed_34 K x1 x2 x3 n) (ih) x4 x5 1 σ1 _ _ _ hT hI (lv_sub hl [0, 1, 2, 3, 4, 5] rfl)
            · replace hT := hT.2 hc
              refine lv_aload_n hx hb dX0_lawed_75 rfl (lv_at hl 0 rfl) ?_
              refine xg0_9 (i := 0) hC hI (xst hI (Nat.le_of_ble_eq_true rfl) sl_0) q481 (fun _ h => h) dX0_lawed_76 ?_
              refine xgN5_4 (i := 16) hC hI (xst hI (st_lt (Or.inl rfl : stOK 16) (d := 0) (by decide)) (sls_0 (Or.inl rfl : stOK 16))) q420 (fun _ h => h) dX0_lawed_79 ?_
              refine lv_iload hx hb dX0_lawed_82 (lv_at hl 5 rfl) ?_
              refine x_iald (i := 19) hC hI (xst hI (st_lt (Or.inl rfl : stOK 16) (d := 3) (by decide)) (sls_3 (Or.inl rfl : stOK 16))) hT dX0_lawed_84 (fun hT => ?_)
              refine lv_iconst (v := 1) hx hb dX0_lawed_85 (by decide) ?_
              refine lv_icmp_le (tgt := 93) hx hb dX0_lawed_86 (by decide) (fun hc => ?_) (fun hc => ?_)
              · replace hT := hT.1 hc
                refine lv_iconst (v := 0) hx hb dX0_lawed_93 (by decide) ?_
                exact w_94 x1 x2 x3 (U_X0_lawed_34 K x1 x2 x3 n) (ih) x4 x5 0 σ1 _ _ _ hT hI (lv_sub hl [0, 1, 2, 3, 4, 5] rfl)
              · replace hT := hT.2 hc
                refine lv_iconst (v := 1) hx hb dX0_lawed_89 (by decide) ?_
                refine lv_goto (tgt := 94) hx hb dX0_lawed_90 (by decide) ?_
                exact w_94 x1 x2 x3 (U_X0_lawed_34 K x1 x2 x3 n) (ih) x4 x5 1 σ1 _ _ _ hT hI (lv_sub hl [0, 1, 2, 3, 4, 5] rfl)
        · replace hT := hT.2 hc
          refine lv_iload_n hx hb dX0_lawed_47 rfl (lv_at hl 3 rfl) ?_
          refine lv_iload hx hb dX0_lawed_48 (lv_at hl 5 rfl) ?_
          refine x_call (x_runS hC hI (um_X0_has l D dA ad 1296 Hs hC.2.2 σ1 x3 x5 _ hT) (lw_S q1392 q1094 q158 q1095) 2 hdS_X0_has ⟨rfl, rfl⟩ ⟨Nat.le_of_ble_eq_true rfl, Nat.le_of_ble_eq_true rfl⟩ rfl hl.1 rfl (Nat.le_of_ble_eq_true rfl) hB dX0_lawed_50) hI (fun r6 σ5 H locs hT hI => ?_)
          refine W.eq (g2 := F0 m 53 ls [.int r6]) rfl ?_
          refine lv_goto (tgt := 94) hx hb dX0_lawed_53 (by decide) ?_
          exact w_94 x1 x2 x3 (U_X0_lawed_34 K x1 x2 x3 n) (ih) x4 x5 r6 σ5 _ _ _ hT hI (lv_sub hl [0, 1, 2, 3, 4, 5] rfl)
  unfold U_X0_lawed at hT
  refine lv_iload_n hx hb dX0_lawed_0 rfl (lv_at hl 1 rfl) ?_
  refine lv_iconst (v := 0) hx hb dX0_lawed_1 (by decide) ?_
  refine lv_iconst (v := 2) hx hb dX0_lawed_2 (by decide) ?_
  refine x_call (x_runS hC hI (um_X0_is l D dA ad 1296 Hs hC.2.2 σ x1 0 2 _ hT) (lw_S q1398 q815 q158 q816) 3 hdS_X0_is ⟨rfl, rfl⟩ ⟨Nat.le_of_ble_eq_true rfl, Nat.le_of_ble_eq_true rfl⟩ rfl hl.1 rfl (Nat.le_of_ble_eq_true rfl) hB dX0_lawed_3) hI (fun r8 σ7 H locs hT hI => ?_)
  refine W.eq (g2 := F0 m 6 ls [.int r8]) rfl ?_
  refine lv_if_eq (tgt := 18) hx hb dX0_lawed_6 (by decide) (fun hc => ?_) (fun hc => ?_)
  · replace hT := hT.1 hc
    refine lv_iconst (v := -1) hx hb dX0_lawed_18 (by decide) ?_
    exact hret _ _ _ _ _ _ _ _ hT hI hB dX0_lawed_19
  · replace hT := hT.2 hc
    refine lv_iload_n hx hb dX0_lawed_9 rfl (lv_at hl 2 rfl) ?_
    refine lv_iconst (v := 0) hx hb dX0_lawed_10 (by decide) ?_
    refine lv_iconst (v := 1) hx hb dX0_lawed_11 (by decide) ?_
    refine x_call (x_runS hC hI (um_X0_is l D dA ad 1296 Hs hC.2.2 σ7 x2 0 1 _ hT) (lw_S q1398 q815 q158 q816) 3 hdS_X0_is ⟨rfl, rfl⟩ ⟨Nat.le_of_ble_eq_true rfl, Nat.le_of_ble_eq_true rfl⟩ rfl hl.1 rfl (Nat.le_of_ble_eq_true rfl) hB dX0_lawed_12) hI (fun r10 σ9 H locs hT hI => ?_)
    refine W.eq (g2 := F0 m 15 ls [.int r10]) rfl ?_
    refine lv_if_ne (tgt := 20) hx hb dX0_lawed_15 (by decide) (fun hc => ?_) (fun hc => ?_)
    · replace hT := hT.1 hc
      refine lv_aload_n hx hb dX0_lawed_20 rfl (lv_at hl 0 rfl) ?_
      refine xg0_9 (i := 0) hC hI (xst hI (Nat.le_of_ble_eq_true rfl) sl_0) q481 (fun _ h => h) dX0_lawed_21 ?_
      refine x_call (x_runV (i := 16) hC hI (xst hI (st_lt (Or.inl rfl : stOK 16) (d := 0) (by decide)) (sls_0 (Or.inl rfl : stOK 16))) rfl (um_X5_standing l D dA ad Hs hC.2.2 σ9 16 (Or.inl rfl : stOK 16) _ hT) (lw_V q1274 q1275 q1276 q169 q1277) 0 hdV_X5_standing ⟨rfl, rfl⟩ ⟨Nat.le_of_ble_eq_true rfl, Nat.le_of_ble_eq_true rfl⟩ rfl hl.1 rfl (Nat.le_of_ble_eq_true rfl) hB dX0_lawed_24) hI (fun r12 σ11 H locs hT hI => ?_)
      refine W.eq (g2 := F0 m 27 ls [.int r12]) rfl ?_
      refine lv_istore_n (lv' := [(3, .int r12), (0, .ref (ad 0)), (1, .int x1), (2, .int x2)]) hx hb dX0_lawed_27 rfl hl (Nat.le_of_ble_eq_true rfl) rfl (fun ls hl => ?_)
      refine lv_iconst (v := 0) hx hb dX0_lawed_28 (by decide) ?_
      refine lv_istore (lv' := [(4, .int 0), (3, .int r12), (0, .ref (ad 0)), (1, .int x1), (2, .int x2)]) hx hb dX0_lawed_29 hl (Nat.le_of_ble_eq_true rfl) rfl (fun ls hl => ?_)
      refine lv_iconst (v := 0) hx hb dX0_lawed_31 (by decide) ?_
      refine lv_istore (lv' := [(5, .int 0), (4, .int 0), (3, .int r12), (0, .ref (ad 0)), (1, .int x1), (2, .int x2)]) hx hb dX0_lawed_32 hl (Nat.le_of_ble_eq_true rfl) rfl (fun ls hl => ?_)
      obtain ⟨n34, hT⟩ := hT
      exact w_34 x1 x2 r12 n34 0 0 σ11 _ _ _ hT hI (lv_sub hl [3, 4, 5, 2, 1, 0] rfl)
    · replace hT := hT.2 hc
      refine lv_iconst (v := -1) hx hb dX0_lawed_18 (by decide) ?_
      exact hret _ _ _ _ _ _ _ _ hT hI hB dX0_lawed_19
set_option maxHeartbeats 4000000 in
set_option maxRecDepth 100000 in
theorem um_X0_breaksBy (l : Launch) (D : va_G) (dA : Nat → ClassId) (ad : Nat → Nat) (Hs : Heap) (hA : cAd ad 1296 Hs.size) (σ : CS) (x1 : Int32) (x2 : Int32) (x3 : Int32) (K : Int64 → CS → Prop) (hT : U_X0_breaksBy σ x1 x2 x3 K) : Met l yX0_breaksBy (ws_ yX0_breaksBy cX0_breaksBy 7 (some .long)) ({ frames := 908, cells := 0, slots := 0, locals := 18662 }) (va_Pc [.ref (ad 0), .int x1, .int x2, .int x3] (cU D dA ad 1296 Hs σ)) (xQ rvL K (cU D dA ad 1296 Hs) (cA ad)) 0 0 (cA ad) := by
  refine xm_l hA (by decide) rfl (Nat.le_of_ble_eq_true rfl) ?_
  intro p e s m args below meth c Q hC hN hret hI ls hl
  have hx := hC.1.1
  have hb := hC.1.2.1
  have hB : 0 ≤ 0 ∧ 0 ≤ 0 := ⟨Nat.zero_le _, Nat.zero_le _⟩
  have hl : lv_has ls 7 [(0, .ref (ad 0)), (1, .int x1), (2, .int x2), (3, .int x3)] := hl
  have w_34 : ∀ (x1 : Int32) (x3 : Int32) (n : Nat) (x4 : Int64) (x6 : Int32) (σ : CS) (H : Heap) (locs : List Loc) (ls : Array Slot), U_X0_breaksBy_34 K x1 x3 n x4 x6 σ → xI D dA ad 1296 Hs s.heap σ H locs → lv_has ls 7 [(0, .ref (ad 0)), (1, .int x1), (3, .int x3), (4, .long x4), (6, .int x6)] → W p l e ({ frames := 908, cells := 0, slots := 0, locals := 18662 }) s m args below meth c H locs 0 0 Q (F0 m 34 ls []) := by
    intro x1 x3 n
    induction n with
    | zero => intro x4 x6 σ H locs ls hT; exact hT.elim
    | succ n ih =>
      intro x4 x6 σ H locs ls hT hI hl
      unfold U_X0_breaksBy_34 at hT
      refine lv_iload hx hb dX0_breaksBy_34 (lv_at hl 4 rfl) ?_
      refine lv_iload_n hx hb dX0_breaksBy_36 rfl (lv_at hl 2 rfl) ?_
      refine lv_icmp_gt (tgt := 77) hx hb dX0_breaksBy_37 (by decide) (fun hc => ?_) (fun hc => ?_)
      · replace hT := hT.1 hc
        refine lv_aload_n hx hb dX0_breaksBy_77 rfl (lv_at hl 0 rfl) ?_
        refine xg0_10 (i := 0) hC hI (xst hI (Nat.le_of_ble_eq_true rfl) sl_0) q482 (fun _ h => h) dX0_breaksBy_78 ?_
        refine lv_iconst (v := -1) hx hb dX0_breaksBy_81 (by decide) ?_
        refine xpN5_9 (i := 74) (v := -1) hC hI (lt_cb (st_lt (Or.inr (Or.inl rfl) : stOK 74) (d := 0) (by decide))) (xst hI (st_lt (Or.inr (Or.inl rfl) : stOK 74) (d := 0) (by decide)) (sls_0 (Or.inr (Or.inl rfl) : stOK 74))) hT q430 (fun _ h => h) dX0_breaksBy_82 (fun σ1 H locs hT hI => ?_)
        refine lv_lload hx hb dX0_breaksBy_85 (lv_at hl 3 rfl) ?_
        exact hret _ _ _ _ _ _ _ _ hT hI hB dX0_breaksBy_87
      · replace hT := hT.2 hc
        refine lv_aload_n hx hb dX0_breaksBy_40 rfl (lv_at hl 0 rfl) ?_
        refine xg0_10 (i := 0) hC hI (xst hI (Nat.le_of_ble_eq_true rfl) sl_0) q482 (fun _ h => h) dX0_breaksBy_41 ?_
        refine x_call (x_runV (i := 74) hC hI (xst hI (st_lt (Or.inr (Or.inl rfl) : stOK 74) (d := 0) (by decide)) (sls_0 (Or.inr (Or.inl rfl) : stOK 74))) rfl (um_X5_passes l D dA ad Hs hC.2.2 σ 74 (Or.inr (Or.inl rfl) : stOK 74) _ hT) (lw_V q1490 q1491 q1492 q169 q1493) 0 hdV_X5_passes ⟨rfl, rfl⟩ ⟨Nat.le_of_ble_eq_true rfl, Nat.le_of_ble_eq_true rfl⟩ rfl hl.1 rfl (Nat.le_of_ble_eq_true rfl) hB dX0_breaksBy_44) hI (fun r3 σ2 H locs hT hI => ?_)
        refine W.eq (g2 := F0 m 47 ls [.int r3]) rfl ?_
        refine lv_pop hx hb dX0_breaksBy_47 rfl ?_
        refine lv_aload_n hx hb dX0_breaksBy_48 rfl (lv_at hl 0 rfl) ?_
        refine xg0_10 (i := 0) hC hI (xst hI (Nat.le_of_ble_eq_true rfl) sl_0) q482 (fun _ h => h) dX0_breaksBy_49 ?_
        refine xgN5_8 (i := 74) hC hI (xst hI (st_lt (Or.inr (Or.inl rfl) : stOK 74) (d := 0) (by decide)) (sls_0 (Or.inr (Or.inl rfl) : stOK 74))) q428 (fun _ h => h) dX0_breaksBy_52 ?_
        refine lv_iload_n hx hb dX0_breaksBy_55 rfl (lv_at hl 1 rfl) ?_
        refine x_call (x_runS hC hI (um_X0_has l D dA ad 1296 Hs hC.2.2 σ2 (gI σ2 74 8) x1 _ hT) (lw_S q1392 q1094 q158 q1095) 2 hdS_X0_has ⟨rfl, rfl⟩ ⟨Nat.le_of_ble_eq_true rfl, Nat.le_of_ble_eq_true rfl⟩ rfl hl.1 rfl (Nat.le_of_ble_eq_true rfl) hB dX0_breaksBy_56) hI (fun r5 σ4 H locs hT hI => ?_)
        refine W.eq (g2 := F0 m 59 ls [.int r5]) rfl ?_
        refine lv_if_eq (tgt := 71) hx hb dX0_breaksBy_59 (by decide) (fun hc => ?_) (fun hc => ?_)
        · replace hT := hT.1 hc
          refine lv_iinc (v := x6 + 1) (lv' := [(6, .int (x6 + 1)), (0, .ref (ad 0)), (1, .int x1), (3, .int x3), (4, .long x4)]) hx hb dX0_breaksBy_71 hl (k := 4) rfl rfl (Nat.le_of_ble_eq_true rfl) rfl (fun ls hl => ?_)
          refine lv_goto (tgt := 34) hx hb dX0_breaksBy_74 (by decide) ?_
          exact ih x4 (x6 + 1) σ4 _ _ _ hT hI (lv_sub hl [1, 2, 3, 4, 0] rfl)
        · replace hT := hT.2 hc
          refine lv_lload hx hb dX0_breaksBy_62 (lv_at hl 3 rfl) ?_
          refine lv_lconst (v := 1) hx hb dX0_breaksBy_64 (by decide) ?_
          refine lv_iload hx hb dX0_breaksBy_65 (lv_at hl 4 rfl) ?_
          refine lv_lshl hx hb dX0_breaksBy_67 rfl ?_
          refine lv_lor hx hb dX0_breaksBy_68 ?_
          refine lv_lstore (lv' := [(4, .long (x4 ||| (1 <<< (Int32.toInt64 x6 &&& 63)))), (0, .ref (ad 0)), (1, .int x1), (3, .int x3), (6, .int x6)]) hx hb dX0_breaksBy_69 hl (Nat.le_of_ble_eq_true rfl) rfl (fun ls hl => ?_)
          refine lv_iinc (v := x6 + 1) (lv' := [(6, .int (x6 + 1)), (4, .long (x4 ||| (1 <<< (Int32.toInt64 x6 &&& 63)))), (0, .ref (ad 0)), (1, .int x1), (3, .int x3)]) hx hb dX0_breaksBy_71 hl (k := 4) rfl rfl (Nat.le_of_ble_eq_true rfl) rfl (fun ls hl => ?_)
          refine lv_goto (tgt := 34) hx hb dX0_breaksBy_74 (by decide) ?_
          exact ih (x4 ||| (1 <<< (Int32.toInt64 x6 &&& 63))) (x6 + 1) σ4 _ _ _ hT hI (lv_sub hl [2, 3, 4, 1, 0] rfl)
  unfold U_X0_breaksBy at hT
  refine lv_aload_n hx hb dX0_breaksBy_0 rfl (lv_at hl 0 rfl) ?_
  refine xg0_10 (i := 0) hC hI (xst hI (Nat.le_of_ble_eq_true rfl) sl_0) q482 (fun _ h => h) dX0_breaksBy_1 ?_
  refine lv_aload_n hx hb dX0_breaksBy_4 rfl (lv_at hl 0 rfl) ?_
  refine xg0_9 (i := 0) hC hI (xst hI (Nat.le_of_ble_eq_true rfl) sl_0) q481 (fun _ h => h) dX0_breaksBy_5 ?_
  refine x_call (x_runV (i := 74) hC hI (xst hI (st_lt (Or.inr (Or.inl rfl) : stOK 74) (d := 0) (by decide)) (sls_0 (Or.inr (Or.inl rfl) : stOK 74))) rfl (um_X5_copy l D dA ad Hs hC.2.2 σ 74 16 (Or.inr (Or.inl rfl) : stOK 74) (Or.inl rfl : stOK 16) _ hT) (lw_V q1486 q1487 q1488 q169 q1489) 1 hdV_X5_copy ⟨rfl, rfl⟩ ⟨Nat.le_of_ble_eq_true rfl, Nat.le_of_ble_eq_true rfl⟩ rfl hl.1 rfl (Nat.le_of_ble_eq_true rfl) hB dX0_breaksBy_8) hI (fun r7 σ6 H locs hT hI => ?_)
  refine W.eq (g2 := F0 m 11 ls [va_rf (rgR ad r7)]) rfl ?_
  refine lv_pop hx hb dX0_breaksBy_11 (va_rf_cat _) ?_
  refine lv_aload_n hx hb dX0_breaksBy_12 rfl (lv_at hl 0 rfl) ?_
  refine xg0_10 (i := 0) hC hI (xst hI (Nat.le_of_ble_eq_true rfl) sl_0) q482 (fun _ h => h) dX0_breaksBy_13 ?_
  refine lv_iload_n hx hb dX0_breaksBy_16 rfl (lv_at hl 1 rfl) ?_
  refine xpN5_9 (i := 74) (v := x1) hC hI (lt_cb (st_lt (Or.inr (Or.inl rfl) : stOK 74) (d := 0) (by decide))) (xst hI (st_lt (Or.inr (Or.inl rfl) : stOK 74) (d := 0) (by decide)) (sls_0 (Or.inr (Or.inl rfl) : stOK 74))) hT q430 (fun _ h => h) dX0_breaksBy_17 (fun σ8 H locs hT hI => ?_)
  refine lv_aload_n hx hb dX0_breaksBy_20 rfl (lv_at hl 0 rfl) ?_
  refine xg0_10 (i := 0) hC hI (xst hI (Nat.le_of_ble_eq_true rfl) sl_0) q482 (fun _ h => h) dX0_breaksBy_21 ?_
  refine lv_iload_n hx hb dX0_breaksBy_24 rfl (lv_at hl 2 rfl) ?_
  refine xpN5_10 (i := 74) (v := x2) hC hI (lt_cb (st_lt (Or.inr (Or.inl rfl) : stOK 74) (d := 0) (by decide))) (xst hI (st_lt (Or.inr (Or.inl rfl) : stOK 74) (d := 0) (by decide)) (sls_0 (Or.inr (Or.inl rfl) : stOK 74))) hT q432 (fun _ h => h) dX0_breaksBy_25 (fun σ9 H locs hT hI => ?_)
  refine lv_lconst (v := 0) hx hb dX0_breaksBy_28 (by decide) ?_
  refine lv_lstore (lv' := [(4, .long 0), (0, .ref (ad 0)), (1, .int x1), (2, .int x2), (3, .int x3)]) hx hb dX0_breaksBy_29 hl (Nat.le_of_ble_eq_true rfl) rfl (fun ls hl => ?_)
  refine lv_iconst (v := 1) hx hb dX0_breaksBy_31 (by decide) ?_
  refine lv_istore (lv' := [(6, .int 1), (4, .long 0), (0, .ref (ad 0)), (1, .int x1), (2, .int x2), (3, .int x3)]) hx hb dX0_breaksBy_32 hl (Nat.le_of_ble_eq_true rfl) rfl (fun ls hl => ?_)
  obtain ⟨n34, hT⟩ := hT
  exact w_34 x1 x3 n34 0 1 σ9 _ _ _ hT hI (lv_sub hl [2, 3, 5, 1, 0] rfl)
set_option maxHeartbeats 4000000 in
set_option maxRecDepth 100000 in
theorem um_X0_byteAt (l : Launch) (D : va_G) (dA : Nat → ClassId) (ad : Nat → Nat) (Hs : Heap) (hA : cAd ad 1296 Hs.size) (σ : CS) (x1 : Int32) (K : Int32 → CS → Prop) (hT : U_X0_byteAt σ x1 K) : Met l yX0_byteAt (ws_ yX0_byteAt cX0_byteAt 2 (some .int)) ({ frames := 1, cells := 0, slots := 0, locals := 12 }) (va_Pc [.ref (ad 0), .int x1] (cU D dA ad 1296 Hs σ)) (xQ rvI K (cU D dA ad 1296 Hs) (cA ad)) 0 0 (cA ad) := by
  refine xm_i hA (by decide) rfl (Nat.le_of_ble_eq_true rfl) ?_
  intro p e s m args below meth c Q hC hN hret hI ls hl
  have hx := hC.1.1
  have hb := hC.1.2.1
  have hB : 0 ≤ 0 ∧ 0 ≤ 0 := ⟨Nat.zero_le _, Nat.zero_le _⟩
  have hl : lv_has ls 2 [(0, .ref (ad 0)), (1, .int x1)] := hl
  unfold U_X0_byteAt at hT
  refine lv_aload_n hx hb dX0_byteAt_0 rfl (lv_at hl 0 rfl) ?_
  refine xg0_1 (i := 0) hC hI (xst hI (Nat.le_of_ble_eq_true rfl) sl_0) q472 (fun _ h => h) dX0_byteAt_1 ?_
  refine lv_iload_n hx hb dX0_byteAt_4 rfl (lv_at hl 1 rfl) ?_
  refine x_bald (i := 8) hC hI (xst hI (Nat.le_of_ble_eq_true rfl) sl_8) hT dX0_byteAt_5 (fun hT => ?_)
  refine lv_sipush (v := 255) hx hb dX0_byteAt_6 (by decide) ?_
  refine lv_iand hx hb dX0_byteAt_9 ?_
  exact hret _ _ _ _ _ _ _ _ hT hI hB dX0_byteAt_10
set_option maxHeartbeats 4000000 in
set_option maxRecDepth 100000 in
theorem um_X0_see (l : Launch) (D : va_G) (dA : Nat → ClassId) (ad : Nat → Nat) (Hs : Heap) (hA : cAd ad 1296 Hs.size) (σ : CS) (x1 : Int32) (K : Int32 → CS → Prop) (hT : U_X0_see σ x1 K) : Met l yX0_see (ws_ yX0_see cX0_see 9 (some .int)) ({ frames := 909, cells := 0, slots := 0, locals := 18688 }) (va_Pc [.ref (ad 0), .int x1] (cU D dA ad 1296 Hs σ)) (xQ rvI K (cU D dA ad 1296 Hs) (cA ad)) 0 0 (cA ad) := by
  refine xm_i hA (by decide) rfl (Nat.le_of_ble_eq_true rfl) ?_
  intro p e s m args below meth c Q hC hN hret hI ls hl
  have hx := hC.1.1
  have hb := hC.1.2.1
  have hB : 0 ≤ 0 ∧ 0 ≤ 0 := ⟨Nat.zero_le _, Nat.zero_le _⟩
  have hl : lv_has ls 9 [(0, .ref (ad 0)), (1, .int x1)] := hl
  have w_123 : ∀ (x1 : Int32) (x4 : Int64) (x6 : Int32) (n : Nat) (x7 : Int32) (x8 : Int32) (σ : CS) (H : Heap) (locs : List Loc) (ls : Array Slot), U_X0_see_123 K x1 x4 x6 n x7 x8 σ → xI D dA ad 1296 Hs s.heap σ H locs → lv_has ls 9 [(0, .ref (ad 0)), (1, .int x1), (4, .long x4), (6, .int x6), (7, .int x7), (8, .int x8)] → W p l e ({ frames := 909, cells := 0, slots := 0, locals := 18688 }) s m args below meth c H locs 0 0 Q (F0 m 123 ls []) := by
    intro x1 x4 x6 n
    induction n with
    | zero => intro x7 x8 σ H locs ls hT; exact hT.elim
    | succ n ih =>
      intro x7 x8 σ H locs ls hT hI hl
      unfold U_X0_see_123 at hT
      refine lv_iload hx hb dX0_see_123 (lv_at hl 5 rfl) ?_
      refine lv_bipush (v := 10) hx hb dX0_see_125 (by decide) ?_
      refine lv_icmp_ge (tgt := 164) hx hb dX0_see_127 (by decide) (fun hc => ?_) (fun hc => ?_)
      · replace hT := hT.1 hc
        refine lv_iload hx hb dX0_see_164 (lv_at hl 4 rfl) ?_
        exact hret _ _ _ _ _ _ _ _ hT hI hB dX0_see_166
      · replace hT := hT.2 hc
        refine lv_iload hx hb dX0_see_130 (lv_at hl 4 rfl) ?_
        refine lv_aload_n hx hb dX0_see_132 rfl (lv_at hl 0 rfl) ?_
        refine lv_iload_n hx hb dX0_see_133 rfl (lv_at hl 1 rfl) ?_
        refine lv_iload hx hb dX0_see_134 (lv_at hl 5 rfl) ?_
        refine lv_iload hx hb dX0_see_136 (lv_at hl 3 rfl) ?_
        refine x_call (x_runV (i := 0) hC hI (xst hI (Nat.le_of_ble_eq_true rfl) sl_0) rfl (um_X0_breaksBy l D dA ad Hs hC.2.2 σ x1 x8 x6 _ hT) (lw_V q1573 q1575 qs57 q158 q1576) 3 hdV_X0_breaksBy ⟨rfl, rfl⟩ ⟨Nat.le_of_ble_eq_true rfl, Nat.le_of_ble_eq_true rfl⟩ rfl hl.1 rfl (Nat.le_of_ble_eq_true rfl) hB dX0_see_138) hI (fun r2 σ1 H locs hT hI => ?_)
        refine W.eq (g2 := F0 m 141 ls [.long r2, .int x7]) rfl ?_
        refine lv_lload hx hb dX0_see_141 (lv_at hl 2 rfl) ?_
        refine rl_ne (tgt := 154) hx hb dX0_see_143 dX0_see_144 (by decide) (fun hc => ?_) (fun hc => ?_)
        · replace hT := hT.1 hc
          refine lv_iconst (v := 0) hx hb dX0_see_154 (by decide) ?_
          refine lv_ior hx hb dX0_see_155 ?_
          refine lv_istore (lv' := [(7, .int (x7 ||| 0)), (0, .ref (ad 0)), (1, .int x1), (4, .long x4), (6, .int x6), (8, .int x8)]) hx hb dX0_see_156 hl (Nat.le_of_ble_eq_true rfl) rfl (fun ls hl => ?_)
          refine lv_iinc (v := x8 + 1) (lv' := [(8, .int (x8 + 1)), (7, .int (x7 ||| 0)), (0, .ref (ad 0)), (1, .int x1), (4, .long x4), (6, .int x6)]) hx hb dX0_see_158 hl (k := 5) rfl rfl (Nat.le_of_ble_eq_true rfl) rfl (fun ls hl => ?_)
          refine lv_goto (tgt := 123) hx hb dX0_see_161 (by decide) ?_
          exact ih (x7 ||| 0) (x8 + 1) σ1 _ _ _ hT hI (lv_sub hl [2, 3, 4, 5, 1, 0] rfl)
        · replace hT := hT.2 hc
          refine lv_iconst (v := 1) hx hb dX0_see_147 (by decide) ?_
          refine lv_iload hx hb dX0_see_148 (lv_at hl 5 rfl) ?_
          refine lv_ishl hx hb dX0_see_150 ?_
          refine lv_goto (tgt := 155) hx hb dX0_see_151 (by decide) ?_
          refine lv_ior hx hb dX0_see_155 ?_
          refine lv_istore (lv' := [(7, .int (x7 ||| (1 <<< (x8 &&& 31)))), (0, .ref (ad 0)), (1, .int x1), (4, .long x4), (6, .int x6), (8, .int x8)]) hx hb dX0_see_156 hl (Nat.le_of_ble_eq_true rfl) rfl (fun ls hl => ?_)
          refine lv_iinc (v := x8 + 1) (lv' := [(8, .int (x8 + 1)), (7, .int (x7 ||| (1 <<< (x8 &&& 31)))), (0, .ref (ad 0)), (1, .int x1), (4, .long x4), (6, .int x6)]) hx hb dX0_see_158 hl (k := 5) rfl rfl (Nat.le_of_ble_eq_true rfl) rfl (fun ls hl => ?_)
          refine lv_goto (tgt := 123) hx hb dX0_see_161 (by decide) ?_
          exact ih (x7 ||| (1 <<< (x8 &&& 31))) (x8 + 1) σ1 _ _ _ hT hI (lv_sub hl [2, 3, 4, 5, 1, 0] rfl)
  have w_95 : ∀ (x1 : Int32) (x3 : Int32) (x4 : Int64) (x6 : Int32) (σ : CS) (H : Heap) (locs : List Loc) (ls : Array Slot), U_X0_see_95 K x1 x3 x4 x6 σ → xI D dA ad 1296 Hs s.heap σ H locs → lv_has ls 9 [(0, .ref (ad 0)), (1, .int x1), (3, .int x3), (4, .long x4), (6, .int x6)] → W p l e ({ frames := 909, cells := 0, slots := 0, locals := 18688 }) s m args below meth c H locs 0 0 Q (F0 m 95 ls []) := by
    intro x1 x3 x4 x6 σ H locs ls hT hI hl
    unfold U_X0_see_95 at hT
    refine lv_iload_n hx hb dX0_see_95 rfl (lv_at hl 2 rfl) ?_
    refine lv_if_eq (tgt := 111) hx hb dX0_see_96 (by decide) (fun hc => ?_) (fun hc => ?_)
    · replace hT := hT.1 hc
      refine lv_aload_n hx hb dX0_see_111 rfl (lv_at hl 0 rfl) ?_
      refine lv_iconst (v := 1) hx hb dX0_see_112 (by decide) ?_
      refine x_call (x_runV (i := 0) hC hI (xst hI (Nat.le_of_ble_eq_true rfl) sl_0) rfl (um_X0_refuses l D dA ad Hs hC.2.2 σ 1 _ hT) (lw_V q537 q539 qs1 q158 q540) 1 hdV_X0_refuses ⟨rfl, rfl⟩ ⟨Nat.le_of_ble_eq_true rfl, Nat.le_of_ble_eq_true rfl⟩ rfl hl.1 rfl (Nat.le_of_ble_eq_true rfl) hB dX0_see_113) hI (fun r4 σ3 H locs hT hI => ?_)
      refine W.eq (g2 := F0 m 116 ls [.int r4]) rfl ?_
      exact hret _ _ _ _ _ _ _ _ hT hI hB dX0_see_116
    · replace hT := hT.2 hc
      refine lv_aload_n hx hb dX0_see_99 rfl (lv_at hl 0 rfl) ?_
      refine lv_iload hx hb dX0_see_100 (lv_at hl 4 rfl) ?_
      refine lv_iconst (v := 1) hx hb dX0_see_102 (by decide) ?_
      refine lv_bipush (v := 30) hx hb dX0_see_103 (by decide) ?_
      refine x_call (x_runV (i := 0) hC hI (xst hI (Nat.le_of_ble_eq_true rfl) sl_0) rfl (um_X0_isAhead l D dA ad Hs hC.2.2 σ x6 1 30 _ hT) (lw_V q1482 q1484 qs48 q158 q1485) 3 hdV_X0_isAhead ⟨rfl, rfl⟩ ⟨Nat.le_of_ble_eq_true rfl, Nat.le_of_ble_eq_true rfl⟩ rfl hl.1 rfl (Nat.le_of_ble_eq_true rfl) hB dX0_see_105) hI (fun r6 σ5 H locs hT hI => ?_)
      refine W.eq (g2 := F0 m 108 ls [.int r6]) rfl ?_
      refine lv_if_ne (tgt := 117) hx hb dX0_see_108 (by decide) (fun hc => ?_) (fun hc => ?_)
      · replace hT := hT.1 hc
        refine lv_iconst (v := 0) hx hb dX0_see_117 (by decide) ?_
        refine lv_istore (lv' := [(7, .int 0), (0, .ref (ad 0)), (1, .int x1), (3, .int x3), (4, .long x4), (6, .int x6)]) hx hb dX0_see_118 hl (Nat.le_of_ble_eq_true rfl) rfl (fun ls hl => ?_)
        refine lv_iconst (v := 0) hx hb dX0_see_120 (by decide) ?_
        refine lv_istore (lv' := [(8, .int 0), (7, .int 0), (0, .ref (ad 0)), (1, .int x1), (3, .int x3), (4, .long x4), (6, .int x6)]) hx hb dX0_see_121 hl (Nat.le_of_ble_eq_true rfl) rfl (fun ls hl => ?_)
        obtain ⟨n123, hT⟩ := hT
        exact w_123 x1 x4 x6 n123 0 0 σ5 _ _ _ hT hI (lv_sub hl [2, 3, 5, 6, 1, 0] rfl)
      · replace hT := hT.2 hc
        refine lv_aload_n hx hb dX0_see_111 rfl (lv_at hl 0 rfl) ?_
        refine lv_iconst (v := 1) hx hb dX0_see_112 (by decide) ?_
        refine x_call (x_runV (i := 0) hC hI (xst hI (Nat.le_of_ble_eq_true rfl) sl_0) rfl (um_X0_refuses l D dA ad Hs hC.2.2 σ5 1 _ hT) (lw_V q537 q539 qs1 q158 q540) 1 hdV_X0_refuses ⟨rfl, rfl⟩ ⟨Nat.le_of_ble_eq_true rfl, Nat.le_of_ble_eq_true rfl⟩ rfl hl.1 rfl (Nat.le_of_ble_eq_true rfl) hB dX0_see_113) hI (fun r8 σ7 H locs hT hI => ?_)
        refine W.eq (g2 := F0 m 116 ls [.int r8]) rfl ?_
        exact hret _ _ _ _ _ _ _ _ hT hI hB dX0_see_116
  have w_38 : ∀ (x1 : Int32) (x2 : Int32) (n : Nat) (x3 : Int32) (x4 : Int64) (x6 : Int32) (x7 : Int32) (σ : CS) (H : Heap) (locs : List Loc) (ls : Array Slot), U_X0_see_38 K x1 x2 n x3 x4 x6 x7 σ → xI D dA ad 1296 Hs s.heap σ H locs → lv_has ls 9 [(0, .ref (ad 0)), (1, .int x1), (2, .int x2), (3, .int x3), (4, .long x4), (6, .int x6), (7, .int x7)] → W p l e ({ frames := 909, cells := 0, slots := 0, locals := 18688 }) s m args below meth c H locs 0 0 Q (F0 m 38 ls []) := by
    intro x1 x2 n
    induction n with
    | zero => intro x3 x4 x6 x7 σ H locs ls hT; exact hT.elim
    | succ n ih =>
      intro x3 x4 x6 x7 σ H locs ls hT hI hl
      unfold U_X0_see_38 at hT
      refine lv_iload hx hb dX0_see_38 (lv_at hl 6 rfl) ?_
      refine lv_iload_n hx hb dX0_see_40 rfl (lv_at hl 2 rfl) ?_
      refine lv_icmp_ge (tgt := 95) hx hb dX0_see_41 (by decide) (fun hc => ?_) (fun hc => ?_)
      · replace hT := hT.1 hc
        exact w_95 x1 x3 x4 x6 σ _ _ _ hT hI (lv_sub hl [0, 1, 3, 4, 5] rfl)
      · replace hT := hT.2 hc
        refine lv_iload_n hx hb dX0_see_44 rfl (lv_at hl 3 rfl) ?_
        refine lv_if_eq (tgt := 95) hx hb dX0_see_45 (by decide) (fun hc => ?_) (fun hc => ?_)
        · replace hT := hT.1 hc
          exact w_95 x1 x3 x4 x6 σ _ _ _ hT hI (lv_sub hl [0, 1, 3, 4, 5] rfl)
        · replace hT := hT.2 hc
          refine lv_aload_n hx hb dX0_see_48 rfl (lv_at hl 0 rfl) ?_
          refine lv_iload hx hb dX0_see_49 (lv_at hl 6 rfl) ?_
          refine x_call (x_runV (i := 0) hC hI (xst hI (Nat.le_of_ble_eq_true rfl) sl_0) rfl (um_X0_byteAt l D dA ad Hs hC.2.2 σ x7 _ hT) (lw_V q1569 q1571 qs56 q158 q1572) 1 hdV_X0_byteAt ⟨rfl, rfl⟩ ⟨Nat.le_of_ble_eq_true rfl, Nat.le_of_ble_eq_true rfl⟩ rfl hl.1 rfl (Nat.le_of_ble_eq_true rfl) hB dX0_see_51) hI (fun r10 σ9 H locs hT hI => ?_)
          refine W.eq (g2 := F0 m 54 ls [.int r10]) rfl ?_
          refine lv_iload hx hb dX0_see_54 (lv_at hl 5 rfl) ?_
          refine lv_iconst (v := 1) hx hb dX0_see_56 (by decide) ?_
          refine lv_iadd hx hb dX0_see_57 ?_
          refine lv_bipush (v := 30) hx hb dX0_see_58 (by decide) ?_
          refine x_call (x_runS hC hI (um_X0_is l D dA ad 1296 Hs hC.2.2 σ9 r10 (x6 + 1) 30 _ hT) (lw_S q1398 q815 q158 q816) 3 hdS_X0_is ⟨rfl, rfl⟩ ⟨Nat.le_of_ble_eq_true rfl, Nat.le_of_ble_eq_true rfl⟩ rfl hl.1 rfl (Nat.le_of_ble_eq_true rfl) hB dX0_see_60) hI (fun r12 σ11 H locs hT hI => ?_)
          refine W.eq (g2 := F0 m 63 ls [.int r12]) rfl ?_
          refine lv_istore_n (lv' := [(3, .int r12), (0, .ref (ad 0)), (1, .int x1), (2, .int x2), (4, .long x4), (6, .int x6), (7, .int x7)]) hx hb dX0_see_63 rfl hl (Nat.le_of_ble_eq_true rfl) rfl (fun ls hl => ?_)
          refine lv_aload_n hx hb dX0_see_64 rfl (lv_at hl 1 rfl) ?_
          refine lv_iload hx hb dX0_see_65 (lv_at hl 6 rfl) ?_
          refine x_call (x_runV (i := 0) hC hI (xst hI (Nat.le_of_ble_eq_true rfl) sl_0) rfl (um_X0_byteAt l D dA ad Hs hC.2.2 σ11 x7 _ hT) (lw_V q1569 q1571 qs56 q158 q1572) 1 hdV_X0_byteAt ⟨rfl, rfl⟩ ⟨Nat.le_of_ble_eq_true rfl, Nat.le_of_ble_eq_true rfl⟩ rfl hl.1 rfl (Nat.le_of_ble_eq_true rfl) hB dX0_see_67) hI (fun r14 σ13 H locs hT hI => ?_)
          refine W.eq (g2 := F0 m 70 ls [.int r14]) rfl ?_
          refine lv_istore (lv' := [(6, .int r14), (3, .int r12), (0, .ref (ad 0)), (1, .int x1), (2, .int x2), (4, .long x4), (7, .int x7)]) hx hb dX0_see_70 hl (Nat.le_of_ble_eq_true rfl) rfl (fun ls hl => ?_)
          refine lv_lload hx hb dX0_see_72 (lv_at hl 5 rfl) ?_
          refine lv_iload_n hx hb dX0_see_74 rfl (lv_at hl 1 rfl) ?_
          refine lv_if_eq (tgt := 85) hx hb dX0_see_75 (by decide) (fun hc => ?_) (fun hc => ?_)
          · replace hT := hT.1 hc
            refine lv_lconst (v := 0) hx hb dX0_see_85 (by decide) ?_
            refine lv_lor hx hb dX0_see_86 ?_
            refine lv_lstore (lv' := [(4, .long (x4 ||| 0)), (6, .int r14), (3, .int r12), (0, .ref (ad 0)), (1, .int x1), (2, .int x2), (7, .int x7)]) hx hb dX0_see_87 hl (Nat.le_of_ble_eq_true rfl) rfl (fun ls hl => ?_)
            refine lv_iinc (v := x7 + 1) (lv' := [(7, .int (x7 + 1)), (4, .long (x4 ||| 0)), (6, .int r14), (3, .int r12), (0, .ref (ad 0)), (1, .int x1), (2, .int x2)]) hx hb dX0_see_89 hl (k := 6) rfl rfl (Nat.le_of_ble_eq_true rfl) rfl (fun ls hl => ?_)
            refine lv_goto (tgt := 38) hx hb dX0_see_92 (by decide) ?_
            exact ih r12 (x4 ||| 0) r14 (x7 + 1) σ13 _ _ _ hT hI (lv_sub hl [4, 5, 6, 3, 1, 2, 0] rfl)
          · replace hT := hT.2 hc
            refine lv_lconst (v := 1) hx hb dX0_see_78 (by decide) ?_
            refine lv_iload hx hb dX0_see_79 (lv_at hl 0 rfl) ?_
            refine lv_lshl hx hb dX0_see_81 rfl ?_
            refine lv_goto (tgt := 86) hx hb dX0_see_82 (by decide) ?_
            refine lv_lor hx hb dX0_see_86 ?_
            refine lv_lstore (lv' := [(4, .long (x4 ||| (1 <<< (Int32.toInt64 r14 &&& 63)))), (6, .int r14), (3, .int r12), (0, .ref (ad 0)), (1, .int x1), (2, .int x2), (7, .int x7)]) hx hb dX0_see_87 hl (Nat.le_of_ble_eq_true rfl) rfl (fun ls hl => ?_)
            refine lv_iinc (v := x7 + 1) (lv' := [(7, .int (x7 + 1)), (4, .long (x4 ||| (1 <<< (Int32.toInt64 r14 &&& 63)))), (6, .int r14), (3, .int r12), (0, .ref (ad 0)), (1, .int x1), (2, .int x2)]) hx hb dX0_see_89 hl (k := 6) rfl rfl (Nat.le_of_ble_eq_true rfl) rfl (fun ls hl => ?_)
            refine lv_goto (tgt := 38) hx hb dX0_see_92 (by decide) ?_
            exact ih r12 (x4 ||| (1 <<< (Int32.toInt64 r14 &&& 63))) r14 (x7 + 1) σ13 _ _ _ hT hI (lv_sub hl [4, 5, 6, 3, 1, 2, 0] rfl)
  unfold U_X0_see at hT
  refine lv_aload_n hx hb dX0_see_0 rfl (lv_at hl 0 rfl) ?_
  refine x_call (x_runV (i := 0) hC hI (xst hI (Nat.le_of_ble_eq_true rfl) sl_0) rfl (um_X0_taken l D dA ad Hs hC.2.2 σ _ hT) (lw_V q554 q556 qs3 q158 q557) 0 hdV_X0_taken ⟨rfl, rfl⟩ ⟨Nat.le_of_ble_eq_true rfl, Nat.le_of_ble_eq_true rfl⟩ rfl hl.1 rfl (Nat.le_of_ble_eq_true rfl) hB dX0_see_1) hI (fun r16 σ15 H locs hT hI => ?_)
  refine W.eq (g2 := F0 m 4 ls [.int r16]) rfl ?_
  refine lv_istore_n (lv' := [(2, .int r16), (0, .ref (ad 0)), (1, .int x1)]) hx hb dX0_see_4 rfl hl (Nat.le_of_ble_eq_true rfl) rfl (fun ls hl => ?_)
  refine lv_aload_n hx hb dX0_see_5 rfl (lv_at hl 1 rfl) ?_
  refine lv_iload_n hx hb dX0_see_6 rfl (lv_at hl 2 rfl) ?_
  refine x_call (x_runV (i := 0) hC hI (xst hI (Nat.le_of_ble_eq_true rfl) sl_0) rfl (um_X0_isThing l D dA ad Hs hC.2.2 σ15 x1 _ hT) (lw_V q1423 q1425 qs43 q158 q1426) 1 hdV_X0_isThing ⟨rfl, rfl⟩ ⟨Nat.le_of_ble_eq_true rfl, Nat.le_of_ble_eq_true rfl⟩ rfl hl.1 rfl (Nat.le_of_ble_eq_true rfl) hB dX0_see_7) hI (fun r18 σ17 H locs hT hI => ?_)
  refine W.eq (g2 := F0 m 10 ls [.int r18]) rfl ?_
  refine lv_if_eq (tgt := 27) hx hb dX0_see_10 (by decide) (fun hc => ?_) (fun hc => ?_)
  · replace hT := hT.1 hc
    refine lv_iconst (v := 0) hx hb dX0_see_27 (by decide) ?_
    refine lv_istore_n (lv' := [(3, .int 0), (2, .int r16), (0, .ref (ad 0)), (1, .int x1)]) hx hb dX0_see_28 rfl hl (Nat.le_of_ble_eq_true rfl) rfl (fun ls hl => ?_)
    refine lv_lconst (v := 0) hx hb dX0_see_29 (by decide) ?_
    refine lv_lstore (lv' := [(4, .long 0), (3, .int 0), (2, .int r16), (0, .ref (ad 0)), (1, .int x1)]) hx hb dX0_see_30 hl (Nat.le_of_ble_eq_true rfl) rfl (fun ls hl => ?_)
    refine lv_iconst (v := 0) hx hb dX0_see_32 (by decide) ?_
    refine lv_istore (lv' := [(6, .int 0), (4, .long 0), (3, .int 0), (2, .int r16), (0, .ref (ad 0)), (1, .int x1)]) hx hb dX0_see_33 hl (Nat.le_of_ble_eq_true rfl) rfl (fun ls hl => ?_)
    refine lv_iconst (v := 0) hx hb dX0_see_35 (by decide) ?_
    refine lv_istore (lv' := [(7, .int 0), (6, .int 0), (4, .long 0), (3, .int 0), (2, .int r16), (0, .ref (ad 0)), (1, .int x1)]) hx hb dX0_see_36 hl (Nat.le_of_ble_eq_true rfl) rfl (fun ls hl => ?_)
    obtain ⟨n38, hT⟩ := hT
    exact w_38 x1 r16 n38 0 0 0 0 σ17 _ _ _ hT hI (lv_sub hl [5, 6, 4, 3, 2, 1, 0] rfl)
  · replace hT := hT.2 hc
    refine lv_iload_n hx hb dX0_see_13 rfl (lv_at hl 0 rfl) ?_
    refine lv_iconst (v := 1) hx hb dX0_see_14 (by decide) ?_
    refine lv_bipush (v := 20) hx hb dX0_see_15 (by decide) ?_
    refine x_call (x_runS hC hI (um_X0_is l D dA ad 1296 Hs hC.2.2 σ17 r16 1 20 _ hT) (lw_S q1398 q815 q158 q816) 3 hdS_X0_is ⟨rfl, rfl⟩ ⟨Nat.le_of_ble_eq_true rfl, Nat.le_of_ble_eq_true rfl⟩ rfl hl.1 rfl (Nat.le_of_ble_eq_true rfl) hB dX0_see_17) hI (fun r20 σ19 H locs hT hI => ?_)
    refine W.eq (g2 := F0 m 20 ls [.int r20]) rfl ?_
    refine lv_if_eq (tgt := 27) hx hb dX0_see_20 (by decide) (fun hc => ?_) (fun hc => ?_)
    · replace hT := hT.1 hc
      refine lv_iconst (v := 0) hx hb dX0_see_27 (by decide) ?_
      refine lv_istore_n (lv' := [(3, .int 0), (2, .int r16), (0, .ref (ad 0)), (1, .int x1)]) hx hb dX0_see_28 rfl hl (Nat.le_of_ble_eq_true rfl) rfl (fun ls hl => ?_)
      refine lv_lconst (v := 0) hx hb dX0_see_29 (by decide) ?_
      refine lv_lstore (lv' := [(4, .long 0), (3, .int 0), (2, .int r16), (0, .ref (ad 0)), (1, .int x1)]) hx hb dX0_see_30 hl (Nat.le_of_ble_eq_true rfl) rfl (fun ls hl => ?_)
      refine lv_iconst (v := 0) hx hb dX0_see_32 (by decide) ?_
      refine lv_istore (lv' := [(6, .int 0), (4, .long 0), (3, .int 0), (2, .int r16), (0, .ref (ad 0)), (1, .int x1)]) hx hb dX0_see_33 hl (Nat.le_of_ble_eq_true rfl) rfl (fun ls hl => ?_)
      refine lv_iconst (v := 0) hx hb dX0_see_35 (by decide) ?_
      refine lv_istore (lv' := [(7, .int 0), (6, .int 0), (4, .long 0), (3, .int 0), (2, .int r16), (0, .ref (ad 0)), (1, .int x1)]) hx hb dX0_see_36 hl (Nat.le_of_ble_eq_true rfl) rfl (fun ls hl => ?_)
      obtain ⟨n38, hT⟩ := hT
      exact w_38 x1 r16 n38 0 0 0 0 σ19 _ _ _ hT hI (lv_sub hl [5, 6, 4, 3, 2, 1, 0] rfl)
    · replace hT := hT.2 hc
      refine lv_iconst (v := 1) hx hb dX0_see_23 (by decide) ?_
      refine lv_goto (tgt := 28) hx hb dX0_see_24 (by decide) ?_
      refine lv_istore_n (lv' := [(3, .int 1), (2, .int r16), (0, .ref (ad 0)), (1, .int x1)]) hx hb dX0_see_28 rfl hl (Nat.le_of_ble_eq_true rfl) rfl (fun ls hl => ?_)
      refine lv_lconst (v := 0) hx hb dX0_see_29 (by decide) ?_
      refine lv_lstore (lv' := [(4, .long 0), (3, .int 1), (2, .int r16), (0, .ref (ad 0)), (1, .int x1)]) hx hb dX0_see_30 hl (Nat.le_of_ble_eq_true rfl) rfl (fun ls hl => ?_)
      refine lv_iconst (v := 0) hx hb dX0_see_32 (by decide) ?_
      refine lv_istore (lv' := [(6, .int 0), (4, .long 0), (3, .int 1), (2, .int r16), (0, .ref (ad 0)), (1, .int x1)]) hx hb dX0_see_33 hl (Nat.le_of_ble_eq_true rfl) rfl (fun ls hl => ?_)
      refine lv_iconst (v := 0) hx hb dX0_see_35 (by decide) ?_
      refine lv_istore (lv' := [(7, .int 0), (6, .int 0), (4, .long 0), (3, .int 1), (2, .int r16), (0, .ref (ad 0)), (1, .int x1)]) hx hb dX0_see_36 hl (Nat.le_of_ble_eq_true rfl) rfl (fun ls hl => ?_)
      obtain ⟨n38, hT⟩ := hT
      exact w_38 x1 r16 n38 1 0 0 0 σ19 _ _ _ hT hI (lv_sub hl [5, 6, 4, 3, 2, 1, 0] rfl)
set_option maxHeartbeats 4000000 in
set_option maxRecDepth 100000 in
theorem um_X0_tells (l : Launch) (D : va_G) (dA : Nat → ClassId) (ad : Nat → Nat) (Hs : Heap) (hA : cAd ad 1296 Hs.size) (mc ms : Nat) (σ : CS) (x1 : Int32) (x2 : Int32) (K : Int32 → CS → Prop) (hT : U_X0_tells mc ms σ x1 x2 K) : Met l yX0_tells (ws_ yX0_tells cX0_tells 8 (some .int)) ({ frames := 909, cells := mc, slots := ms, locals := 18688 }) (va_Pc [.ref (ad 0), .int x1, .int x2] (cU D dA ad 1296 Hs σ)) (xQ rvI K (cU D dA ad 1296 Hs) (cA ad)) mc ms (cA ad) := by
  refine xm_i hA (by decide) rfl (Nat.le_of_ble_eq_true rfl) ?_
  intro p e s m args below meth c Q hC hN hret hI ls hl
  have hx := hC.1.1
  have hb := hC.1.2.1
  have hB : 0 ≤ mc ∧ 0 ≤ ms := ⟨Nat.zero_le _, Nat.zero_le _⟩
  have hl : lv_has ls 8 [(0, .ref (ad 0)), (1, .int x1), (2, .int x2)] := hl
  have w_106 : ∀ (x2 : Int32) (x3 : Nat) (n : Nat) (x4 : Int32) (x5 : Int32) (x6 : Int32) (cx : Nat) (zx : Nat) (σ : CS) (H : Heap) (locs : List Loc) (ls : Array Slot), U_X0_tells_106 mc ms K x2 x3 n x4 x5 x6 cx zx σ → xI D dA ad 1296 Hs s.heap σ H locs → (cx ≤ mc ∧ zx ≤ ms) → lv_has ls 8 [(2, .int x2), (3, va_rf (rgR ad x3)), (4, .int x4), (5, .int x5), (6, .int x6)] → W p l e ({ frames := 909, cells := mc, slots := ms, locals := 18688 }) s m args below meth c H locs cx zx Q (F0 m 106 ls []) := by
    intro x2 x3 n
    induction n with
    | zero => intro x4 x5 x6 cx zx σ H locs ls hT; exact hT.elim
    | succ n ih =>
      intro x4 x5 x6 cx zx σ H locs ls hT hI hB hl
      unfold U_X0_tells_106 at hT
      refine lv_iload hx hb dX0_tells_106 (lv_at hl 4 rfl) ?_
      refine lv_bipush (v := 30) hx hb dX0_tells_108 (by decide) ?_
      refine lv_icmp_gt (tgt := 153) hx hb dX0_tells_110 (by decide) (fun hc => ?_) (fun hc => ?_)
      · replace hT := hT.1 hc
        refine lv_iload_n hx hb dX0_tells_153 rfl (lv_at hl 0 rfl) ?_
        refine lv_if_ne (tgt := 162) hx hb dX0_tells_154 (by decide) (fun hc => ?_) (fun hc => ?_)
        · replace hT := hT.1 hc
          refine lv_iload hx hb dX0_tells_162 (lv_at hl 3 rfl) ?_
          exact hret _ _ _ _ _ _ _ _ hT hI hB dX0_tells_164
        · replace hT := hT.2 hc
          refine lv_iload hx hb dX0_tells_157 (lv_at hl 2 rfl) ?_
          refine lv_goto (tgt := 164) hx hb dX0_tells_159 (by decide) ?_
          exact hret _ _ _ _ _ _ _ _ hT hI hB dX0_tells_164
      · replace hT := hT.2 hc
        refine x_aload_n hx hb dX0_tells_113 rfl (lv_at hl 1 rfl) ?_
        refine lv_iload hx hb dX0_tells_114 (lv_at hl 4 rfl) ?_
        obtain ⟨q1, hqe_q1, hT_q1⟩ := hT
        have hl_q1 := hl
        subst hqe_q1
        replace hT := hT_q1
        refine W.eq (g2 := F0 m 116 ls [.int x6, .ref (ad q1)]) rfl ?_
        have hl : lv_has ls 8 [(2, .int x2), (3, .ref (ad q1)), (4, .int x4), (5, .int x5), (6, .int x6)] := hl_q1
        obtain ⟨hL, hT⟩ := hT
        refine x_iald (i := q1) hC hI hL hT dX0_tells_116 (fun hT => ?_)
        refine lv_bipush (v := 10) hx hb dX0_tells_117 (by decide) ?_
        refine lv_aload_n hx hb dX0_tells_119 rfl (lv_at hl 1 rfl) ?_
        refine lv_iload hx hb dX0_tells_120 (lv_at hl 4 rfl) ?_
        obtain ⟨hL, hT⟩ := hT
        refine x_iald (i := q1) hC hI hL hT dX0_tells_122 (fun hT => ?_)
        refine lv_isub hx hb dX0_tells_123 ?_
        refine x_call (x_runS hC hI (um_J12_max l D dA ad 1296 Hs hC.2.2 σ (gI σ q1 (Int32.toNatClampNeg x6)) (10 - (gI σ q1 (Int32.toNatClampNeg x6))) _ hT) (lw_S q1581 q874 q179 q875) 2 hdS_J12_max ⟨rfl, rfl⟩ ⟨Nat.le_of_ble_eq_true rfl, Nat.le_of_ble_eq_true rfl⟩ rfl hl.1 rfl (Nat.le_of_ble_eq_true rfl) hB dX0_tells_124) hI (fun r3 σ2 H locs hT hI => ?_)
        refine W.eq (g2 := F0 m 127 ls [.int r3]) rfl ?_
        refine lv_istore (lv' := [(7, .int r3), (2, .int x2), (3, .ref (ad q1)), (4, .int x4), (5, .int x5), (6, .int x6)]) hx hb dX0_tells_127 hl (Nat.le_of_ble_eq_true rfl) rfl (fun ls hl => ?_)
        refine lv_iload hx hb dX0_tells_129 (lv_at hl 0 rfl) ?_
        refine lv_iload hx hb dX0_tells_131 (lv_at hl 4 rfl) ?_
        refine lv_icmp_lt (tgt := 139) hx hb dX0_tells_133 (by decide) (fun hc => ?_) (fun hc => ?_)
        · replace hT := hT.1 hc
          refine lv_iload hx hb dX0_tells_139 (lv_at hl 0 rfl) ?_
          refine lv_istore (lv' := [(5, .int r3), (7, .int r3), (2, .int x2), (3, .ref (ad q1)), (4, .int x4), (6, .int x6)]) hx hb dX0_tells_141 hl (Nat.le_of_ble_eq_true rfl) rfl (fun ls hl => ?_)
          refine lv_iload hx hb dX0_tells_143 (lv_at hl 5 rfl) ?_
          refine lv_istore (lv' := [(4, .int x6), (5, .int r3), (7, .int r3), (2, .int x2), (3, .ref (ad q1)), (6, .int x6)]) hx hb dX0_tells_145 hl (Nat.le_of_ble_eq_true rfl) rfl (fun ls hl => ?_)
          refine lv_iinc (v := x6 + 1) (lv' := [(6, .int (x6 + 1)), (4, .int x6), (5, .int r3), (7, .int r3), (2, .int x2), (3, .ref (ad q1))]) hx hb dX0_tells_147 hl (k := 5) rfl rfl (Nat.le_of_ble_eq_true rfl) rfl (fun ls hl => ?_)
          refine lv_goto (tgt := 106) hx hb dX0_tells_150 (by decide) ?_
          exact ih x6 r3 (x6 + 1) cx zx σ2 _ _ _ hT hI hB (lv_sub hl [4, 5, 1, 2, 0] rfl)
        · replace hT := hT.2 hc
          refine lv_goto (tgt := 147) hx hb dX0_tells_136 (by decide) ?_
          refine lv_iinc (v := x6 + 1) (lv' := [(6, .int (x6 + 1)), (7, .int r3), (2, .int x2), (3, .ref (ad q1)), (4, .int x4), (5, .int x5)]) hx hb dX0_tells_147 hl (k := 5) rfl rfl (Nat.le_of_ble_eq_true rfl) rfl (fun ls hl => ?_)
          refine lv_goto (tgt := 106) hx hb dX0_tells_150 (by decide) ?_
          exact ih x4 x5 (x6 + 1) cx zx σ2 _ _ _ hT hI hB (lv_sub hl [2, 3, 4, 5, 0] rfl)
  have w_61 : ∀ (x1 : Int32) (x2 : Int32) (x3 : Nat) (k40 : Int32 → Nat → Nat → CS → Prop), (∀ (x4 : Int32) (cx : Nat) (zx : Nat) (σ : CS) (H : Heap) (locs : List Loc) (ls : Array Slot), k40 x4 cx zx σ → xI D dA ad 1296 Hs s.heap σ H locs → (cx ≤ mc ∧ zx ≤ ms) → lv_has ls 8 [(0, .ref (ad 0)), (1, .int x1), (2, .int x2), (3, va_rf (rgR ad x3)), (4, .int x4)] → W p l e ({ frames := 909, cells := mc, slots := ms, locals := 18688 }) s m args below meth c H locs cx zx Q (F0 m 40 ls [])) → ∀ (x4 : Int32) (x5 : Int64) (n : Nat) (x7 : Int32) (cx : Nat) (zx : Nat) (σ : CS) (H : Heap) (locs : List Loc) (ls : Array Slot), U_X0_tells_61 mc ms K k40 x1 x2 x3 x4 x5 n x7 cx zx σ → xI D dA ad 1296 Hs s.heap σ H locs → (cx ≤ mc ∧ zx ≤ ms) → lv_has ls 8 [(0, .ref (ad 0)), (1, .int x1), (2, .int x2), (3, va_rf (rgR ad x3)), (4, .int x4), (5, .long x5), (7, .int x7)] → W p l e ({ frames := 909, cells := mc, slots := ms, locals := 18688 }) s m args below meth c H locs cx zx Q (F0 m 61 ls []) := by
    intro x1 x2 x3 k40 hk40 x4 x5 n
    induction n with
    | zero => intro x7 cx zx σ H locs ls hT; exact hT.elim
    | succ n ih =>
      intro x7 cx zx σ H locs ls hT hI hB hl
      unfold U_X0_tells_61 at hT
      refine lv_iload hx hb dX0_tells_61 (lv_at hl 6 rfl) ?_
      refine lv_bipush (v := 30) hx hb dX0_tells_63 (by decide) ?_
      refine lv_icmp_gt (tgt := 89) hx hb dX0_tells_65 (by decide) (fun hc => ?_) (fun hc => ?_)
      · replace hT := hT.1 hc
        refine lv_iinc (v := x4 + 1) (lv' := [(4, .int (x4 + 1)), (0, .ref (ad 0)), (1, .int x1), (2, .int x2), (3, va_rf (rgR ad x3)), (5, .long x5), (7, .int x7)]) hx hb dX0_tells_89 hl (k := 4) rfl rfl (Nat.le_of_ble_eq_true rfl) (by simp [va_rf_cat, vc_int, vc_long, vc_ref, vc_null]) (fun ls hl => ?_)
        refine lv_goto (tgt := 40) hx hb dX0_tells_92 (by decide) ?_
        exact hk40 (x4 + 1) cx zx σ _ _ _ hT hI hB (lv_sub hl [1, 2, 3, 4, 0] rfl)
      · replace hT := hT.2 hc
        refine x_aload_n hx hb dX0_tells_68 rfl (lv_at hl 3 rfl) ?_
        refine lv_iload hx hb dX0_tells_69 (lv_at hl 6 rfl) ?_
        refine lv_dup2_11 hx hb dX0_tells_71 rfl (va_rf_cat _) ?_
        obtain ⟨q4, hqe_q4, hT_q4⟩ := hT
        have hl_q4 := hl
        subst hqe_q4
        replace hT := hT_q4
        refine W.eq (g2 := F0 m 72 ls [.int x7, .ref (ad q4), .int x7, .ref (ad q4)]) rfl ?_
        have hl : lv_has ls 8 [(0, .ref (ad 0)), (1, .int x1), (2, .int x2), (3, .ref (ad q4)), (4, .int x4), (5, .long x5), (7, .int x7)] := hl_q4
        obtain ⟨hL, hT⟩ := hT
        refine x_iald (i := q4) hC hI hL hT dX0_tells_72 (fun hT => ?_)
        refine lv_lload hx hb dX0_tells_73 (lv_at hl 5 rfl) ?_
        refine lv_iload hx hb dX0_tells_75 (lv_at hl 6 rfl) ?_
        refine lv_lshr hx hb dX0_tells_77 rfl ?_
        refine lv_lconst (v := 1) hx hb dX0_tells_78 (by decide) ?_
        refine lv_land hx hb dX0_tells_79 ?_
        refine lv_l2i hx hb dX0_tells_80 rfl ?_
        refine lv_iadd hx hb dX0_tells_81 ?_
        obtain ⟨hic, hT⟩ := hT
        obtain ⟨hL, hT⟩ := hT
        refine x_iast (i := q4) hC hI hic hL hT dX0_tells_82 (fun σ5 H locs hT hI => ?_)
        refine lv_iinc (v := x7 + 1) (lv' := [(7, .int (x7 + 1)), (0, .ref (ad 0)), (1, .int x1), (2, .int x2), (3, .ref (ad q4)), (4, .int x4), (5, .long x5)]) hx hb dX0_tells_83 hl (k := 6) rfl rfl (Nat.le_of_ble_eq_true rfl) rfl (fun ls hl => ?_)
        refine lv_goto (tgt := 61) hx hb dX0_tells_86 (by decide) ?_
        exact ih (x7 + 1) cx zx σ5 _ _ _ hT hI hB (lv_sub hl [1, 2, 3, 4, 5, 6, 0] rfl)
  have w_40 : ∀ (x1 : Int32) (x2 : Int32) (x3 : Nat) (n : Nat) (x4 : Int32) (cx : Nat) (zx : Nat) (σ : CS) (H : Heap) (locs : List Loc) (ls : Array Slot), U_X0_tells_40 mc ms K x1 x2 x3 n x4 cx zx σ → xI D dA ad 1296 Hs s.heap σ H locs → (cx ≤ mc ∧ zx ≤ ms) → lv_has ls 8 [(0, .ref (ad 0)), (1, .int x1), (2, .int x2), (3, va_rf (rgR ad x3)), (4, .int x4)] → W p l e ({ frames := 909, cells := mc, slots := ms, locals := 18688 }) s m args below meth c H locs cx zx Q (F0 m 40 ls []) := by
    intro x1 x2 x3 n
    induction n with
    | zero => intro x4 cx zx σ H locs ls hT; exact hT.elim
    | succ n ih =>
      intro x4 cx zx σ H locs ls hT hI hB hl
      unfold U_X0_tells_40 at hT
      refine lv_iload hx hb dX0_tells_40 (lv_at hl 4 rfl) ?_
      refine lv_bipush (v := 10) hx hb dX0_tells_42 (by decide) ?_
      refine lv_icmp_ge (tgt := 95) hx hb dX0_tells_44 (by decide) (fun hc => ?_) (fun hc => ?_)
      · replace hT := hT.1 hc
        refine lv_iconst (v := -1) hx hb dX0_tells_95 (by decide) ?_
        refine lv_istore (lv' := [(4, .int (-1)), (0, .ref (ad 0)), (1, .int x1), (2, .int x2), (3, va_rf (rgR ad x3))]) hx hb dX0_tells_96 hl (Nat.le_of_ble_eq_true rfl) (by simp [va_rf_cat, vc_int, vc_long, vc_ref, vc_null]) (fun ls hl => ?_)
        refine lv_ldcw hx hb hC.1.2.2.2.1 (hC.1.2.2.2.2 _ q1548) dX0_tells_98 ?_
        refine lv_istore (lv' := [(5, .int 100000000), (4, .int (-1)), (0, .ref (ad 0)), (1, .int x1), (2, .int x2), (3, va_rf (rgR ad x3))]) hx hb dX0_tells_101 hl (Nat.le_of_ble_eq_true rfl) rfl (fun ls hl => ?_)
        refine lv_iconst (v := 1) hx hb dX0_tells_103 (by decide) ?_
        refine lv_istore (lv' := [(6, .int 1), (5, .int 100000000), (4, .int (-1)), (0, .ref (ad 0)), (1, .int x1), (2, .int x2), (3, va_rf (rgR ad x3))]) hx hb dX0_tells_104 hl (Nat.le_of_ble_eq_true rfl) rfl (fun ls hl => ?_)
        obtain ⟨n106, hT⟩ := hT
        exact w_106 x2 x3 n106 (-1) 100000000 1 cx zx σ _ _ _ hT hI hB (lv_sub hl [5, 6, 2, 1, 0] rfl)
      · replace hT := hT.2 hc
        refine lv_aload_n hx hb dX0_tells_47 rfl (lv_at hl 0 rfl) ?_
        refine lv_iload_n hx hb dX0_tells_48 rfl (lv_at hl 1 rfl) ?_
        refine lv_iload hx hb dX0_tells_49 (lv_at hl 4 rfl) ?_
        refine lv_bipush (v := 30) hx hb dX0_tells_51 (by decide) ?_
        refine x_call (x_runV (i := 0) hC hI (xst hI (Nat.le_of_ble_eq_true rfl) sl_0) rfl (um_X0_breaksBy l D dA ad Hs hC.2.2 σ x1 x4 30 _ hT) (lw_V q1573 q1575 qs57 q158 q1576) 3 hdV_X0_breaksBy ⟨rfl, rfl⟩ ⟨Nat.le_of_ble_eq_true rfl, Nat.le_of_ble_eq_true rfl⟩ rfl hl.1 rfl (Nat.le_of_ble_eq_true rfl) hB dX0_tells_53) hI (fun r7 σ6 H locs hT hI => ?_)
        refine W.eq (g2 := F0 m 56 ls [.long r7]) rfl ?_
        refine lv_lstore (lv' := [(5, .long r7), (0, .ref (ad 0)), (1, .int x1), (2, .int x2), (3, va_rf (rgR ad x3)), (4, .int x4)]) hx hb dX0_tells_56 hl (Nat.le_of_ble_eq_true rfl) rfl (fun ls hl => ?_)
        refine lv_iconst (v := 1) hx hb dX0_tells_58 (by decide) ?_
        refine lv_istore (lv' := [(7, .int 1), (5, .long r7), (0, .ref (ad 0)), (1, .int x1), (2, .int x2), (3, va_rf (rgR ad x3)), (4, .int x4)]) hx hb dX0_tells_59 hl (Nat.le_of_ble_eq_true rfl) rfl (fun ls hl => ?_)
        obtain ⟨n61, hT⟩ := hT
        exact w_61 x1 x2 x3 (U_X0_tells_40 mc ms K x1 x2 x3 n) (ih) x4 r7 n61 1 cx zx σ6 _ _ _ hT hI hB (lv_sub hl [2, 3, 4, 5, 6, 1, 0] rfl)
  unfold U_X0_tells at hT
  refine lv_aload_n hx hb dX0_tells_0 rfl (lv_at hl 0 rfl) ?_
  refine lv_iload_n hx hb dX0_tells_1 rfl (lv_at hl 1 rfl) ?_
  refine x_call (x_runV (i := 0) hC hI (xst hI (Nat.le_of_ble_eq_true rfl) sl_0) rfl (um_X0_isThing l D dA ad Hs hC.2.2 σ x1 _ hT) (lw_V q1423 q1425 qs43 q158 q1426) 1 hdV_X0_isThing ⟨rfl, rfl⟩ ⟨Nat.le_of_ble_eq_true rfl, Nat.le_of_ble_eq_true rfl⟩ rfl hl.1 rfl (Nat.le_of_ble_eq_true rfl) hB dX0_tells_2) hI (fun r9 σ8 H locs hT hI => ?_)
  refine W.eq (g2 := F0 m 5 ls [.int r9]) rfl ?_
  refine lv_if_eq (tgt := 30) hx hb dX0_tells_5 (by decide) (fun hc => ?_) (fun hc => ?_)
  · replace hT := hT.1 hc
    refine lv_iconst (v := -1) hx hb dX0_tells_30 (by decide) ?_
    exact hret _ _ _ _ _ _ _ _ hT hI hB dX0_tells_31
  · replace hT := hT.2 hc
    refine lv_aload_n hx hb dX0_tells_8 rfl (lv_at hl 0 rfl) ?_
    refine lv_bipush (v := 30) hx hb dX0_tells_9 (by decide) ?_
    refine lv_bipush (v := 30) hx hb dX0_tells_11 (by decide) ?_
    refine lv_bipush (v := 30) hx hb dX0_tells_13 (by decide) ?_
    refine x_call (x_runV (i := 0) hC hI (xst hI (Nat.le_of_ble_eq_true rfl) sl_0) rfl (um_X0_isAhead l D dA ad Hs hC.2.2 σ8 30 30 30 _ hT) (lw_V q1482 q1484 qs48 q158 q1485) 3 hdV_X0_isAhead ⟨rfl, rfl⟩ ⟨Nat.le_of_ble_eq_true rfl, Nat.le_of_ble_eq_true rfl⟩ rfl hl.1 rfl (Nat.le_of_ble_eq_true rfl) hB dX0_tells_15) hI (fun r11 σ10 H locs hT hI => ?_)
    refine W.eq (g2 := F0 m 18 ls [.int r11]) rfl ?_
    refine lv_if_eq (tgt := 30) hx hb dX0_tells_18 (by decide) (fun hc => ?_) (fun hc => ?_)
    · replace hT := hT.1 hc
      refine lv_iconst (v := -1) hx hb dX0_tells_30 (by decide) ?_
      exact hret _ _ _ _ _ _ _ _ hT hI hB dX0_tells_31
    · replace hT := hT.2 hc
      refine lv_iload_n hx hb dX0_tells_21 rfl (lv_at hl 2 rfl) ?_
      refine lv_iconst (v := 0) hx hb dX0_tells_22 (by decide) ?_
      refine lv_iconst (v := 1) hx hb dX0_tells_23 (by decide) ?_
      refine x_call (x_runS hC hI (um_X0_is l D dA ad 1296 Hs hC.2.2 σ10 x2 0 1 _ hT) (lw_S q1398 q815 q158 q816) 3 hdS_X0_is ⟨rfl, rfl⟩ ⟨Nat.le_of_ble_eq_true rfl, Nat.le_of_ble_eq_true rfl⟩ rfl hl.1 rfl (Nat.le_of_ble_eq_true rfl) hB dX0_tells_24) hI (fun r13 σ12 H locs hT hI => ?_)
      refine W.eq (g2 := F0 m 27 ls [.int r13]) rfl ?_
      refine lv_if_ne (tgt := 32) hx hb dX0_tells_27 (by decide) (fun hc => ?_) (fun hc => ?_)
      · replace hT := hT.1 hc
        refine lv_bipush (v := 31) hx hb dX0_tells_32 (by decide) ?_
        have hB := hT.2.2.1
        refine xnewa0 hC hI hT dX0_tells_34 (fun σ14 H hT hI => ?_)
        refine lv_astore_n (lv' := [(3, .ref (ad (σ12.1))), (0, .ref (ad 0)), (1, .int x1), (2, .int x2)]) hx hb dX0_tells_36 rfl hl (Nat.le_of_ble_eq_true rfl) rfl (fun ls hl => ?_)
        refine lv_iconst (v := 0) hx hb dX0_tells_37 (by decide) ?_
        refine lv_istore (lv' := [(4, .int 0), (3, .ref (ad (σ12.1))), (0, .ref (ad 0)), (1, .int x1), (2, .int x2)]) hx hb dX0_tells_38 hl (Nat.le_of_ble_eq_true rfl) rfl (fun ls hl => ?_)
        obtain ⟨n40, hT⟩ := hT
        exact w_40 x1 x2 ((σ12.1) + 1) n40 0 1 (0 + (Int32.toNatClampNeg 31)) σ14 _ _ _ hT hI hB (lv_sub hl [2, 3, 4, 1, 0] rfl)
      · replace hT := hT.2 hc
        refine lv_iconst (v := -1) hx hb dX0_tells_30 (by decide) ?_
        exact hret _ _ _ _ _ _ _ _ hT hI hB dX0_tells_31
set_option maxHeartbeats 4000000 in
set_option maxRecDepth 100000 in
theorem um_X0_undo (l : Launch) (D : va_G) (dA : Nat → ClassId) (ad : Nat → Nat) (Hs : Heap) (hA : cAd ad 1296 Hs.size) (σ : CS) (K : Int32 → CS → Prop) (hT : U_X0_undo σ K) : Met l yX0_undo (ws_ yX0_undo cX0_undo 1 (some .boolean)) ({ frames := 2, cells := 0, slots := 0, locals := 35 }) (va_Pc [.ref (ad 0)] (cU D dA ad 1296 Hs σ)) (xQ rvI K (cU D dA ad 1296 Hs) (cA ad)) 0 0 (cA ad) := by
  refine xm_z hA (by decide) rfl (Nat.le_of_ble_eq_true rfl) ?_
  intro p e s m args below meth c Q hC hN hret hI ls hl
  have hx := hC.1.1
  have hb := hC.1.2.1
  have hB : 0 ≤ 0 ∧ 0 ≤ 0 := ⟨Nat.zero_le _, Nat.zero_le _⟩
  have hl : lv_has ls 1 [(0, .ref (ad 0))] := hl
  unfold U_X0_undo at hT
  refine lv_aload_n hx hb dX0_undo_0 rfl (lv_at hl 0 rfl) ?_
  refine xg0_15 (i := 0) hC hI (xst hI (Nat.le_of_ble_eq_true rfl) sl_0) q487 (fun _ h => h) dX0_undo_1 ?_
  refine lv_if_ne (tgt := 21) hx hb dX0_undo_4 (by decide) (fun hc => ?_) (fun hc => ?_)
  · replace hT := hT.1 hc
    refine lv_aload_n hx hb dX0_undo_21 rfl (lv_at hl 0 rfl) ?_
    refine lv_dup hx hb dX0_undo_22 rfl ?_
    refine xg0_15 (i := 0) hC hI (xst hI (Nat.le_of_ble_eq_true rfl) sl_0) q487 (fun _ h => h) dX0_undo_23 ?_
    refine lv_iconst (v := 1) hx hb dX0_undo_26 (by decide) ?_
    refine lv_isub hx hb dX0_undo_27 ?_
    refine xp0_15 (i := 0) (v := (gI σ 0 15) - 1) hC hI (Nat.lt_of_lt_of_le (show _ < 1296 from (Nat.le_of_ble_eq_true rfl)) (by decide)) (xst hI (Nat.le_of_ble_eq_true rfl) sl_0) hT q487 (fun _ h => h) dX0_undo_28 (fun σ1 H locs hT hI => ?_)
    refine lv_aload_n hx hb dX0_undo_31 rfl (lv_at hl 0 rfl) ?_
    refine xg0_9 (i := 0) hC hI (xst hI (Nat.le_of_ble_eq_true rfl) sl_0) q481 (fun _ h => h) dX0_undo_32 ?_
    refine lv_aload_n hx hb dX0_undo_35 rfl (lv_at hl 0 rfl) ?_
    refine xg0_14 (i := 0) hC hI (xst hI (Nat.le_of_ble_eq_true rfl) sl_0) q486 (fun _ h => h) dX0_undo_36 ?_
    refine lv_aload_n hx hb dX0_undo_39 rfl (lv_at hl 0 rfl) ?_
    refine xg0_15 (i := 0) hC hI (xst hI (Nat.le_of_ble_eq_true rfl) sl_0) q487 (fun _ h => h) dX0_undo_40 ?_
    refine x_aald (i := 134) hC hI (xst hI (Nat.le_of_ble_eq_true rfl) sl_134) rfl rfl (by decide) hT dX0_undo_43 (fun hT => ?_)
    obtain ⟨q2, hq3, hT⟩ := hT
    refine W.eq (congrArg (fun z => F0 m 44 ls [z, .ref (ad 16)]) (xrq hq3)) ?_
    obtain ⟨hst, hT⟩ := hT
    refine x_call (x_runV (i := 16) hC hI (xst hI (st_lt (Or.inl rfl : stOK 16) (d := 0) (by decide)) (sls_0 (Or.inl rfl : stOK 16))) rfl (um_X5_copy l D dA ad Hs hC.2.2 σ1 16 q2 (Or.inl rfl : stOK 16) hst _ hT) (lw_V q1486 q1487 q1488 q169 q1489) 1 hdV_X5_copy ⟨rfl, rfl⟩ ⟨Nat.le_of_ble_eq_true rfl, Nat.le_of_ble_eq_true rfl⟩ rfl hl.1 rfl (Nat.le_of_ble_eq_true rfl) hB dX0_undo_44) hI (fun r5 σ4 H locs hT hI => ?_)
    refine W.eq (g2 := F0 m 47 ls [va_rf (rgR ad r5)]) rfl ?_
    refine lv_pop hx hb dX0_undo_47 (va_rf_cat _) ?_
    refine lv_iconst (v := 1) hx hb dX0_undo_48 (by decide) ?_
    exact hret _ _ _ _ _ _ _ _ rfl hT hI hB dX0_undo_49
  · replace hT := hT.2 hc
    refine lv_aload_n hx hb dX0_undo_7 rfl (lv_at hl 0 rfl) ?_
    refine lv_iconst (v := 4) hx hb dX0_undo_8 (by decide) ?_
    refine x_call (x_runV (i := 0) hC hI (xst hI (Nat.le_of_ble_eq_true rfl) sl_0) rfl (um_X0_refuses l D dA ad Hs hC.2.2 σ 4 _ hT) (lw_V q537 q539 qs1 q158 q540) 1 hdV_X0_refuses ⟨rfl, rfl⟩ ⟨Nat.le_of_ble_eq_true rfl, Nat.le_of_ble_eq_true rfl⟩ rfl hl.1 rfl (Nat.le_of_ble_eq_true rfl) hB dX0_undo_9) hI (fun r7 σ6 H locs hT hI => ?_)
    refine W.eq (g2 := F0 m 12 ls [.int r7]) rfl ?_
    refine lv_if_lt (tgt := 19) hx hb dX0_undo_12 (by decide) (fun hc => ?_) (fun hc => ?_)
    · replace hT := hT.1 hc
      refine lv_iconst (v := 0) hx hb dX0_undo_19 (by decide) ?_
      exact hret _ _ _ _ _ _ _ _ rfl hT hI hB dX0_undo_20
    · replace hT := hT.2 hc
      refine lv_iconst (v := 1) hx hb dX0_undo_15 (by decide) ?_
      refine lv_goto (tgt := 20) hx hb dX0_undo_16 (by decide) ?_
      exact hret _ _ _ _ _ _ _ _ rfl hT hI hB dX0_undo_20
set_option maxHeartbeats 4000000 in
set_option maxRecDepth 100000 in
theorem um_X0_keeps (l : Launch) (D : va_G) (dA : Nat → ClassId) (ad : Nat → Nat) (Hs : Heap) (hA : cAd ad 1296 Hs.size) (σ : CS) (K : Unit → CS → Prop) (hT : U_X0_keeps σ K) : Met l yX0_keeps (ws_ yX0_keeps cX0_keeps 3 (none)) ({ frames := 2, cells := 0, slots := 0, locals := 35 }) (va_Pc [.ref (ad 0)] (cU D dA ad 1296 Hs σ)) (xQ rvU K (cU D dA ad 1296 Hs) (cA ad)) 0 0 (cA ad) := by
  refine xm_v hA (by decide) rfl (Nat.le_of_ble_eq_true rfl) ?_
  intro p e s m args below meth c Q hC hN hret hI ls hl
  have hx := hC.1.1
  have hb := hC.1.2.1
  have hB : 0 ≤ 0 ∧ 0 ≤ 0 := ⟨Nat.zero_le _, Nat.zero_le _⟩
  have hl : lv_has ls 3 [(0, .ref (ad 0))] := hl
  have w_62 : ∀ (σ : CS) (H : Heap) (locs : List Loc) (ls : Array Slot), U_X0_keeps_62 K σ → xI D dA ad 1296 Hs s.heap σ H locs → lv_has ls 3 [(0, .ref (ad 0))] → W p l e ({ frames := 2, cells := 0, slots := 0, locals := 35 }) s m args below meth c H locs 0 0 Q (F0 m 62 ls []) := by
    intro σ H locs ls hT hI hl
    unfold U_X0_keeps_62 at hT
    refine lv_aload_n hx hb dX0_keeps_62 rfl (lv_at hl 0 rfl) ?_
    refine xg0_14 (i := 0) hC hI (xst hI (Nat.le_of_ble_eq_true rfl) sl_0) q486 (fun _ h => h) dX0_keeps_63 ?_
    refine lv_aload_n hx hb dX0_keeps_66 rfl (lv_at hl 0 rfl) ?_
    refine xg0_15 (i := 0) hC hI (xst hI (Nat.le_of_ble_eq_true rfl) sl_0) q487 (fun _ h => h) dX0_keeps_67 ?_
    refine x_aald (i := 134) hC hI (xst hI (Nat.le_of_ble_eq_true rfl) sl_134) rfl rfl (by decide) hT dX0_keeps_70 (fun hT => ?_)
    refine lv_aload_n hx hb dX0_keeps_71 rfl (lv_at hl 0 rfl) ?_
    refine xg0_9 (i := 0) hC hI (xst hI (Nat.le_of_ble_eq_true rfl) sl_0) q481 (fun _ h => h) dX0_keeps_72 ?_
    obtain ⟨q1, hq2, hT⟩ := hT
    refine W.eq (congrArg (fun z => F0 m 75 ls [.ref (ad 16), z]) (xrq hq2)) ?_
    obtain ⟨hst, hT⟩ := hT
    obtain ⟨hL, hT⟩ := hT
    refine x_call (x_runV (i := q1) hC hI hL rfl (um_X5_copy l D dA ad Hs hC.2.2 σ q1 16 hst (Or.inl rfl : stOK 16) _ hT) (lw_V q1486 q1487 q1488 q169 q1489) 1 hdV_X5_copy ⟨rfl, rfl⟩ ⟨Nat.le_of_ble_eq_true rfl, Nat.le_of_ble_eq_true rfl⟩ rfl hl.1 rfl (Nat.le_of_ble_eq_true rfl) hB dX0_keeps_75) hI (fun r4 σ3 H locs hT hI => ?_)
    refine W.eq (g2 := F0 m 78 ls [va_rf (rgR ad r4)]) rfl ?_
    refine lv_pop hx hb dX0_keeps_78 (va_rf_cat _) ?_
    refine lv_aload_n hx hb dX0_keeps_79 rfl (lv_at hl 0 rfl) ?_
    refine lv_dup hx hb dX0_keeps_80 rfl ?_
    refine xg0_15 (i := 0) hC hI (xst hI (Nat.le_of_ble_eq_true rfl) sl_0) q487 (fun _ h => h) dX0_keeps_81 ?_
    refine lv_iconst (v := 1) hx hb dX0_keeps_84 (by decide) ?_
    refine lv_iadd hx hb dX0_keeps_85 ?_
    refine xp0_15 (i := 0) (v := (gI σ3 0 15) + 1) hC hI (Nat.lt_of_lt_of_le (show _ < 1296 from (Nat.le_of_ble_eq_true rfl)) (by decide)) (xst hI (Nat.le_of_ble_eq_true rfl) sl_0) hT q487 (fun _ h => h) dX0_keeps_86 (fun σ5 H locs hT hI => ?_)
    exact hret _ _ _ _ _ _ _ _ hT hI hB dX0_keeps_89
  have w_18 : ∀ (x1 : Nat) (n : Nat) (x2 : Int32) (σ : CS) (H : Heap) (locs : List Loc) (ls : Array Slot), U_X0_keeps_18 K x1 n x2 σ → xI D dA ad 1296 Hs s.heap σ H locs → lv_has ls 3 [(0, .ref (ad 0)), (1, va_rf (rgR ad x1)), (2, .int x2)] → W p l e ({ frames := 2, cells := 0, slots := 0, locals := 35 }) s m args below meth c H locs 0 0 Q (F0 m 18 ls []) := by
    intro x1 n
    induction n with
    | zero => intro x2 σ H locs ls hT; exact hT.elim
    | succ n ih =>
      intro x2 σ H locs ls hT hI hl
      unfold U_X0_keeps_18 at hT
      refine lv_iload_n hx hb dX0_keeps_18 rfl (lv_at hl 2 rfl) ?_
      refine lv_bipush (v := 20) hx hb dX0_keeps_19 (by decide) ?_
      refine lv_icmp_ge (tgt := 44) hx hb dX0_keeps_21 (by decide) (fun hc => ?_) (fun hc => ?_)
      · replace hT := hT.1 hc
        refine lv_aload_n hx hb dX0_keeps_44 rfl (lv_at hl 0 rfl) ?_
        refine xg0_14 (i := 0) hC hI (xst hI (Nat.le_of_ble_eq_true rfl) sl_0) q486 (fun _ h => h) dX0_keeps_45 ?_
        refine lv_bipush (v := 19) hx hb dX0_keeps_48 (by decide) ?_
        refine x_aload_n hx hb dX0_keeps_50 rfl (lv_at hl 1 rfl) ?_
        obtain ⟨q6, hqe_q6, hT_q6⟩ := hT
        have hl_q6 := hl
        subst hqe_q6
        replace hT := hT_q6
        refine W.eq (g2 := F0 m 51 ls [.ref (ad q6), .int 19, .ref (ad 134)]) rfl ?_
        have hl : lv_has ls 3 [(0, .ref (ad 0)), (1, .ref (ad q6)), (2, .int x2)] := hl_q6
        obtain ⟨hV, hT⟩ := hT
        refine xaast6 (i := 134) (q := q6) hC hI (Nat.lt_of_lt_of_le (show _ < 1296 from (Nat.le_of_ble_eq_true rfl)) (by decide)) (xst hI (Nat.le_of_ble_eq_true rfl) sl_134) hV hT dX0_keeps_51 (fun σ7 H locs hT hI => ?_)
        refine lv_aload_n hx hb dX0_keeps_52 rfl (lv_at hl 0 rfl) ?_
        refine lv_dup hx hb dX0_keeps_53 rfl ?_
        refine xg0_15 (i := 0) hC hI (xst hI (Nat.le_of_ble_eq_true rfl) sl_0) q487 (fun _ h => h) dX0_keeps_54 ?_
        refine lv_iconst (v := 1) hx hb dX0_keeps_57 (by decide) ?_
        refine lv_isub hx hb dX0_keeps_58 ?_
        refine xp0_15 (i := 0) (v := (gI σ7 0 15) - 1) hC hI (Nat.lt_of_lt_of_le (show _ < 1296 from (Nat.le_of_ble_eq_true rfl)) (by decide)) (xst hI (Nat.le_of_ble_eq_true rfl) sl_0) hT q487 (fun _ h => h) dX0_keeps_59 (fun σ8 H locs hT hI => ?_)
        exact w_62 σ8 _ _ _ hT hI (lv_sub hl [0] rfl)
      · replace hT := hT.2 hc
        refine lv_aload_n hx hb dX0_keeps_24 rfl (lv_at hl 0 rfl) ?_
        refine xg0_14 (i := 0) hC hI (xst hI (Nat.le_of_ble_eq_true rfl) sl_0) q486 (fun _ h => h) dX0_keeps_25 ?_
        refine lv_iload_n hx hb dX0_keeps_28 rfl (lv_at hl 2 rfl) ?_
        refine lv_iconst (v := 1) hx hb dX0_keeps_29 (by decide) ?_
        refine lv_isub hx hb dX0_keeps_30 ?_
        refine lv_aload_n hx hb dX0_keeps_31 rfl (lv_at hl 0 rfl) ?_
        refine xg0_14 (i := 0) hC hI (xst hI (Nat.le_of_ble_eq_true rfl) sl_0) q486 (fun _ h => h) dX0_keeps_32 ?_
        refine lv_iload_n hx hb dX0_keeps_35 rfl (lv_at hl 2 rfl) ?_
        refine x_aald (i := 134) hC hI (xst hI (Nat.le_of_ble_eq_true rfl) sl_134) rfl rfl (by decide) hT dX0_keeps_36 (fun hT => ?_)
        obtain ⟨q9, hq10, hT⟩ := hT
        refine W.eq (congrArg (fun z => F0 m 37 ls [z, .int (x2 - 1), .ref (ad 134)]) (xrq hq10)) ?_
        obtain ⟨hV, hT⟩ := hT
        refine xaast6 (i := 134) (q := q9) hC hI (Nat.lt_of_lt_of_le (show _ < 1296 from (Nat.le_of_ble_eq_true rfl)) (by decide)) (xst hI (Nat.le_of_ble_eq_true rfl) sl_134) hV hT dX0_keeps_37 (fun σ11 H locs hT hI => ?_)
        refine lv_iinc (v := x2 + 1) (lv' := [(2, .int (x2 + 1)), (0, .ref (ad 0)), (1, va_rf (rgR ad x1))]) hx hb dX0_keeps_38 hl (k := 2) rfl rfl (Nat.le_of_ble_eq_true rfl) (by simp [va_rf_cat, vc_int, vc_long, vc_ref, vc_null]) (fun ls hl => ?_)
        refine lv_goto (tgt := 18) hx hb dX0_keeps_41 (by decide) ?_
        exact ih (x2 + 1) σ11 _ _ _ hT hI (lv_sub hl [1, 2, 0] rfl)
  unfold U_X0_keeps at hT
  refine lv_aload_n hx hb dX0_keeps_0 rfl (lv_at hl 0 rfl) ?_
  refine xg0_15 (i := 0) hC hI (xst hI (Nat.le_of_ble_eq_true rfl) sl_0) q487 (fun _ h => h) dX0_keeps_1 ?_
  refine lv_bipush (v := 20) hx hb dX0_keeps_4 (by decide) ?_
  refine lv_icmp_ne (tgt := 62) hx hb dX0_keeps_6 (by decide) (fun hc => ?_) (fun hc => ?_)
  · replace hT := hT.1 hc
    exact w_62 σ _ _ _ hT hI (lv_sub hl [0] rfl)
  · replace hT := hT.2 hc
    refine lv_aload_n hx hb dX0_keeps_9 rfl (lv_at hl 0 rfl) ?_
    refine xg0_14 (i := 0) hC hI (xst hI (Nat.le_of_ble_eq_true rfl) sl_0) q486 (fun _ h => h) dX0_keeps_10 ?_
    refine lv_iconst (v := 0) hx hb dX0_keeps_13 (by decide) ?_
    refine x_aald (i := 134) hC hI (xst hI (Nat.le_of_ble_eq_true rfl) sl_134) rfl rfl (by decide) hT dX0_keeps_14 (fun hT => ?_)
    refine x_astore_n (lv' := [(1, va_rf (rgR ad (gR σ 134 (Int32.toNatClampNeg 0)))), (0, .ref (ad 0))]) hx hb dX0_keeps_15 rfl hl (Nat.le_of_ble_eq_true rfl) rfl (fun ls hl => ?_)
    refine lv_iconst (v := 1) hx hb dX0_keeps_16 (by decide) ?_
    refine lv_istore_n (i := 2) (lv' := [(2, .int 1), (1, va_rf (rgR ad (gR σ 134 (Int32.toNatClampNeg 0)))), (0, .ref (ad 0))]) hx hb dX0_keeps_17 rfl hl (Nat.le_of_ble_eq_true rfl) (by simp [va_rf_cat, vc_int, vc_long, vc_ref, vc_null]) (fun ls hl => ?_)
    obtain ⟨n18, hT⟩ := hT
    exact w_18 (gR σ 134 (Int32.toNatClampNeg 0)) n18 1 σ _ _ _ hT hI (lv_sub hl [2, 1, 0] rfl)
set_option maxHeartbeats 4000000 in
set_option maxRecDepth 100000 in
theorem um_X0_strike (l : Launch) (D : va_G) (dA : Nat → ClassId) (ad : Nat → Nat) (Hs : Heap) (hA : cAd ad 1296 Hs.size) (σ : CS) (x1 : Int32) (K : Int32 → CS → Prop) (hT : U_X0_strike σ x1 K) : Met l yX0_strike (ws_ yX0_strike cX0_strike 2 (some .boolean)) ({ frames := 4, cells := 0, slots := 0, locals := 73 }) (va_Pc [.ref (ad 0), .int x1] (cU D dA ad 1296 Hs σ)) (xQ rvI K (cU D dA ad 1296 Hs) (cA ad)) 0 0 (cA ad) := by
  refine xm_z hA (by decide) rfl (Nat.le_of_ble_eq_true rfl) ?_
  intro p e s m args below meth c Q hC hN hret hI ls hl
  have hx := hC.1.1
  have hb := hC.1.2.1
  have hB : 0 ≤ 0 ∧ 0 ≤ 0 := ⟨Nat.zero_le _, Nat.zero_le _⟩
  have hl : lv_has ls 2 [(0, .ref (ad 0)), (1, .int x1)] := hl
  have w_21 : ∀ (σ : CS) (H : Heap) (locs : List Loc) (ls : Array Slot), U_X0_strike_21 K σ → xI D dA ad 1296 Hs s.heap σ H locs → lv_has ls 2 [(0, .ref (ad 0))] → W p l e ({ frames := 4, cells := 0, slots := 0, locals := 73 }) s m args below meth c H locs 0 0 Q (F0 m 21 ls []) := by
    intro σ H locs ls hT hI hl
    unfold U_X0_strike_21 at hT
    refine lv_aload_n hx hb dX0_strike_21 rfl (lv_at hl 0 rfl) ?_
    refine lv_iconst (v := 2) hx hb dX0_strike_22 (by decide) ?_
    refine x_call (x_runV (i := 0) hC hI (xst hI (Nat.le_of_ble_eq_true rfl) sl_0) rfl (um_X0_refuses l D dA ad Hs hC.2.2 σ 2 _ hT) (lw_V q537 q539 qs1 q158 q540) 1 hdV_X0_refuses ⟨rfl, rfl⟩ ⟨Nat.le_of_ble_eq_true rfl, Nat.le_of_ble_eq_true rfl⟩ rfl hl.1 rfl (Nat.le_of_ble_eq_true rfl) hB dX0_strike_23) hI (fun r2 σ1 H locs hT hI => ?_)
    refine W.eq (g2 := F0 m 26 ls [.int r2]) rfl ?_
    refine lv_if_lt (tgt := 33) hx hb dX0_strike_26 (by decide) (fun hc => ?_) (fun hc => ?_)
    · replace hT := hT.1 hc
      refine lv_iconst (v := 0) hx hb dX0_strike_33 (by decide) ?_
      exact hret _ _ _ _ _ _ _ _ rfl hT hI hB dX0_strike_34
    · replace hT := hT.2 hc
      refine lv_iconst (v := 1) hx hb dX0_strike_29 (by decide) ?_
      refine lv_goto (tgt := 34) hx hb dX0_strike_30 (by decide) ?_
      exact hret _ _ _ _ _ _ _ _ rfl hT hI hB dX0_strike_34
  unfold U_X0_strike at hT
  refine lv_aload_n hx hb dX0_strike_0 rfl (lv_at hl 0 rfl) ?_
  refine lv_iload_n hx hb dX0_strike_1 rfl (lv_at hl 1 rfl) ?_
  refine x_call (x_runV (i := 0) hC hI (xst hI (Nat.le_of_ble_eq_true rfl) sl_0) rfl (um_X0_isThing l D dA ad Hs hC.2.2 σ x1 _ hT) (lw_V q1423 q1425 qs43 q158 q1426) 1 hdV_X0_isThing ⟨rfl, rfl⟩ ⟨Nat.le_of_ble_eq_true rfl, Nat.le_of_ble_eq_true rfl⟩ rfl hl.1 rfl (Nat.le_of_ble_eq_true rfl) hB dX0_strike_2) hI (fun r4 σ3 H locs hT hI => ?_)
  refine W.eq (g2 := F0 m 5 ls [.int r4]) rfl ?_
  refine lv_if_eq (tgt := 21) hx hb dX0_strike_5 (by decide) (fun hc => ?_) (fun hc => ?_)
  · replace hT := hT.1 hc
    exact w_21 σ3 _ _ _ hT hI (lv_sub hl [0] rfl)
  · replace hT := hT.2 hc
    refine lv_aload_n hx hb dX0_strike_8 rfl (lv_at hl 0 rfl) ?_
    refine xg0_9 (i := 0) hC hI (xst hI (Nat.le_of_ble_eq_true rfl) sl_0) q481 (fun _ h => h) dX0_strike_9 ?_
    refine xgN5_2 (i := 16) hC hI (xst hI (st_lt (Or.inl rfl : stOK 16) (d := 0) (by decide)) (sls_0 (Or.inl rfl : stOK 16))) q416 (fun _ h => h) dX0_strike_12 ?_
    refine lv_iload_n hx hb dX0_strike_15 rfl (lv_at hl 1 rfl) ?_
    refine x_iald (i := 17) hC hI (xst hI (st_lt (Or.inl rfl : stOK 16) (d := 1) (by decide)) (sls_1 (Or.inl rfl : stOK 16))) hT dX0_strike_16 (fun hT => ?_)
    refine lv_iconst (v := 1) hx hb dX0_strike_17 (by decide) ?_
    refine lv_icmp_ne (tgt := 35) hx hb dX0_strike_18 (by decide) (fun hc => ?_) (fun hc => ?_)
    · replace hT := hT.1 hc
      refine lv_aload_n hx hb dX0_strike_35 rfl (lv_at hl 0 rfl) ?_
      refine x_call (x_runV (i := 0) hC hI (xst hI (Nat.le_of_ble_eq_true rfl) sl_0) rfl (um_X0_keeps l D dA ad Hs hC.2.2 σ3 _ hT) (lw_V q1590 q1592 qs58 q158 q1593) 0 hdV_X0_keeps ⟨rfl, rfl⟩ ⟨Nat.le_of_ble_eq_true rfl, Nat.le_of_ble_eq_true rfl⟩ rfl hl.1 rfl (Nat.le_of_ble_eq_true rfl) hB dX0_strike_36) hI (fun _ σ5 H locs hT hI => ?_)
      refine W.eq (g2 := F0 m 39 ls []) rfl ?_
      refine lv_aload_n hx hb dX0_strike_39 rfl (lv_at hl 0 rfl) ?_
      refine xg0_9 (i := 0) hC hI (xst hI (Nat.le_of_ble_eq_true rfl) sl_0) q481 (fun _ h => h) dX0_strike_40 ?_
      refine lv_iload_n hx hb dX0_strike_43 rfl (lv_at hl 1 rfl) ?_
      refine x_call (x_runV (i := 16) hC hI (xst hI (st_lt (Or.inl rfl : stOK 16) (d := 0) (by decide)) (sls_0 (Or.inl rfl : stOK 16))) rfl (um_X5_breaks l D dA ad Hs hC.2.2 σ5 16 x1 (Or.inl rfl : stOK 16) _ hT) (lw_V q1537 q1496 q1497 q169 q1498) 1 hdV_X5_breaks ⟨rfl, rfl⟩ ⟨Nat.le_of_ble_eq_true rfl, Nat.le_of_ble_eq_true rfl⟩ rfl hl.1 rfl (Nat.le_of_ble_eq_true rfl) hB dX0_strike_44) hI (fun _ σ7 H locs hT hI => ?_)
      refine W.eq (g2 := F0 m 47 ls []) rfl ?_
      refine lv_iconst (v := 1) hx hb dX0_strike_47 (by decide) ?_
      exact hret _ _ _ _ _ _ _ _ rfl hT hI hB dX0_strike_48
    · replace hT := hT.2 hc
      exact w_21 σ3 _ _ _ hT hI (lv_sub hl [0] rfl)
set_option maxHeartbeats 4000000 in
set_option maxRecDepth 100000 in
theorem um_X0_mend (l : Launch) (D : va_G) (dA : Nat → ClassId) (ad : Nat → Nat) (Hs : Heap) (hA : cAd ad 1296 Hs.size) (σ : CS) (x1 : Int32) (x2 : Int32) (K : Int32 → CS → Prop) (hT : U_X0_mend σ x1 x2 K) : Met l yX0_mend (ws_ yX0_mend cX0_mend 3 (some .int)) ({ frames := 904, cells := 0, slots := 0, locals := 18595 }) (va_Pc [.ref (ad 0), .int x1, .int x2] (cU D dA ad 1296 Hs σ)) (xQ rvI K (cU D dA ad 1296 Hs) (cA ad)) 0 0 (cA ad) := by
  refine xm_i hA (by decide) rfl (Nat.le_of_ble_eq_true rfl) ?_
  intro p e s m args below meth c Q hC hN hret hI ls hl
  have hx := hC.1.1
  have hb := hC.1.2.1
  have hB : 0 ≤ 0 ∧ 0 ≤ 0 := ⟨Nat.zero_le _, Nat.zero_le _⟩
  have hl : lv_has ls 3 [(0, .ref (ad 0)), (1, .int x1), (2, .int x2)] := hl
  unfold U_X0_mend at hT
  refine lv_aload_n hx hb dX0_mend_0 rfl (lv_at hl 0 rfl) ?_
  refine lv_iload_n hx hb dX0_mend_1 rfl (lv_at hl 1 rfl) ?_
  refine x_call (x_runV (i := 0) hC hI (xst hI (Nat.le_of_ble_eq_true rfl) sl_0) rfl (um_X0_isThing l D dA ad Hs hC.2.2 σ x1 _ hT) (lw_V q1423 q1425 qs43 q158 q1426) 1 hdV_X0_isThing ⟨rfl, rfl⟩ ⟨Nat.le_of_ble_eq_true rfl, Nat.le_of_ble_eq_true rfl⟩ rfl hl.1 rfl (Nat.le_of_ble_eq_true rfl) hB dX0_mend_2) hI (fun r2 σ1 H locs hT hI => ?_)
  refine W.eq (g2 := F0 m 5 ls [.int r2]) rfl ?_
  refine lv_if_eq (tgt := 29) hx hb dX0_mend_5 (by decide) (fun hc => ?_) (fun hc => ?_)
  · replace hT := hT.1 hc
    refine lv_aload_n hx hb dX0_mend_29 rfl (lv_at hl 0 rfl) ?_
    refine lv_iconst (v := 2) hx hb dX0_mend_30 (by decide) ?_
    refine x_call (x_runV (i := 0) hC hI (xst hI (Nat.le_of_ble_eq_true rfl) sl_0) rfl (um_X0_refuses l D dA ad Hs hC.2.2 σ1 2 _ hT) (lw_V q537 q539 qs1 q158 q540) 1 hdV_X0_refuses ⟨rfl, rfl⟩ ⟨Nat.le_of_ble_eq_true rfl, Nat.le_of_ble_eq_true rfl⟩ rfl hl.1 rfl (Nat.le_of_ble_eq_true rfl) hB dX0_mend_31) hI (fun r4 σ3 H locs hT hI => ?_)
    refine W.eq (g2 := F0 m 34 ls [.int r4]) rfl ?_
    exact hret _ _ _ _ _ _ _ _ hT hI hB dX0_mend_34
  · replace hT := hT.2 hc
    refine lv_aload_n hx hb dX0_mend_8 rfl (lv_at hl 0 rfl) ?_
    refine lv_iload_n hx hb dX0_mend_9 rfl (lv_at hl 2 rfl) ?_
    refine x_call (x_runV (i := 0) hC hI (xst hI (Nat.le_of_ble_eq_true rfl) sl_0) rfl (um_X0_isMender l D dA ad Hs hC.2.2 σ1 x2 _ hT) (lw_V q1432 q1434 qs44 q158 q1435) 1 hdV_X0_isMender ⟨rfl, rfl⟩ ⟨Nat.le_of_ble_eq_true rfl, Nat.le_of_ble_eq_true rfl⟩ rfl hl.1 rfl (Nat.le_of_ble_eq_true rfl) hB dX0_mend_10) hI (fun r6 σ5 H locs hT hI => ?_)
    refine W.eq (g2 := F0 m 13 ls [.int r6]) rfl ?_
    refine lv_if_eq (tgt := 29) hx hb dX0_mend_13 (by decide) (fun hc => ?_) (fun hc => ?_)
    · replace hT := hT.1 hc
      refine lv_aload_n hx hb dX0_mend_29 rfl (lv_at hl 0 rfl) ?_
      refine lv_iconst (v := 2) hx hb dX0_mend_30 (by decide) ?_
      refine x_call (x_runV (i := 0) hC hI (xst hI (Nat.le_of_ble_eq_true rfl) sl_0) rfl (um_X0_refuses l D dA ad Hs hC.2.2 σ5 2 _ hT) (lw_V q537 q539 qs1 q158 q540) 1 hdV_X0_refuses ⟨rfl, rfl⟩ ⟨Nat.le_of_ble_eq_true rfl, Nat.le_of_ble_eq_true rfl⟩ rfl hl.1 rfl (Nat.le_of_ble_eq_true rfl) hB dX0_mend_31) hI (fun r8 σ7 H locs hT hI => ?_)
      refine W.eq (g2 := F0 m 34 ls [.int r8]) rfl ?_
      exact hret _ _ _ _ _ _ _ _ hT hI hB dX0_mend_34
    · replace hT := hT.2 hc
      refine lv_aload_n hx hb dX0_mend_16 rfl (lv_at hl 0 rfl) ?_
      refine xg0_9 (i := 0) hC hI (xst hI (Nat.le_of_ble_eq_true rfl) sl_0) q481 (fun _ h => h) dX0_mend_17 ?_
      refine xgN5_2 (i := 16) hC hI (xst hI (st_lt (Or.inl rfl : stOK 16) (d := 0) (by decide)) (sls_0 (Or.inl rfl : stOK 16))) q416 (fun _ h => h) dX0_mend_20 ?_
      refine lv_iload_n hx hb dX0_mend_23 rfl (lv_at hl 1 rfl) ?_
      refine x_iald (i := 17) hC hI (xst hI (st_lt (Or.inl rfl : stOK 16) (d := 1) (by decide)) (sls_1 (Or.inl rfl : stOK 16))) hT dX0_mend_24 (fun hT => ?_)
      refine lv_iconst (v := 1) hx hb dX0_mend_25 (by decide) ?_
      refine lv_icmp_eq (tgt := 35) hx hb dX0_mend_26 (by decide) (fun hc => ?_) (fun hc => ?_)
      · replace hT := hT.1 hc
        refine lv_aload_n hx hb dX0_mend_35 rfl (lv_at hl 0 rfl) ?_
        refine x_call (x_runV (i := 0) hC hI (xst hI (Nat.le_of_ble_eq_true rfl) sl_0) rfl (um_X0_keeps l D dA ad Hs hC.2.2 σ5 _ hT) (lw_V q1590 q1592 qs58 q158 q1593) 0 hdV_X0_keeps ⟨rfl, rfl⟩ ⟨Nat.le_of_ble_eq_true rfl, Nat.le_of_ble_eq_true rfl⟩ rfl hl.1 rfl (Nat.le_of_ble_eq_true rfl) hB dX0_mend_36) hI (fun _ σ9 H locs hT hI => ?_)
        refine W.eq (g2 := F0 m 39 ls []) rfl ?_
        refine lv_aload_n hx hb dX0_mend_39 rfl (lv_at hl 0 rfl) ?_
        refine xg0_9 (i := 0) hC hI (xst hI (Nat.le_of_ble_eq_true rfl) sl_0) q481 (fun _ h => h) dX0_mend_40 ?_
        refine lv_iload_n hx hb dX0_mend_43 rfl (lv_at hl 1 rfl) ?_
        refine lv_iload_n hx hb dX0_mend_44 rfl (lv_at hl 2 rfl) ?_
        refine x_call (x_runV (i := 16) hC hI (xst hI (st_lt (Or.inl rfl : stOK 16) (d := 0) (by decide)) (sls_0 (Or.inl rfl : stOK 16))) rfl (um_X5_isMended l D dA ad Hs hC.2.2 σ9 16 x1 x2 (Or.inl rfl : stOK 16) _ hT) (lw_V q1538 q1520 q1521 q169 q1522) 2 hdV_X5_isMended ⟨rfl, rfl⟩ ⟨Nat.le_of_ble_eq_true rfl, Nat.le_of_ble_eq_true rfl⟩ rfl hl.1 rfl (Nat.le_of_ble_eq_true rfl) hB dX0_mend_45) hI (fun _ σ11 H locs hT hI => ?_)
        refine W.eq (g2 := F0 m 48 ls []) rfl ?_
        refine lv_aload_n hx hb dX0_mend_48 rfl (lv_at hl 0 rfl) ?_
        refine xg0_9 (i := 0) hC hI (xst hI (Nat.le_of_ble_eq_true rfl) sl_0) q481 (fun _ h => h) dX0_mend_49 ?_
        refine xgN5_5 (i := 16) hC hI (xst hI (st_lt (Or.inl rfl : stOK 16) (d := 0) (by decide)) (sls_0 (Or.inl rfl : stOK 16))) q422 (fun _ h => h) dX0_mend_52 ?_
        refine lv_iload_n hx hb dX0_mend_55 rfl (lv_at hl 1 rfl) ?_
        refine x_iald (i := 20) hC hI (xst hI (st_lt (Or.inl rfl : stOK 16) (d := 4) (by decide)) (sls_4 (Or.inl rfl : stOK 16))) hT dX0_mend_56 (fun hT => ?_)
        exact hret _ _ _ _ _ _ _ _ hT hI hB dX0_mend_57
      · replace hT := hT.2 hc
        refine lv_aload_n hx hb dX0_mend_29 rfl (lv_at hl 0 rfl) ?_
        refine lv_iconst (v := 2) hx hb dX0_mend_30 (by decide) ?_
        refine x_call (x_runV (i := 0) hC hI (xst hI (Nat.le_of_ble_eq_true rfl) sl_0) rfl (um_X0_refuses l D dA ad Hs hC.2.2 σ5 2 _ hT) (lw_V q537 q539 qs1 q158 q540) 1 hdV_X0_refuses ⟨rfl, rfl⟩ ⟨Nat.le_of_ble_eq_true rfl, Nat.le_of_ble_eq_true rfl⟩ rfl hl.1 rfl (Nat.le_of_ble_eq_true rfl) hB dX0_mend_31) hI (fun r14 σ13 H locs hT hI => ?_)
        refine W.eq (g2 := F0 m 34 ls [.int r14]) rfl ?_
        exact hret _ _ _ _ _ _ _ _ hT hI hB dX0_mend_34
set_option maxHeartbeats 4000000 in
set_option maxRecDepth 100000 in
theorem um_X0_forge (l : Launch) (D : va_G) (dA : Nat → ClassId) (ad : Nat → Nat) (Hs : Heap) (hA : cAd ad 1296 Hs.size) (σ : CS) (x1 : Int32) (K : Int32 → CS → Prop) (hT : U_X0_forge σ x1 K) : Met l yX0_forge (ws_ yX0_forge cX0_forge 2 (some .boolean)) ({ frames := 4, cells := 0, slots := 0, locals := 73 }) (va_Pc [.ref (ad 0), .int x1] (cU D dA ad 1296 Hs σ)) (xQ rvI K (cU D dA ad 1296 Hs) (cA ad)) 0 0 (cA ad) := by
  refine xm_z hA (by decide) rfl (Nat.le_of_ble_eq_true rfl) ?_
  intro p e s m args below meth c Q hC hN hret hI ls hl
  have hx := hC.1.1
  have hb := hC.1.2.1
  have hB : 0 ≤ 0 ∧ 0 ≤ 0 := ⟨Nat.zero_le _, Nat.zero_le _⟩
  have hl : lv_has ls 2 [(0, .ref (ad 0)), (1, .int x1)] := hl
  have w_20 : ∀ (σ : CS) (H : Heap) (locs : List Loc) (ls : Array Slot), U_X0_forge_20 K σ → xI D dA ad 1296 Hs s.heap σ H locs → lv_has ls 2 [(0, .ref (ad 0))] → W p l e ({ frames := 4, cells := 0, slots := 0, locals := 73 }) s m args below meth c H locs 0 0 Q (F0 m 20 ls []) := by
    intro σ H locs ls hT hI hl
    unfold U_X0_forge_20 at hT
    refine lv_aload_n hx hb dX0_forge_20 rfl (lv_at hl 0 rfl) ?_
    refine lv_iconst (v := 2) hx hb dX0_forge_21 (by decide) ?_
    refine x_call (x_runV (i := 0) hC hI (xst hI (Nat.le_of_ble_eq_true rfl) sl_0) rfl (um_X0_refuses l D dA ad Hs hC.2.2 σ 2 _ hT) (lw_V q537 q539 qs1 q158 q540) 1 hdV_X0_refuses ⟨rfl, rfl⟩ ⟨Nat.le_of_ble_eq_true rfl, Nat.le_of_ble_eq_true rfl⟩ rfl hl.1 rfl (Nat.le_of_ble_eq_true rfl) hB dX0_forge_22) hI (fun r2 σ1 H locs hT hI => ?_)
    refine W.eq (g2 := F0 m 25 ls [.int r2]) rfl ?_
    refine lv_if_lt (tgt := 32) hx hb dX0_forge_25 (by decide) (fun hc => ?_) (fun hc => ?_)
    · replace hT := hT.1 hc
      refine lv_iconst (v := 0) hx hb dX0_forge_32 (by decide) ?_
      exact hret _ _ _ _ _ _ _ _ rfl hT hI hB dX0_forge_33
    · replace hT := hT.2 hc
      refine lv_iconst (v := 1) hx hb dX0_forge_28 (by decide) ?_
      refine lv_goto (tgt := 33) hx hb dX0_forge_29 (by decide) ?_
      exact hret _ _ _ _ _ _ _ _ rfl hT hI hB dX0_forge_33
  unfold U_X0_forge at hT
  refine lv_aload_n hx hb dX0_forge_0 rfl (lv_at hl 0 rfl) ?_
  refine lv_iload_n hx hb dX0_forge_1 rfl (lv_at hl 1 rfl) ?_
  refine x_call (x_runV (i := 0) hC hI (xst hI (Nat.le_of_ble_eq_true rfl) sl_0) rfl (um_X0_isThing l D dA ad Hs hC.2.2 σ x1 _ hT) (lw_V q1423 q1425 qs43 q158 q1426) 1 hdV_X0_isThing ⟨rfl, rfl⟩ ⟨Nat.le_of_ble_eq_true rfl, Nat.le_of_ble_eq_true rfl⟩ rfl hl.1 rfl (Nat.le_of_ble_eq_true rfl) hB dX0_forge_2) hI (fun r4 σ3 H locs hT hI => ?_)
  refine W.eq (g2 := F0 m 5 ls [.int r4]) rfl ?_
  refine lv_if_eq (tgt := 20) hx hb dX0_forge_5 (by decide) (fun hc => ?_) (fun hc => ?_)
  · replace hT := hT.1 hc
    exact w_20 σ3 _ _ _ hT hI (lv_sub hl [0] rfl)
  · replace hT := hT.2 hc
    refine lv_aload_n hx hb dX0_forge_8 rfl (lv_at hl 0 rfl) ?_
    refine xg0_9 (i := 0) hC hI (xst hI (Nat.le_of_ble_eq_true rfl) sl_0) q481 (fun _ h => h) dX0_forge_9 ?_
    refine xgN5_2 (i := 16) hC hI (xst hI (st_lt (Or.inl rfl : stOK 16) (d := 0) (by decide)) (sls_0 (Or.inl rfl : stOK 16))) q416 (fun _ h => h) dX0_forge_12 ?_
    refine lv_iload_n hx hb dX0_forge_15 rfl (lv_at hl 1 rfl) ?_
    refine x_iald (i := 17) hC hI (xst hI (st_lt (Or.inl rfl : stOK 16) (d := 1) (by decide)) (sls_1 (Or.inl rfl : stOK 16))) hT dX0_forge_16 (fun hT => ?_)
    refine lv_if_eq (tgt := 34) hx hb dX0_forge_17 (by decide) (fun hc => ?_) (fun hc => ?_)
    · replace hT := hT.1 hc
      refine lv_aload_n hx hb dX0_forge_34 rfl (lv_at hl 0 rfl) ?_
      refine x_call (x_runV (i := 0) hC hI (xst hI (Nat.le_of_ble_eq_true rfl) sl_0) rfl (um_X0_keeps l D dA ad Hs hC.2.2 σ3 _ hT) (lw_V q1590 q1592 qs58 q158 q1593) 0 hdV_X0_keeps ⟨rfl, rfl⟩ ⟨Nat.le_of_ble_eq_true rfl, Nat.le_of_ble_eq_true rfl⟩ rfl hl.1 rfl (Nat.le_of_ble_eq_true rfl) hB dX0_forge_35) hI (fun _ σ5 H locs hT hI => ?_)
      refine W.eq (g2 := F0 m 38 ls []) rfl ?_
      refine lv_aload_n hx hb dX0_forge_38 rfl (lv_at hl 0 rfl) ?_
      refine xg0_9 (i := 0) hC hI (xst hI (Nat.le_of_ble_eq_true rfl) sl_0) q481 (fun _ h => h) dX0_forge_39 ?_
      refine xgN5_2 (i := 16) hC hI (xst hI (st_lt (Or.inl rfl : stOK 16) (d := 0) (by decide)) (sls_0 (Or.inl rfl : stOK 16))) q416 (fun _ h => h) dX0_forge_42 ?_
      refine lv_iload_n hx hb dX0_forge_45 rfl (lv_at hl 1 rfl) ?_
      refine lv_iconst (v := 2) hx hb dX0_forge_46 (by decide) ?_
      refine x_iast (i := 17) hC hI (lt_cb (st_lt (Or.inl rfl : stOK 16) (d := 1) (by decide))) (xst hI (st_lt (Or.inl rfl : stOK 16) (d := 1) (by decide)) (sls_1 (Or.inl rfl : stOK 16))) hT dX0_forge_47 (fun σ7 H locs hT hI => ?_)
      refine lv_aload_n hx hb dX0_forge_48 rfl (lv_at hl 0 rfl) ?_
      refine xg0_9 (i := 0) hC hI (xst hI (Nat.le_of_ble_eq_true rfl) sl_0) q481 (fun _ h => h) dX0_forge_49 ?_
      refine xgN5_5 (i := 16) hC hI (xst hI (st_lt (Or.inl rfl : stOK 16) (d := 0) (by decide)) (sls_0 (Or.inl rfl : stOK 16))) q422 (fun _ h => h) dX0_forge_52 ?_
      refine lv_iload_n hx hb dX0_forge_55 rfl (lv_at hl 1 rfl) ?_
      refine lv_bipush (v := 50) hx hb dX0_forge_56 (by decide) ?_
      refine x_iast (i := 20) hC hI (lt_cb (st_lt (Or.inl rfl : stOK 16) (d := 4) (by decide))) (xst hI (st_lt (Or.inl rfl : stOK 16) (d := 4) (by decide)) (sls_4 (Or.inl rfl : stOK 16))) hT dX0_forge_58 (fun σ8 H locs hT hI => ?_)
      refine lv_aload_n hx hb dX0_forge_59 rfl (lv_at hl 0 rfl) ?_
      refine xg0_9 (i := 0) hC hI (xst hI (Nat.le_of_ble_eq_true rfl) sl_0) q481 (fun _ h => h) dX0_forge_60 ?_
      refine xgN5_6 (i := 16) hC hI (xst hI (st_lt (Or.inl rfl : stOK 16) (d := 0) (by decide)) (sls_0 (Or.inl rfl : stOK 16))) q424 (fun _ h => h) dX0_forge_63 ?_
      refine lv_iload_n hx hb dX0_forge_66 rfl (lv_at hl 1 rfl) ?_
      refine lv_iconst (v := 1) hx hb dX0_forge_67 (by decide) ?_
      refine x_zast (i := 21) hC hI (lt_cb (st_lt (Or.inl rfl : stOK 16) (d := 5) (by decide))) (xst hI (st_lt (Or.inl rfl : stOK 16) (d := 5) (by decide)) (sls_5 (Or.inl rfl : stOK 16))) hT dX0_forge_68 (fun σ9 H locs hT hI => ?_)
      refine lv_iconst (v := 1) hx hb dX0_forge_69 (by decide) ?_
      exact hret _ _ _ _ _ _ _ _ rfl hT hI hB dX0_forge_70
    · replace hT := hT.2 hc
      exact w_20 σ3 _ _ _ hT hI (lv_sub hl [0] rfl)
set_option maxHeartbeats 4000000 in
set_option maxRecDepth 100000 in
theorem um_X0_days (l : Launch) (D : va_G) (dA : Nat → ClassId) (ad : Nat → Nat) (Hs : Heap) (hA : cAd ad 1296 Hs.size) (σ : CS) (x1 : Int32) (K : Int32 → CS → Prop) (hT : U_X0_days σ x1 K) : Met l yX0_days (ws_ yX0_days cX0_days 4 (some .int)) ({ frames := 908, cells := 0, slots := 0, locals := 18662 }) (va_Pc [.ref (ad 0), .int x1] (cU D dA ad 1296 Hs σ)) (xQ rvI K (cU D dA ad 1296 Hs) (cA ad)) 0 0 (cA ad) := by
  refine xm_i hA (by decide) rfl (Nat.le_of_ble_eq_true rfl) ?_
  intro p e s m args below meth c Q hC hN hret hI ls hl
  have hx := hC.1.1
  have hb := hC.1.2.1
  have hB : 0 ≤ 0 ∧ 0 ≤ 0 := ⟨Nat.zero_le _, Nat.zero_le _⟩
  have hl : lv_has ls 4 [(0, .ref (ad 0)), (1, .int x1)] := hl
  have w_25 : ∀ (x1 : Int32) (n : Nat) (x2 : Int32) (x3 : Int32) (σ : CS) (H : Heap) (locs : List Loc) (ls : Array Slot), U_X0_days_25 K x1 n x2 x3 σ → xI D dA ad 1296 Hs s.heap σ H locs → lv_has ls 4 [(0, .ref (ad 0)), (1, .int x1), (2, .int x2), (3, .int x3)] → W p l e ({ frames := 908, cells := 0, slots := 0, locals := 18662 }) s m args below meth c H locs 0 0 Q (F0 m 25 ls []) := by
    intro x1 n
    induction n with
    | zero => intro x2 x3 σ H locs ls hT; exact hT.elim
    | succ n ih =>
      intro x2 x3 σ H locs ls hT hI hl
      unfold U_X0_days_25 at hT
      refine lv_iload_n hx hb dX0_days_25 rfl (lv_at hl 3 rfl) ?_
      refine lv_iload_n hx hb dX0_days_26 rfl (lv_at hl 1 rfl) ?_
      refine lv_icmp_ge (tgt := 46) hx hb dX0_days_27 (by decide) (fun hc => ?_) (fun hc => ?_)
      · replace hT := hT.1 hc
        refine lv_iload_n hx hb dX0_days_46 rfl (lv_at hl 2 rfl) ?_
        exact hret _ _ _ _ _ _ _ _ hT hI hB dX0_days_47
      · replace hT := hT.2 hc
        refine lv_iload_n hx hb dX0_days_30 rfl (lv_at hl 2 rfl) ?_
        refine lv_aload_n hx hb dX0_days_31 rfl (lv_at hl 0 rfl) ?_
        refine xg0_9 (i := 0) hC hI (xst hI (Nat.le_of_ble_eq_true rfl) sl_0) q481 (fun _ h => h) dX0_days_32 ?_
        refine x_call (x_runV (i := 16) hC hI (xst hI (st_lt (Or.inl rfl : stOK 16) (d := 0) (by decide)) (sls_0 (Or.inl rfl : stOK 16))) rfl (um_X5_passes l D dA ad Hs hC.2.2 σ 16 (Or.inl rfl : stOK 16) _ hT) (lw_V q1490 q1491 q1492 q169 q1493) 0 hdV_X5_passes ⟨rfl, rfl⟩ ⟨Nat.le_of_ble_eq_true rfl, Nat.le_of_ble_eq_true rfl⟩ rfl hl.1 rfl (Nat.le_of_ble_eq_true rfl) hB dX0_days_35) hI (fun r2 σ1 H locs hT hI => ?_)
        refine W.eq (g2 := F0 m 38 ls [.int r2, .int x2]) rfl ?_
        refine lv_iadd hx hb dX0_days_38 ?_
        refine lv_istore_n (lv' := [(2, .int (x2 + r2)), (0, .ref (ad 0)), (1, .int x1), (3, .int x3)]) hx hb dX0_days_39 rfl hl (Nat.le_of_ble_eq_true rfl) rfl (fun ls hl => ?_)
        refine lv_iinc (v := x3 + 1) (lv' := [(3, .int (x3 + 1)), (2, .int (x2 + r2)), (0, .ref (ad 0)), (1, .int x1)]) hx hb dX0_days_40 hl (k := 3) rfl rfl (Nat.le_of_ble_eq_true rfl) rfl (fun ls hl => ?_)
        refine lv_goto (tgt := 25) hx hb dX0_days_43 (by decide) ?_
        exact ih (x2 + r2) (x3 + 1) σ1 _ _ _ hT hI (lv_sub hl [2, 3, 1, 0] rfl)
  unfold U_X0_days at hT
  refine lv_aload_n hx hb dX0_days_0 rfl (lv_at hl 0 rfl) ?_
  refine lv_iload_n hx hb dX0_days_1 rfl (lv_at hl 1 rfl) ?_
  refine lv_iconst (v := 1) hx hb dX0_days_2 (by decide) ?_
  refine lv_bipush (v := 100) hx hb dX0_days_3 (by decide) ?_
  refine x_call (x_runV (i := 0) hC hI (xst hI (Nat.le_of_ble_eq_true rfl) sl_0) rfl (um_X0_isAhead l D dA ad Hs hC.2.2 σ x1 1 100 _ hT) (lw_V q1482 q1484 qs48 q158 q1485) 3 hdV_X0_isAhead ⟨rfl, rfl⟩ ⟨Nat.le_of_ble_eq_true rfl, Nat.le_of_ble_eq_true rfl⟩ rfl hl.1 rfl (Nat.le_of_ble_eq_true rfl) hB dX0_days_5) hI (fun r4 σ3 H locs hT hI => ?_)
  refine W.eq (g2 := F0 m 8 ls [.int r4]) rfl ?_
  refine lv_if_ne (tgt := 17) hx hb dX0_days_8 (by decide) (fun hc => ?_) (fun hc => ?_)
  · replace hT := hT.1 hc
    refine lv_aload_n hx hb dX0_days_17 rfl (lv_at hl 0 rfl) ?_
    refine x_call (x_runV (i := 0) hC hI (xst hI (Nat.le_of_ble_eq_true rfl) sl_0) rfl (um_X0_keeps l D dA ad Hs hC.2.2 σ3 _ hT) (lw_V q1590 q1592 qs58 q158 q1593) 0 hdV_X0_keeps ⟨rfl, rfl⟩ ⟨Nat.le_of_ble_eq_true rfl, Nat.le_of_ble_eq_true rfl⟩ rfl hl.1 rfl (Nat.le_of_ble_eq_true rfl) hB dX0_days_18) hI (fun _ σ5 H locs hT hI => ?_)
    refine W.eq (g2 := F0 m 21 ls []) rfl ?_
    refine lv_iconst (v := 0) hx hb dX0_days_21 (by decide) ?_
    refine lv_istore_n (lv' := [(2, .int 0), (0, .ref (ad 0)), (1, .int x1)]) hx hb dX0_days_22 rfl hl (Nat.le_of_ble_eq_true rfl) rfl (fun ls hl => ?_)
    refine lv_iconst (v := 0) hx hb dX0_days_23 (by decide) ?_
    refine lv_istore_n (lv' := [(3, .int 0), (2, .int 0), (0, .ref (ad 0)), (1, .int x1)]) hx hb dX0_days_24 rfl hl (Nat.le_of_ble_eq_true rfl) rfl (fun ls hl => ?_)
    obtain ⟨n25, hT⟩ := hT
    exact w_25 x1 n25 0 0 σ5 _ _ _ hT hI (lv_sub hl [2, 3, 1, 0] rfl)
  · replace hT := hT.2 hc
    refine lv_aload_n hx hb dX0_days_11 rfl (lv_at hl 0 rfl) ?_
    refine lv_iconst (v := 3) hx hb dX0_days_12 (by decide) ?_
    refine x_call (x_runV (i := 0) hC hI (xst hI (Nat.le_of_ble_eq_true rfl) sl_0) rfl (um_X0_refuses l D dA ad Hs hC.2.2 σ3 3 _ hT) (lw_V q537 q539 qs1 q158 q540) 1 hdV_X0_refuses ⟨rfl, rfl⟩ ⟨Nat.le_of_ble_eq_true rfl, Nat.le_of_ble_eq_true rfl⟩ rfl hl.1 rfl (Nat.le_of_ble_eq_true rfl) hB dX0_days_13) hI (fun r8 σ7 H locs hT hI => ?_)
    refine W.eq (g2 := F0 m 16 ls [.int r8]) rfl ?_
    exact hret _ _ _ _ _ _ _ _ hT hI hB dX0_days_16
set_option maxHeartbeats 4000000 in
set_option maxRecDepth 100000 in
theorem um_X0_draw (l : Launch) (D : va_G) (dA : Nat → ClassId) (ad : Nat → Nat) (Hs : Heap) (hA : cAd ad 1296 Hs.size) (σ : CS) (x1 : Int32) (K : Int32 → CS → Prop) (hT : U_X0_draw σ x1 K) : Met l yX0_draw (ws_ yX0_draw cX0_draw 2 (some .int)) ({ frames := 1, cells := 0, slots := 0, locals := 12 }) (va_Pc [.ref (ad 0), .int x1] (cU D dA ad 1296 Hs σ)) (xQ rvI K (cU D dA ad 1296 Hs) (cA ad)) 0 0 (cA ad) := by
  refine xm_i hA (by decide) rfl (Nat.le_of_ble_eq_true rfl) ?_
  intro p e s m args below meth c Q hC hN hret hI ls hl
  have hx := hC.1.1
  have hb := hC.1.2.1
  have hB : 0 ≤ 0 ∧ 0 ≤ 0 := ⟨Nat.zero_le _, Nat.zero_le _⟩
  have hl : lv_has ls 2 [(0, .ref (ad 0)), (1, .int x1)] := hl
  unfold U_X0_draw at hT
  refine lv_aload_n hx hb dX0_draw_0 rfl (lv_at hl 0 rfl) ?_
  refine lv_ldc2 hx hb hC.1.2.2.2.1 (hC.1.2.2.2.2 _ q1614) dX0_draw_1 ?_
  refine lv_aload_n hx hb dX0_draw_4 rfl (lv_at hl 0 rfl) ?_
  refine xg0_16 (i := 0) hC hI (xst hI (Nat.le_of_ble_eq_true rfl) sl_0) q488 (fun _ h => h) dX0_draw_5 ?_
  refine lv_lmul hx hb dX0_draw_8 ?_
  refine lv_ldc2 hx hb hC.1.2.2.2.1 (hC.1.2.2.2.2 _ q1615) dX0_draw_9 ?_
  refine lv_ladd hx hb dX0_draw_12 ?_
  refine lv_ldc2 hx hb hC.1.2.2.2.1 (hC.1.2.2.2.2 _ q1616) dX0_draw_13 ?_
  refine lv_lrem hx hb dX0_draw_16 (by decide) ?_
  refine xp0_16 (i := 0) (v := ((1103515245 * (gL σ 0 16)) + 12345) - ((1103515245 * (gL σ 0 16)) + 12345) / 2147483648 * 2147483648) hC hI (Nat.lt_of_lt_of_le (show _ < 1296 from (Nat.le_of_ble_eq_true rfl)) (by decide)) (xst hI (Nat.le_of_ble_eq_true rfl) sl_0) hT q488 (fun _ h => h) dX0_draw_17 (fun σ1 H locs hT hI => ?_)
  refine lv_aload_n hx hb dX0_draw_20 rfl (lv_at hl 0 rfl) ?_
  refine xg0_16 (i := 0) hC hI (xst hI (Nat.le_of_ble_eq_true rfl) sl_0) q488 (fun _ h => h) dX0_draw_21 ?_
  refine lv_ldc2 hx hb hC.1.2.2.2.1 (hC.1.2.2.2.2 _ q1617) dX0_draw_24 ?_
  refine lv_ldiv hx hb dX0_draw_27 (by decide) ?_
  refine lv_iload_n hx hb dX0_draw_28 rfl (lv_at hl 1 rfl) ?_
  refine lv_i2l hx hb dX0_draw_29 rfl ?_
  refine lv_lrem hx hb dX0_draw_30 hT.1 ?_
  replace hT := hT.2
  refine lv_l2i hx hb dX0_draw_31 rfl ?_
  exact hret _ _ _ _ _ _ _ _ hT hI hB dX0_draw_32
set_option maxHeartbeats 4000000 in
set_option maxRecDepth 100000 in
theorem um_X0_chance (l : Launch) (D : va_G) (dA : Nat → ClassId) (ad : Nat → Nat) (Hs : Heap) (hA : cAd ad 1296 Hs.size) (σ : CS) (x1 : Int32) (K : Int32 → CS → Prop) (hT : U_X0_chance σ x1 K) : Met l yX0_chance (ws_ yX0_chance cX0_chance 5 (some .int)) ({ frames := 908, cells := 0, slots := 0, locals := 18662 }) (va_Pc [.ref (ad 0), .int x1] (cU D dA ad 1296 Hs σ)) (xQ rvI K (cU D dA ad 1296 Hs) (cA ad)) 0 0 (cA ad) := by
  refine xm_i hA (by decide) rfl (Nat.le_of_ble_eq_true rfl) ?_
  intro p e s m args below meth c Q hC hN hret hI ls hl
  have hx := hC.1.1
  have hb := hC.1.2.1
  have hB : 0 ≤ 0 ∧ 0 ≤ 0 := ⟨Nat.zero_le _, Nat.zero_le _⟩
  have hl : lv_has ls 5 [(0, .ref (ad 0)), (1, .int x1)] := hl
  have w_86 : ∀ (x1 : Int32) (k25 : Int32 → Int32 → CS → Prop), (∀ (x2 : Int32) (x3 : Int32) (σ : CS) (H : Heap) (locs : List Loc) (ls : Array Slot), k25 x2 x3 σ → xI D dA ad 1296 Hs s.heap σ H locs → lv_has ls 5 [(0, .ref (ad 0)), (1, .int x1), (2, .int x2), (3, .int x3)] → W p l e ({ frames := 908, cells := 0, slots := 0, locals := 18662 }) s m args below meth c H locs 0 0 Q (F0 m 25 ls [])) → ∀ (x2 : Int32) (x3 : Int32) (σ : CS) (H : Heap) (locs : List Loc) (ls : Array Slot), U_X0_chance_86 K k25 x1 x2 x3 σ → xI D dA ad 1296 Hs s.heap σ H locs → lv_has ls 5 [(0, .ref (ad 0)), (1, .int x1), (2, .int x2), (3, .int x3)] → W p l e ({ frames := 908, cells := 0, slots := 0, locals := 18662 }) s m args below meth c H locs 0 0 Q (F0 m 86 ls []) := by
    intro x1 k25 hk25 x2 x3 σ H locs ls hT hI hl
    unfold U_X0_chance_86 at hT
    refine lv_iinc (v := x2 + 1) (lv' := [(2, .int (x2 + 1)), (0, .ref (ad 0)), (1, .int x1), (3, .int x3)]) hx hb dX0_chance_86 hl (k := 2) rfl rfl (Nat.le_of_ble_eq_true rfl) rfl (fun ls hl => ?_)
    refine lv_aload_n hx hb dX0_chance_89 rfl (lv_at hl 1 rfl) ?_
    refine xg0_9 (i := 0) hC hI (xst hI (Nat.le_of_ble_eq_true rfl) sl_0) q481 (fun _ h => h) dX0_chance_90 ?_
    refine x_call (x_runV (i := 16) hC hI (xst hI (st_lt (Or.inl rfl : stOK 16) (d := 0) (by decide)) (sls_0 (Or.inl rfl : stOK 16))) rfl (um_X5_passes l D dA ad Hs hC.2.2 σ 16 (Or.inl rfl : stOK 16) _ hT) (lw_V q1490 q1491 q1492 q169 q1493) 0 hdV_X5_passes ⟨rfl, rfl⟩ ⟨Nat.le_of_ble_eq_true rfl, Nat.le_of_ble_eq_true rfl⟩ rfl hl.1 rfl (Nat.le_of_ble_eq_true rfl) hB dX0_chance_93) hI (fun r2 σ1 H locs hT hI => ?_)
    refine W.eq (g2 := F0 m 96 ls [.int r2]) rfl ?_
    refine lv_pop hx hb dX0_chance_96 rfl ?_
    refine lv_iinc (v := x3 + 1) (lv' := [(3, .int (x3 + 1)), (2, .int (x2 + 1)), (0, .ref (ad 0)), (1, .int x1)]) hx hb dX0_chance_97 hl (k := 3) rfl rfl (Nat.le_of_ble_eq_true rfl) rfl (fun ls hl => ?_)
    refine lv_goto (tgt := 25) hx hb dX0_chance_100 (by decide) ?_
    exact hk25 (x2 + 1) (x3 + 1) σ1 _ _ _ hT hI (lv_sub hl [2, 3, 1, 0] rfl)
  have w_25 : ∀ (x1 : Int32) (n : Nat) (x2 : Int32) (x3 : Int32) (σ : CS) (H : Heap) (locs : List Loc) (ls : Array Slot), U_X0_chance_25 K x1 n x2 x3 σ → xI D dA ad 1296 Hs s.heap σ H locs → lv_has ls 5 [(0, .ref (ad 0)), (1, .int x1), (2, .int x2), (3, .int x3)] → W p l e ({ frames := 908, cells := 0, slots := 0, locals := 18662 }) s m args below meth c H locs 0 0 Q (F0 m 25 ls []) := by
    intro x1 n
    induction n with
    | zero => intro x2 x3 σ H locs ls hT; exact hT.elim
    | succ n ih =>
      intro x2 x3 σ H locs ls hT hI hl
      unfold U_X0_chance_25 at hT
      refine lv_iload_n hx hb dX0_chance_25 rfl (lv_at hl 3 rfl) ?_
      refine lv_iload_n hx hb dX0_chance_26 rfl (lv_at hl 1 rfl) ?_
      refine lv_icmp_ge (tgt := 103) hx hb dX0_chance_27 (by decide) (fun hc => ?_) (fun hc => ?_)
      · replace hT := hT.1 hc
        refine lv_iload_n hx hb dX0_chance_103 rfl (lv_at hl 2 rfl) ?_
        exact hret _ _ _ _ _ _ _ _ hT hI hB dX0_chance_104
      · replace hT := hT.2 hc
        refine lv_aload_n hx hb dX0_chance_30 rfl (lv_at hl 0 rfl) ?_
        refine lv_bipush (v := 100) hx hb dX0_chance_31 (by decide) ?_
        refine x_call (x_runV (i := 0) hC hI (xst hI (Nat.le_of_ble_eq_true rfl) sl_0) rfl (um_X0_draw l D dA ad Hs hC.2.2 σ 100 _ hT) (lw_V q1610 q1612 qs59 q158 q1613) 1 hdV_X0_draw ⟨rfl, rfl⟩ ⟨Nat.le_of_ble_eq_true rfl, Nat.le_of_ble_eq_true rfl⟩ rfl hl.1 rfl (Nat.le_of_ble_eq_true rfl) hB dX0_chance_33) hI (fun r4 σ3 H locs hT hI => ?_)
        refine W.eq (g2 := F0 m 36 ls [.int r4]) rfl ?_
        refine lv_aload_n hx hb dX0_chance_36 rfl (lv_at hl 0 rfl) ?_
        refine xg0_0 (i := 0) hC hI (xst hI (Nat.le_of_ble_eq_true rfl) sl_0) q469 (fun _ h => h) dX0_chance_37 ?_
        obtain ⟨q5, hq6, hT⟩ := hT
        refine W.eq (congrArg (fun z => F0 m 40 ls [z, .int r4]) (xrq hq6)) ?_
        obtain ⟨hL, hT⟩ := hT
        refine xgN1_1 (i := q5) hC hI hL q244 (fun _ h => h) dX0_chance_40 ?_
        refine lv_icmp_ge (tgt := 89) hx hb dX0_chance_43 (by decide) (fun hc => ?_) (fun hc => ?_)
        · replace hT := hT.1 hc
          refine lv_aload_n hx hb dX0_chance_89 rfl (lv_at hl 0 rfl) ?_
          refine xg0_9 (i := 0) hC hI (xst hI (Nat.le_of_ble_eq_true rfl) sl_0) q481 (fun _ h => h) dX0_chance_90 ?_
          refine x_call (x_runV (i := 16) hC hI (xst hI (st_lt (Or.inl rfl : stOK 16) (d := 0) (by decide)) (sls_0 (Or.inl rfl : stOK 16))) rfl (um_X5_passes l D dA ad Hs hC.2.2 σ3 16 (Or.inl rfl : stOK 16) _ hT) (lw_V q1490 q1491 q1492 q169 q1493) 0 hdV_X5_passes ⟨rfl, rfl⟩ ⟨Nat.le_of_ble_eq_true rfl, Nat.le_of_ble_eq_true rfl⟩ rfl hl.1 rfl (Nat.le_of_ble_eq_true rfl) hB dX0_chance_93) hI (fun r8 σ7 H locs hT hI => ?_)
          refine W.eq (g2 := F0 m 96 ls [.int r8]) rfl ?_
          refine lv_pop hx hb dX0_chance_96 rfl ?_
          refine lv_iinc (v := x3 + 1) (lv' := [(3, .int (x3 + 1)), (0, .ref (ad 0)), (1, .int x1), (2, .int x2)]) hx hb dX0_chance_97 hl (k := 3) rfl rfl (Nat.le_of_ble_eq_true rfl) rfl (fun ls hl => ?_)
          refine lv_goto (tgt := 25) hx hb dX0_chance_100 (by decide) ?_
          exact ih x2 (x3 + 1) σ7 _ _ _ hT hI (lv_sub hl [1, 2, 3, 0] rfl)
        · replace hT := hT.2 hc
          refine lv_aload_n hx hb dX0_chance_46 rfl (lv_at hl 0 rfl) ?_
          refine x_call (x_runV (i := 0) hC hI (xst hI (Nat.le_of_ble_eq_true rfl) sl_0) rfl (um_X0_things l D dA ad Hs hC.2.2 σ3 _ hT) (lw_V q1249 q1251 qs34 q158 q1252) 0 hdV_X0_things ⟨rfl, rfl⟩ ⟨Nat.le_of_ble_eq_true rfl, Nat.le_of_ble_eq_true rfl⟩ rfl hl.1 rfl (Nat.le_of_ble_eq_true rfl) hB dX0_chance_47) hI (fun r10 σ9 H locs hT hI => ?_)
          refine W.eq (g2 := F0 m 50 ls [.int r10]) rfl ?_
          refine lv_if_le (tgt := 89) hx hb dX0_chance_50 (by decide) (fun hc => ?_) (fun hc => ?_)
          · replace hT := hT.1 hc
            refine lv_aload_n hx hb dX0_chance_89 rfl (lv_at hl 0 rfl) ?_
            refine xg0_9 (i := 0) hC hI (xst hI (Nat.le_of_ble_eq_true rfl) sl_0) q481 (fun _ h => h) dX0_chance_90 ?_
            refine x_call (x_runV (i := 16) hC hI (xst hI (st_lt (Or.inl rfl : stOK 16) (d := 0) (by decide)) (sls_0 (Or.inl rfl : stOK 16))) rfl (um_X5_passes l D dA ad Hs hC.2.2 σ9 16 (Or.inl rfl : stOK 16) _ hT) (lw_V q1490 q1491 q1492 q169 q1493) 0 hdV_X5_passes ⟨rfl, rfl⟩ ⟨Nat.le_of_ble_eq_true rfl, Nat.le_of_ble_eq_true rfl⟩ rfl hl.1 rfl (Nat.le_of_ble_eq_true rfl) hB dX0_chance_93) hI (fun r12 σ11 H locs hT hI => ?_)
            refine W.eq (g2 := F0 m 96 ls [.int r12]) rfl ?_
            refine lv_pop hx hb dX0_chance_96 rfl ?_
            refine lv_iinc (v := x3 + 1) (lv' := [(3, .int (x3 + 1)), (0, .ref (ad 0)), (1, .int x1), (2, .int x2)]) hx hb dX0_chance_97 hl (k := 3) rfl rfl (Nat.le_of_ble_eq_true rfl) rfl (fun ls hl => ?_)
            refine lv_goto (tgt := 25) hx hb dX0_chance_100 (by decide) ?_
            exact ih x2 (x3 + 1) σ11 _ _ _ hT hI (lv_sub hl [1, 2, 3, 0] rfl)
          · replace hT := hT.2 hc
            refine lv_aload_n hx hb dX0_chance_53 rfl (lv_at hl 0 rfl) ?_
            refine lv_aload_n hx hb dX0_chance_54 rfl (lv_at hl 0 rfl) ?_
            refine x_call (x_runV (i := 0) hC hI (xst hI (Nat.le_of_ble_eq_true rfl) sl_0) rfl (um_X0_things l D dA ad Hs hC.2.2 σ9 _ hT) (lw_V q1249 q1251 qs34 q158 q1252) 0 hdV_X0_things ⟨rfl, rfl⟩ ⟨Nat.le_of_ble_eq_true rfl, Nat.le_of_ble_eq_true rfl⟩ rfl hl.1 rfl (Nat.le_of_ble_eq_true rfl) hB dX0_chance_55) hI (fun r14 σ13 H locs hT hI => ?_)
            refine W.eq (g2 := F0 m 58 ls [.int r14, .ref (ad 0)]) rfl ?_
            refine x_call (x_runV (i := 0) hC hI (xst hI (Nat.le_of_ble_eq_true rfl) sl_0) rfl (um_X0_draw l D dA ad Hs hC.2.2 σ13 r14 _ hT) (lw_V q1610 q1612 qs59 q158 q1613) 1 hdV_X0_draw ⟨rfl, rfl⟩ ⟨Nat.le_of_ble_eq_true rfl, Nat.le_of_ble_eq_true rfl⟩ rfl hl.1 rfl (Nat.le_of_ble_eq_true rfl) hB dX0_chance_58) hI (fun r16 σ15 H locs hT hI => ?_)
            refine W.eq (g2 := F0 m 61 ls [.int r16]) rfl ?_
            refine lv_istore (lv' := [(4, .int r16), (0, .ref (ad 0)), (1, .int x1), (2, .int x2), (3, .int x3)]) hx hb dX0_chance_61 hl (Nat.le_of_ble_eq_true rfl) rfl (fun ls hl => ?_)
            refine lv_aload_n hx hb dX0_chance_63 rfl (lv_at hl 1 rfl) ?_
            refine xg0_9 (i := 0) hC hI (xst hI (Nat.le_of_ble_eq_true rfl) sl_0) q481 (fun _ h => h) dX0_chance_64 ?_
            refine xgN5_2 (i := 16) hC hI (xst hI (st_lt (Or.inl rfl : stOK 16) (d := 0) (by decide)) (sls_0 (Or.inl rfl : stOK 16))) q416 (fun _ h => h) dX0_chance_67 ?_
            refine lv_iload hx hb dX0_chance_70 (lv_at hl 0 rfl) ?_
            refine x_iald (i := 17) hC hI (xst hI (st_lt (Or.inl rfl : stOK 16) (d := 1) (by decide)) (sls_1 (Or.inl rfl : stOK 16))) hT dX0_chance_72 (fun hT => ?_)
            refine lv_iconst (v := 1) hx hb dX0_chance_73 (by decide) ?_
            refine lv_icmp_eq (tgt := 86) hx hb dX0_chance_74 (by decide) (fun hc => ?_) (fun hc => ?_)
            · replace hT := hT.1 hc
              exact w_86 x1 (U_X0_chance_25 K x1 n) (ih) x2 x3 σ15 _ _ _ hT hI (lv_sub hl [1, 2, 3, 4] rfl)
            · replace hT := hT.2 hc
              refine lv_aload_n hx hb dX0_chance_77 rfl (lv_at hl 1 rfl) ?_
              refine xg0_9 (i := 0) hC hI (xst hI (Nat.le_of_ble_eq_true rfl) sl_0) q481 (fun _ h => h) dX0_chance_78 ?_
              refine lv_iload hx hb dX0_chance_81 (lv_at hl 0 rfl) ?_
              refine x_call (x_runV (i := 16) hC hI (xst hI (st_lt (Or.inl rfl : stOK 16) (d := 0) (by decide)) (sls_0 (Or.inl rfl : stOK 16))) rfl (um_X5_breaks l D dA ad Hs hC.2.2 σ15 16 r16 (Or.inl rfl : stOK 16) _ hT) (lw_V q1537 q1496 q1497 q169 q1498) 1 hdV_X5_breaks ⟨rfl, rfl⟩ ⟨Nat.le_of_ble_eq_true rfl, Nat.le_of_ble_eq_true rfl⟩ rfl hl.1 rfl (Nat.le_of_ble_eq_true rfl) hB dX0_chance_83) hI (fun _ σ17 H locs hT hI => ?_)
              refine W.eq (g2 := F0 m 86 ls []) rfl ?_
              exact w_86 x1 (U_X0_chance_25 K x1 n) (ih) x2 x3 σ17 _ _ _ hT hI (lv_sub hl [1, 2, 3, 4] rfl)
  unfold U_X0_chance at hT
  refine lv_aload_n hx hb dX0_chance_0 rfl (lv_at hl 0 rfl) ?_
  refine lv_iload_n hx hb dX0_chance_1 rfl (lv_at hl 1 rfl) ?_
  refine lv_iconst (v := 1) hx hb dX0_chance_2 (by decide) ?_
  refine lv_bipush (v := 100) hx hb dX0_chance_3 (by decide) ?_
  refine x_call (x_runV (i := 0) hC hI (xst hI (Nat.le_of_ble_eq_true rfl) sl_0) rfl (um_X0_isAhead l D dA ad Hs hC.2.2 σ x1 1 100 _ hT) (lw_V q1482 q1484 qs48 q158 q1485) 3 hdV_X0_isAhead ⟨rfl, rfl⟩ ⟨Nat.le_of_ble_eq_true rfl, Nat.le_of_ble_eq_true rfl⟩ rfl hl.1 rfl (Nat.le_of_ble_eq_true rfl) hB dX0_chance_5) hI (fun r20 σ19 H locs hT hI => ?_)
  refine W.eq (g2 := F0 m 8 ls [.int r20]) rfl ?_
  refine lv_if_ne (tgt := 17) hx hb dX0_chance_8 (by decide) (fun hc => ?_) (fun hc => ?_)
  · replace hT := hT.1 hc
    refine lv_aload_n hx hb dX0_chance_17 rfl (lv_at hl 0 rfl) ?_
    refine x_call (x_runV (i := 0) hC hI (xst hI (Nat.le_of_ble_eq_true rfl) sl_0) rfl (um_X0_keeps l D dA ad Hs hC.2.2 σ19 _ hT) (lw_V q1590 q1592 qs58 q158 q1593) 0 hdV_X0_keeps ⟨rfl, rfl⟩ ⟨Nat.le_of_ble_eq_true rfl, Nat.le_of_ble_eq_true rfl⟩ rfl hl.1 rfl (Nat.le_of_ble_eq_true rfl) hB dX0_chance_18) hI (fun _ σ21 H locs hT hI => ?_)
    refine W.eq (g2 := F0 m 21 ls []) rfl ?_
    refine lv_iconst (v := 0) hx hb dX0_chance_21 (by decide) ?_
    refine lv_istore_n (lv' := [(2, .int 0), (0, .ref (ad 0)), (1, .int x1)]) hx hb dX0_chance_22 rfl hl (Nat.le_of_ble_eq_true rfl) rfl (fun ls hl => ?_)
    refine lv_iconst (v := 0) hx hb dX0_chance_23 (by decide) ?_
    refine lv_istore_n (lv' := [(3, .int 0), (2, .int 0), (0, .ref (ad 0)), (1, .int x1)]) hx hb dX0_chance_24 rfl hl (Nat.le_of_ble_eq_true rfl) rfl (fun ls hl => ?_)
    obtain ⟨n25, hT⟩ := hT
    exact w_25 x1 n25 0 0 σ21 _ _ _ hT hI (lv_sub hl [2, 3, 1, 0] rfl)
  · replace hT := hT.2 hc
    refine lv_aload_n hx hb dX0_chance_11 rfl (lv_at hl 0 rfl) ?_
    refine lv_iconst (v := 3) hx hb dX0_chance_12 (by decide) ?_
    refine x_call (x_runV (i := 0) hC hI (xst hI (Nat.le_of_ble_eq_true rfl) sl_0) rfl (um_X0_refuses l D dA ad Hs hC.2.2 σ19 3 _ hT) (lw_V q537 q539 qs1 q158 q540) 1 hdV_X0_refuses ⟨rfl, rfl⟩ ⟨Nat.le_of_ble_eq_true rfl, Nat.le_of_ble_eq_true rfl⟩ rfl hl.1 rfl (Nat.le_of_ble_eq_true rfl) hB dX0_chance_13) hI (fun r24 σ23 H locs hT hI => ?_)
    refine W.eq (g2 := F0 m 16 ls [.int r24]) rfl ?_
    exact hret _ _ _ _ _ _ _ _ hT hI hB dX0_chance_16
set_option maxHeartbeats 4000000 in
set_option maxRecDepth 100000 in
theorem um_X0_seed (l : Launch) (D : va_G) (dA : Nat → ClassId) (ad : Nat → Nat) (Hs : Heap) (hA : cAd ad 1296 Hs.size) (σ : CS) (x1 : Int32) (K : Int32 → CS → Prop) (hT : U_X0_seed σ x1 K) : Met l yX0_seed (ws_ yX0_seed cX0_seed 2 (some .boolean)) ({ frames := 2, cells := 0, slots := 0, locals := 33 }) (va_Pc [.ref (ad 0), .int x1] (cU D dA ad 1296 Hs σ)) (xQ rvI K (cU D dA ad 1296 Hs) (cA ad)) 0 0 (cA ad) := by
  refine xm_z hA (by decide) rfl (Nat.le_of_ble_eq_true rfl) ?_
  intro p e s m args below meth c Q hC hN hret hI ls hl
  have hx := hC.1.1
  have hb := hC.1.2.1
  have hB : 0 ≤ 0 ∧ 0 ≤ 0 := ⟨Nat.zero_le _, Nat.zero_le _⟩
  have hl : lv_has ls 2 [(0, .ref (ad 0)), (1, .int x1)] := hl
  unfold U_X0_seed at hT
  refine lv_iload_n hx hb dX0_seed_0 rfl (lv_at hl 1 rfl) ?_
  refine lv_if_ge (tgt := 18) hx hb dX0_seed_1 (by decide) (fun hc => ?_) (fun hc => ?_)
  · replace hT := hT.1 hc
    refine lv_aload_n hx hb dX0_seed_18 rfl (lv_at hl 0 rfl) ?_
    refine lv_iload_n hx hb dX0_seed_19 rfl (lv_at hl 1 rfl) ?_
    refine lv_i2l hx hb dX0_seed_20 rfl ?_
    refine xp0_16 (i := 0) (v := Int32.toInt64 x1) hC hI (Nat.lt_of_lt_of_le (show _ < 1296 from (Nat.le_of_ble_eq_true rfl)) (by decide)) (xst hI (Nat.le_of_ble_eq_true rfl) sl_0) hT q488 (fun _ h => h) dX0_seed_21 (fun σ1 H locs hT hI => ?_)
    refine lv_iconst (v := 1) hx hb dX0_seed_24 (by decide) ?_
    exact hret _ _ _ _ _ _ _ _ rfl hT hI hB dX0_seed_25
  · replace hT := hT.2 hc
    refine lv_aload_n hx hb dX0_seed_4 rfl (lv_at hl 0 rfl) ?_
    refine lv_iconst (v := 5) hx hb dX0_seed_5 (by decide) ?_
    refine x_call (x_runV (i := 0) hC hI (xst hI (Nat.le_of_ble_eq_true rfl) sl_0) rfl (um_X0_refuses l D dA ad Hs hC.2.2 σ 5 _ hT) (lw_V q537 q539 qs1 q158 q540) 1 hdV_X0_refuses ⟨rfl, rfl⟩ ⟨Nat.le_of_ble_eq_true rfl, Nat.le_of_ble_eq_true rfl⟩ rfl hl.1 rfl (Nat.le_of_ble_eq_true rfl) hB dX0_seed_6) hI (fun r3 σ2 H locs hT hI => ?_)
    refine W.eq (g2 := F0 m 9 ls [.int r3]) rfl ?_
    refine lv_if_lt (tgt := 16) hx hb dX0_seed_9 (by decide) (fun hc => ?_) (fun hc => ?_)
    · replace hT := hT.1 hc
      refine lv_iconst (v := 0) hx hb dX0_seed_16 (by decide) ?_
      exact hret _ _ _ _ _ _ _ _ rfl hT hI hB dX0_seed_17
    · replace hT := hT.2 hc
      refine lv_iconst (v := 1) hx hb dX0_seed_12 (by decide) ?_
      refine lv_goto (tgt := 17) hx hb dX0_seed_13 (by decide) ?_
      exact hret _ _ _ _ _ _ _ _ rfl hT hI hB dX0_seed_17
set_option maxHeartbeats 4000000 in
set_option maxRecDepth 100000 in
theorem um_X0_writes (l : Launch) (D : va_G) (dA : Nat → ClassId) (ad : Nat → Nat) (Hs : Heap) (hA : cAd ad 1296 Hs.size) (σ : CS) (x1 : Int32) (K : Unit → CS → Prop) (hT : U_X0_writes σ x1 K) : Met l yX0_writes (ws_ yX0_writes cX0_writes 2 (none)) ({ frames := 1, cells := 0, slots := 0, locals := 12 }) (va_Pc [.ref (ad 0), .int x1] (cU D dA ad 1296 Hs σ)) (xQ rvU K (cU D dA ad 1296 Hs) (cA ad)) 0 0 (cA ad) := by
  refine xm_v hA (by decide) rfl (Nat.le_of_ble_eq_true rfl) ?_
  intro p e s m args below meth c Q hC hN hret hI ls hl
  have hx := hC.1.1
  have hb := hC.1.2.1
  have hB : 0 ≤ 0 ∧ 0 ≤ 0 := ⟨Nat.zero_le _, Nat.zero_le _⟩
  have hl : lv_has ls 2 [(0, .ref (ad 0)), (1, .int x1)] := hl
  unfold U_X0_writes at hT
  refine lv_aload_n hx hb dX0_writes_0 rfl (lv_at hl 0 rfl) ?_
  refine xg0_18 (i := 0) hC hI (xst hI (Nat.le_of_ble_eq_true rfl) sl_0) q490 (fun _ h => h) dX0_writes_1 ?_
  refine lv_aload_n hx hb dX0_writes_4 rfl (lv_at hl 0 rfl) ?_
  refine lv_dup hx hb dX0_writes_5 rfl ?_
  refine xg0_19 (i := 0) hC hI (xst hI (Nat.le_of_ble_eq_true rfl) sl_0) q491 (fun _ h => h) dX0_writes_6 ?_
  refine lv_dup_x1 hx hb dX0_writes_9 rfl rfl ?_
  refine lv_iconst (v := 1) hx hb dX0_writes_10 (by decide) ?_
  refine lv_iadd hx hb dX0_writes_11 ?_
  refine xp0_19 (i := 0) (v := (gI σ 0 19) + 1) hC hI (Nat.lt_of_lt_of_le (show _ < 1296 from (Nat.le_of_ble_eq_true rfl)) (by decide)) (xst hI (Nat.le_of_ble_eq_true rfl) sl_0) hT q491 (fun _ h => h) dX0_writes_12 (fun σ1 H locs hT hI => ?_)
  refine lv_iload_n hx hb dX0_writes_15 rfl (lv_at hl 1 rfl) ?_
  refine lv_i2b hx hb dX0_writes_16 rfl ?_
  refine x_bast (i := 1295) hC hI (Nat.lt_of_lt_of_le (show _ < 1296 from (Nat.le_of_ble_eq_true rfl)) (by decide)) (xst hI (Nat.le_of_ble_eq_true rfl) sl_1295) hT dX0_writes_17 (fun σ2 H locs hT hI => ?_)
  exact hret _ _ _ _ _ _ _ _ hT hI hB dX0_writes_18
set_option maxHeartbeats 4000000 in
set_option maxRecDepth 100000 in
theorem um_X0_image (l : Launch) (D : va_G) (dA : Nat → ClassId) (ad : Nat → Nat) (Hs : Heap) (hA : cAd ad 1296 Hs.size) (σ : CS) (K : Int32 → CS → Prop) (hT : U_X0_image σ K) : Met l yX0_image (ws_ yX0_image cX0_image 2 (some .int)) ({ frames := 3, cells := 0, slots := 0, locals := 52 }) (va_Pc [.ref (ad 0)] (cU D dA ad 1296 Hs σ)) (xQ rvI K (cU D dA ad 1296 Hs) (cA ad)) 0 0 (cA ad) := by
  refine xm_i hA (by decide) rfl (Nat.le_of_ble_eq_true rfl) ?_
  intro p e s m args below meth c Q hC hN hret hI ls hl
  have hx := hC.1.1
  have hb := hC.1.2.1
  have hB : 0 ≤ 0 ∧ 0 ≤ 0 := ⟨Nat.zero_le _, Nat.zero_le _⟩
  have hl : lv_has ls 2 [(0, .ref (ad 0))] := hl
  have w_32 : ∀ (n : Nat) (x1 : Int32) (σ : CS) (H : Heap) (locs : List Loc) (ls : Array Slot), U_X0_image_32 K n x1 σ → xI D dA ad 1296 Hs s.heap σ H locs → lv_has ls 2 [(0, .ref (ad 0)), (1, .int x1)] → W p l e ({ frames := 3, cells := 0, slots := 0, locals := 52 }) s m args below meth c H locs 0 0 Q (F0 m 32 ls []) := by
    intro n
    induction n with
    | zero => intro x1 σ H locs ls hT; exact hT.elim
    | succ n ih =>
      intro x1 σ H locs ls hT hI hl
      unfold U_X0_image_32 at hT
      refine lv_iload_n hx hb dX0_image_32 rfl (lv_at hl 1 rfl) ?_
      refine lv_aload_n hx hb dX0_image_33 rfl (lv_at hl 0 rfl) ?_
      refine x_call (x_runV (i := 0) hC hI (xst hI (Nat.le_of_ble_eq_true rfl) sl_0) rfl (um_X0_things l D dA ad Hs hC.2.2 σ _ hT) (lw_V q1249 q1251 qs34 q158 q1252) 0 hdV_X0_things ⟨rfl, rfl⟩ ⟨Nat.le_of_ble_eq_true rfl, Nat.le_of_ble_eq_true rfl⟩ rfl hl.1 rfl (Nat.le_of_ble_eq_true rfl) hB dX0_image_34) hI (fun r2 σ1 H locs hT hI => ?_)
      refine W.eq (g2 := F0 m 37 ls [.int r2, .int x1]) rfl ?_
      refine lv_icmp_ge (tgt := 119) hx hb dX0_image_37 (by decide) (fun hc => ?_) (fun hc => ?_)
      · replace hT := hT.1 hc
        refine lv_aload_n hx hb dX0_image_119 rfl (lv_at hl 0 rfl) ?_
        refine lv_aload_n hx hb dX0_image_120 rfl (lv_at hl 0 rfl) ?_
        refine xg0_18 (i := 0) hC hI (xst hI (Nat.le_of_ble_eq_true rfl) sl_0) q490 (fun _ h => h) dX0_image_121 ?_
        refine lv_aload_n hx hb dX0_image_124 rfl (lv_at hl 0 rfl) ?_
        refine xg0_19 (i := 0) hC hI (xst hI (Nat.le_of_ble_eq_true rfl) sl_0) q491 (fun _ h => h) dX0_image_125 ?_
        refine x_call (x_runS hC hI (um_X0_check l D dA ad 1296 Hs hC.2.2 σ1 1295 (gI σ1 0 19) _ hT) (lw_S q1675 q1676 q158 q1677) 2 hdS_X0_check ⟨rfl, rfl⟩ ⟨Nat.le_of_ble_eq_true rfl, Nat.le_of_ble_eq_true rfl⟩ rfl hl.1 rfl (Nat.le_of_ble_eq_true rfl) hB dX0_image_128) hI (fun r4 σ3 H locs hT hI => ?_)
        refine W.eq (g2 := F0 m 131 ls [.int r4, .ref (ad 0)]) rfl ?_
        refine x_call (x_runV (i := 0) hC hI (xst hI (Nat.le_of_ble_eq_true rfl) sl_0) rfl (um_X0_writes l D dA ad Hs hC.2.2 σ3 r4 _ hT) (lw_V q1671 q1673 qs60 q158 q1674) 1 hdV_X0_writes ⟨rfl, rfl⟩ ⟨Nat.le_of_ble_eq_true rfl, Nat.le_of_ble_eq_true rfl⟩ rfl hl.1 rfl (Nat.le_of_ble_eq_true rfl) hB dX0_image_131) hI (fun _ σ5 H locs hT hI => ?_)
        refine W.eq (g2 := F0 m 134 ls []) rfl ?_
        refine lv_aload_n hx hb dX0_image_134 rfl (lv_at hl 0 rfl) ?_
        refine xg0_19 (i := 0) hC hI (xst hI (Nat.le_of_ble_eq_true rfl) sl_0) q491 (fun _ h => h) dX0_image_135 ?_
        exact hret _ _ _ _ _ _ _ _ hT hI hB dX0_image_138
      · replace hT := hT.2 hc
        refine lv_aload_n hx hb dX0_image_40 rfl (lv_at hl 0 rfl) ?_
        refine lv_aload_n hx hb dX0_image_41 rfl (lv_at hl 0 rfl) ?_
        refine xg0_9 (i := 0) hC hI (xst hI (Nat.le_of_ble_eq_true rfl) sl_0) q481 (fun _ h => h) dX0_image_42 ?_
        refine xgN5_2 (i := 16) hC hI (xst hI (st_lt (Or.inl rfl : stOK 16) (d := 0) (by decide)) (sls_0 (Or.inl rfl : stOK 16))) q416 (fun _ h => h) dX0_image_45 ?_
        refine lv_iload_n hx hb dX0_image_48 rfl (lv_at hl 1 rfl) ?_
        refine x_iald (i := 17) hC hI (xst hI (st_lt (Or.inl rfl : stOK 16) (d := 1) (by decide)) (sls_1 (Or.inl rfl : stOK 16))) hT dX0_image_49 (fun hT => ?_)
        refine x_call (x_runV (i := 0) hC hI (xst hI (Nat.le_of_ble_eq_true rfl) sl_0) rfl (um_X0_writes l D dA ad Hs hC.2.2 σ1 (gI σ1 17 (Int32.toNatClampNeg x1)) _ hT) (lw_V q1671 q1673 qs60 q158 q1674) 1 hdV_X0_writes ⟨rfl, rfl⟩ ⟨Nat.le_of_ble_eq_true rfl, Nat.le_of_ble_eq_true rfl⟩ rfl hl.1 rfl (Nat.le_of_ble_eq_true rfl) hB dX0_image_50) hI (fun _ σ7 H locs hT hI => ?_)
        refine W.eq (g2 := F0 m 53 ls []) rfl ?_
        refine lv_aload_n hx hb dX0_image_53 rfl (lv_at hl 0 rfl) ?_
        refine lv_aload_n hx hb dX0_image_54 rfl (lv_at hl 0 rfl) ?_
        refine xg0_9 (i := 0) hC hI (xst hI (Nat.le_of_ble_eq_true rfl) sl_0) q481 (fun _ h => h) dX0_image_55 ?_
        refine xgN5_3 (i := 16) hC hI (xst hI (st_lt (Or.inl rfl : stOK 16) (d := 0) (by decide)) (sls_0 (Or.inl rfl : stOK 16))) q418 (fun _ h => h) dX0_image_58 ?_
        refine lv_iload_n hx hb dX0_image_61 rfl (lv_at hl 1 rfl) ?_
        refine x_iald (i := 18) hC hI (xst hI (st_lt (Or.inl rfl : stOK 16) (d := 2) (by decide)) (sls_2 (Or.inl rfl : stOK 16))) hT dX0_image_62 (fun hT => ?_)
        refine x_call (x_runV (i := 0) hC hI (xst hI (Nat.le_of_ble_eq_true rfl) sl_0) rfl (um_X0_writes l D dA ad Hs hC.2.2 σ7 (gI σ7 18 (Int32.toNatClampNeg x1)) _ hT) (lw_V q1671 q1673 qs60 q158 q1674) 1 hdV_X0_writes ⟨rfl, rfl⟩ ⟨Nat.le_of_ble_eq_true rfl, Nat.le_of_ble_eq_true rfl⟩ rfl hl.1 rfl (Nat.le_of_ble_eq_true rfl) hB dX0_image_63) hI (fun _ σ9 H locs hT hI => ?_)
        refine W.eq (g2 := F0 m 66 ls []) rfl ?_
        refine lv_aload_n hx hb dX0_image_66 rfl (lv_at hl 0 rfl) ?_
        refine lv_aload_n hx hb dX0_image_67 rfl (lv_at hl 0 rfl) ?_
        refine xg0_9 (i := 0) hC hI (xst hI (Nat.le_of_ble_eq_true rfl) sl_0) q481 (fun _ h => h) dX0_image_68 ?_
        refine xgN5_4 (i := 16) hC hI (xst hI (st_lt (Or.inl rfl : stOK 16) (d := 0) (by decide)) (sls_0 (Or.inl rfl : stOK 16))) q420 (fun _ h => h) dX0_image_71 ?_
        refine lv_iload_n hx hb dX0_image_74 rfl (lv_at hl 1 rfl) ?_
        refine x_iald (i := 19) hC hI (xst hI (st_lt (Or.inl rfl : stOK 16) (d := 3) (by decide)) (sls_3 (Or.inl rfl : stOK 16))) hT dX0_image_75 (fun hT => ?_)
        refine x_call (x_runV (i := 0) hC hI (xst hI (Nat.le_of_ble_eq_true rfl) sl_0) rfl (um_X0_writes l D dA ad Hs hC.2.2 σ9 (gI σ9 19 (Int32.toNatClampNeg x1)) _ hT) (lw_V q1671 q1673 qs60 q158 q1674) 1 hdV_X0_writes ⟨rfl, rfl⟩ ⟨Nat.le_of_ble_eq_true rfl, Nat.le_of_ble_eq_true rfl⟩ rfl hl.1 rfl (Nat.le_of_ble_eq_true rfl) hB dX0_image_76) hI (fun _ σ11 H locs hT hI => ?_)
        refine W.eq (g2 := F0 m 79 ls []) rfl ?_
        refine lv_aload_n hx hb dX0_image_79 rfl (lv_at hl 0 rfl) ?_
        refine lv_aload_n hx hb dX0_image_80 rfl (lv_at hl 0 rfl) ?_
        refine xg0_9 (i := 0) hC hI (xst hI (Nat.le_of_ble_eq_true rfl) sl_0) q481 (fun _ h => h) dX0_image_81 ?_
        refine xgN5_5 (i := 16) hC hI (xst hI (st_lt (Or.inl rfl : stOK 16) (d := 0) (by decide)) (sls_0 (Or.inl rfl : stOK 16))) q422 (fun _ h => h) dX0_image_84 ?_
        refine lv_iload_n hx hb dX0_image_87 rfl (lv_at hl 1 rfl) ?_
        refine x_iald (i := 20) hC hI (xst hI (st_lt (Or.inl rfl : stOK 16) (d := 4) (by decide)) (sls_4 (Or.inl rfl : stOK 16))) hT dX0_image_88 (fun hT => ?_)
        refine x_call (x_runV (i := 0) hC hI (xst hI (Nat.le_of_ble_eq_true rfl) sl_0) rfl (um_X0_writes l D dA ad Hs hC.2.2 σ11 (gI σ11 20 (Int32.toNatClampNeg x1)) _ hT) (lw_V q1671 q1673 qs60 q158 q1674) 1 hdV_X0_writes ⟨rfl, rfl⟩ ⟨Nat.le_of_ble_eq_true rfl, Nat.le_of_ble_eq_true rfl⟩ rfl hl.1 rfl (Nat.le_of_ble_eq_true rfl) hB dX0_image_89) hI (fun _ σ13 H locs hT hI => ?_)
        refine W.eq (g2 := F0 m 92 ls []) rfl ?_
        refine lv_aload_n hx hb dX0_image_92 rfl (lv_at hl 0 rfl) ?_
        refine lv_aload_n hx hb dX0_image_93 rfl (lv_at hl 0 rfl) ?_
        refine xg0_9 (i := 0) hC hI (xst hI (Nat.le_of_ble_eq_true rfl) sl_0) q481 (fun _ h => h) dX0_image_94 ?_
        refine xgN5_6 (i := 16) hC hI (xst hI (st_lt (Or.inl rfl : stOK 16) (d := 0) (by decide)) (sls_0 (Or.inl rfl : stOK 16))) q424 (fun _ h => h) dX0_image_97 ?_
        refine lv_iload_n hx hb dX0_image_100 rfl (lv_at hl 1 rfl) ?_
        refine x_zald (i := 21) hC hI (xst hI (st_lt (Or.inl rfl : stOK 16) (d := 5) (by decide)) (sls_5 (Or.inl rfl : stOK 16))) hT dX0_image_101 (fun hT => ?_)
        refine lv_if_eq (tgt := 109) hx hb dX0_image_102 (by decide) (fun hc => ?_) (fun hc => ?_)
        · replace hT := hT.1 hc
          refine lv_iconst (v := 0) hx hb dX0_image_109 (by decide) ?_
          refine x_call (x_runV (i := 0) hC hI (xst hI (Nat.le_of_ble_eq_true rfl) sl_0) rfl (um_X0_writes l D dA ad Hs hC.2.2 σ13 0 _ hT) (lw_V q1671 q1673 qs60 q158 q1674) 1 hdV_X0_writes ⟨rfl, rfl⟩ ⟨Nat.le_of_ble_eq_true rfl, Nat.le_of_ble_eq_true rfl⟩ rfl hl.1 rfl (Nat.le_of_ble_eq_true rfl) hB dX0_image_110) hI (fun _ σ15 H locs hT hI => ?_)
          refine W.eq (g2 := F0 m 113 ls []) rfl ?_
          refine lv_iinc (v := x1 + 1) (lv' := [(1, .int (x1 + 1)), (0, .ref (ad 0))]) hx hb dX0_image_113 hl (k := 1) rfl rfl (Nat.le_of_ble_eq_true rfl) rfl (fun ls hl => ?_)
          refine lv_goto (tgt := 32) hx hb dX0_image_116 (by decide) ?_
          exact ih (x1 + 1) σ15 _ _ _ hT hI (lv_sub hl [1, 0] rfl)
        · replace hT := hT.2 hc
          refine lv_iconst (v := 1) hx hb dX0_image_105 (by decide) ?_
          refine lv_goto (tgt := 110) hx hb dX0_image_106 (by decide) ?_
          refine x_call (x_runV (i := 0) hC hI (xst hI (Nat.le_of_ble_eq_true rfl) sl_0) rfl (um_X0_writes l D dA ad Hs hC.2.2 σ13 1 _ hT) (lw_V q1671 q1673 qs60 q158 q1674) 1 hdV_X0_writes ⟨rfl, rfl⟩ ⟨Nat.le_of_ble_eq_true rfl, Nat.le_of_ble_eq_true rfl⟩ rfl hl.1 rfl (Nat.le_of_ble_eq_true rfl) hB dX0_image_110) hI (fun _ σ17 H locs hT hI => ?_)
          refine W.eq (g2 := F0 m 113 ls []) rfl ?_
          refine lv_iinc (v := x1 + 1) (lv' := [(1, .int (x1 + 1)), (0, .ref (ad 0))]) hx hb dX0_image_113 hl (k := 1) rfl rfl (Nat.le_of_ble_eq_true rfl) rfl (fun ls hl => ?_)
          refine lv_goto (tgt := 32) hx hb dX0_image_116 (by decide) ?_
          exact ih (x1 + 1) σ17 _ _ _ hT hI (lv_sub hl [1, 0] rfl)
  unfold U_X0_image at hT
  refine lv_aload_n hx hb dX0_image_0 rfl (lv_at hl 0 rfl) ?_
  refine lv_iconst (v := 0) hx hb dX0_image_1 (by decide) ?_
  refine xp0_19 (i := 0) (v := 0) hC hI (Nat.lt_of_lt_of_le (show _ < 1296 from (Nat.le_of_ble_eq_true rfl)) (by decide)) (xst hI (Nat.le_of_ble_eq_true rfl) sl_0) hT q491 (fun _ h => h) dX0_image_2 (fun σ19 H locs hT hI => ?_)
  refine lv_aload_n hx hb dX0_image_5 rfl (lv_at hl 0 rfl) ?_
  refine lv_aload_n hx hb dX0_image_6 rfl (lv_at hl 0 rfl) ?_
  refine xg0_9 (i := 0) hC hI (xst hI (Nat.le_of_ble_eq_true rfl) sl_0) q481 (fun _ h => h) dX0_image_7 ?_
  refine xgN5_0 (i := 16) hC hI (xst hI (st_lt (Or.inl rfl : stOK 16) (d := 0) (by decide)) (sls_0 (Or.inl rfl : stOK 16))) q412 (fun _ h => h) dX0_image_10 ?_
  refine lv_bipush (v := 8) hx hb dX0_image_13 (by decide) ?_
  refine lv_ishr hx hb dX0_image_15 ?_
  refine x_call (x_runV (i := 0) hC hI (xst hI (Nat.le_of_ble_eq_true rfl) sl_0) rfl (um_X0_writes l D dA ad Hs hC.2.2 σ19 ((gI σ19 16 0) >>> (8 &&& 31)) _ hT) (lw_V q1671 q1673 qs60 q158 q1674) 1 hdV_X0_writes ⟨rfl, rfl⟩ ⟨Nat.le_of_ble_eq_true rfl, Nat.le_of_ble_eq_true rfl⟩ rfl hl.1 rfl (Nat.le_of_ble_eq_true rfl) hB dX0_image_16) hI (fun _ σ20 H locs hT hI => ?_)
  refine W.eq (g2 := F0 m 19 ls []) rfl ?_
  refine lv_aload_n hx hb dX0_image_19 rfl (lv_at hl 0 rfl) ?_
  refine lv_aload_n hx hb dX0_image_20 rfl (lv_at hl 0 rfl) ?_
  refine xg0_9 (i := 0) hC hI (xst hI (Nat.le_of_ble_eq_true rfl) sl_0) q481 (fun _ h => h) dX0_image_21 ?_
  refine xgN5_0 (i := 16) hC hI (xst hI (st_lt (Or.inl rfl : stOK 16) (d := 0) (by decide)) (sls_0 (Or.inl rfl : stOK 16))) q412 (fun _ h => h) dX0_image_24 ?_
  refine x_call (x_runV (i := 0) hC hI (xst hI (Nat.le_of_ble_eq_true rfl) sl_0) rfl (um_X0_writes l D dA ad Hs hC.2.2 σ20 (gI σ20 16 0) _ hT) (lw_V q1671 q1673 qs60 q158 q1674) 1 hdV_X0_writes ⟨rfl, rfl⟩ ⟨Nat.le_of_ble_eq_true rfl, Nat.le_of_ble_eq_true rfl⟩ rfl hl.1 rfl (Nat.le_of_ble_eq_true rfl) hB dX0_image_27) hI (fun _ σ22 H locs hT hI => ?_)
  refine W.eq (g2 := F0 m 30 ls []) rfl ?_
  refine lv_iconst (v := 0) hx hb dX0_image_30 (by decide) ?_
  refine lv_istore_n (lv' := [(1, .int 0), (0, .ref (ad 0))]) hx hb dX0_image_31 rfl hl (Nat.le_of_ble_eq_true rfl) rfl (fun ls hl => ?_)
  obtain ⟨n32, hT⟩ := hT
  exact w_32 n32 0 σ22 _ _ _ hT hI (lv_sub hl [1, 0] rfl)
set_option maxHeartbeats 4000000 in
set_option maxRecDepth 100000 in
theorem um_X0_octet (l : Launch) (D : va_G) (dA : Nat → ClassId) (ad : Nat → Nat) (Hs : Heap) (hA : cAd ad 1296 Hs.size) (σ : CS) (x1 : Int32) (K : Int32 → CS → Prop) (hT : U_X0_octet σ x1 K) : Met l yX0_octet (ws_ yX0_octet cX0_octet 2 (some .int)) ({ frames := 1, cells := 0, slots := 0, locals := 12 }) (va_Pc [.ref (ad 0), .int x1] (cU D dA ad 1296 Hs σ)) (xQ rvI K (cU D dA ad 1296 Hs) (cA ad)) 0 0 (cA ad) := by
  refine xm_i hA (by decide) rfl (Nat.le_of_ble_eq_true rfl) ?_
  intro p e s m args below meth c Q hC hN hret hI ls hl
  have hx := hC.1.1
  have hb := hC.1.2.1
  have hB : 0 ≤ 0 ∧ 0 ≤ 0 := ⟨Nat.zero_le _, Nat.zero_le _⟩
  have hl : lv_has ls 2 [(0, .ref (ad 0)), (1, .int x1)] := hl
  unfold U_X0_octet at hT
  refine lv_iload_n hx hb dX0_octet_0 rfl (lv_at hl 1 rfl) ?_
  refine lv_if_lt (tgt := 12) hx hb dX0_octet_1 (by decide) (fun hc => ?_) (fun hc => ?_)
  · replace hT := hT.1 hc
    refine lv_iconst (v := -1) hx hb dX0_octet_12 (by decide) ?_
    refine lv_goto (tgt := 26) hx hb dX0_octet_13 (by decide) ?_
    exact hret _ _ _ _ _ _ _ _ hT hI hB dX0_octet_26
  · replace hT := hT.2 hc
    refine lv_iload_n hx hb dX0_octet_4 rfl (lv_at hl 1 rfl) ?_
    refine lv_aload_n hx hb dX0_octet_5 rfl (lv_at hl 0 rfl) ?_
    refine xg0_19 (i := 0) hC hI (xst hI (Nat.le_of_ble_eq_true rfl) sl_0) q491 (fun _ h => h) dX0_octet_6 ?_
    refine lv_icmp_lt (tgt := 16) hx hb dX0_octet_9 (by decide) (fun hc => ?_) (fun hc => ?_)
    · replace hT := hT.1 hc
      refine lv_aload_n hx hb dX0_octet_16 rfl (lv_at hl 0 rfl) ?_
      refine xg0_18 (i := 0) hC hI (xst hI (Nat.le_of_ble_eq_true rfl) sl_0) q490 (fun _ h => h) dX0_octet_17 ?_
      refine lv_iload_n hx hb dX0_octet_20 rfl (lv_at hl 1 rfl) ?_
      refine x_bald (i := 1295) hC hI (xst hI (Nat.le_of_ble_eq_true rfl) sl_1295) hT dX0_octet_21 (fun hT => ?_)
      refine lv_sipush (v := 255) hx hb dX0_octet_22 (by decide) ?_
      refine lv_iand hx hb dX0_octet_25 ?_
      exact hret _ _ _ _ _ _ _ _ hT hI hB dX0_octet_26
    · replace hT := hT.2 hc
      refine lv_iconst (v := -1) hx hb dX0_octet_12 (by decide) ?_
      refine lv_goto (tgt := 26) hx hb dX0_octet_13 (by decide) ?_
      exact hret _ _ _ _ _ _ _ _ hT hI hB dX0_octet_26
set_option maxHeartbeats 4000000 in
set_option maxRecDepth 100000 in
theorem um_X0_thingOn (l : Launch) (D : va_G) (dA : Nat → ClassId) (ad : Nat → Nat) (Hs : Heap) (hA : cAd ad 1296 Hs.size) (σ : CS) (x1 : Int32) (x2 : Int32) (K : Int32 → CS → Prop) (hT : U_X0_thingOn σ x1 x2 K) : Met l yX0_thingOn (ws_ yX0_thingOn cX0_thingOn 4 (some .boolean)) ({ frames := 2, cells := 0, slots := 0, locals := 33 }) (va_Pc [.ref (ad 0), .int x1, .int x2] (cU D dA ad 1296 Hs σ)) (xQ rvI K (cU D dA ad 1296 Hs) (cA ad)) 0 0 (cA ad) := by
  refine xm_z hA (by decide) rfl (Nat.le_of_ble_eq_true rfl) ?_
  intro p e s m args below meth c Q hC hN hret hI ls hl
  have hx := hC.1.1
  have hb := hC.1.2.1
  have hB : 0 ≤ 0 ∧ 0 ≤ 0 := ⟨Nat.zero_le _, Nat.zero_le _⟩
  have hl : lv_has ls 4 [(0, .ref (ad 0)), (1, .int x1), (2, .int x2)] := hl
  have w_148 : ∀ (x1 : Int32) (s0 : Int32) (σ : CS) (H : Heap) (locs : List Loc) (ls : Array Slot), U_X0_thingOn_148 K x1 s0 σ → xI D dA ad 1296 Hs s.heap σ H locs → lv_has ls 4 [(0, .ref (ad 0)), (1, .int x1)] → W p l e ({ frames := 2, cells := 0, slots := 0, locals := 33 }) s m args below meth c H locs 0 0 Q (F0 m 148 ls [.int s0]) := by
    intro x1 s0 σ H locs ls hT hI hl
    unfold U_X0_thingOn_148 at hT
    refine lv_istore_n (lv' := [(3, .int s0), (0, .ref (ad 0)), (1, .int x1)]) hx hb dX0_thingOn_148 rfl hl (Nat.le_of_ble_eq_true rfl) rfl (fun ls hl => ?_)
    refine lv_iload_n hx hb dX0_thingOn_149 rfl (lv_at hl 0 rfl) ?_
    refine lv_if_eq (tgt := 182) hx hb dX0_thingOn_150 (by decide) (fun hc => ?_) (fun hc => ?_)
    · replace hT := hT.1 hc
      refine lv_iconst (v := 0) hx hb dX0_thingOn_182 (by decide) ?_
      exact hret _ _ _ _ _ _ _ _ rfl hT hI hB dX0_thingOn_183
    · replace hT := hT.2 hc
      refine lv_aload_n hx hb dX0_thingOn_153 rfl (lv_at hl 1 rfl) ?_
      refine xg0_10 (i := 0) hC hI (xst hI (Nat.le_of_ble_eq_true rfl) sl_0) q482 (fun _ h => h) dX0_thingOn_154 ?_
      refine xgN5_6 (i := 74) hC hI (xst hI (st_lt (Or.inr (Or.inl rfl) : stOK 74) (d := 0) (by decide)) (sls_0 (Or.inr (Or.inl rfl) : stOK 74))) q424 (fun _ h => h) dX0_thingOn_157 ?_
      refine lv_iload_n hx hb dX0_thingOn_160 rfl (lv_at hl 2 rfl) ?_
      refine x_zald (i := 79) hC hI (xst hI (st_lt (Or.inr (Or.inl rfl) : stOK 74) (d := 5) (by decide)) (sls_5 (Or.inr (Or.inl rfl) : stOK 74))) hT dX0_thingOn_161 (fun hT => ?_)
      refine lv_if_eq (tgt := 178) hx hb dX0_thingOn_162 (by decide) (fun hc => ?_) (fun hc => ?_)
      · replace hT := hT.1 hc
        refine lv_iconst (v := 1) hx hb dX0_thingOn_178 (by decide) ?_
        refine lv_goto (tgt := 183) hx hb dX0_thingOn_179 (by decide) ?_
        exact hret _ _ _ _ _ _ _ _ rfl hT hI hB dX0_thingOn_183
      · replace hT := hT.2 hc
        refine lv_aload_n hx hb dX0_thingOn_165 rfl (lv_at hl 1 rfl) ?_
        refine xg0_10 (i := 0) hC hI (xst hI (Nat.le_of_ble_eq_true rfl) sl_0) q482 (fun _ h => h) dX0_thingOn_166 ?_
        refine xgN5_2 (i := 74) hC hI (xst hI (st_lt (Or.inr (Or.inl rfl) : stOK 74) (d := 0) (by decide)) (sls_0 (Or.inr (Or.inl rfl) : stOK 74))) q416 (fun _ h => h) dX0_thingOn_169 ?_
        refine lv_iload_n hx hb dX0_thingOn_172 rfl (lv_at hl 2 rfl) ?_
        refine x_iald (i := 75) hC hI (xst hI (st_lt (Or.inr (Or.inl rfl) : stOK 74) (d := 1) (by decide)) (sls_1 (Or.inr (Or.inl rfl) : stOK 74))) hT dX0_thingOn_173 (fun hT => ?_)
        refine lv_iconst (v := 2) hx hb dX0_thingOn_174 (by decide) ?_
        refine lv_icmp_ne (tgt := 182) hx hb dX0_thingOn_175 (by decide) (fun hc => ?_) (fun hc => ?_)
        · replace hT := hT.1 hc
          refine lv_iconst (v := 0) hx hb dX0_thingOn_182 (by decide) ?_
          exact hret _ _ _ _ _ _ _ _ rfl hT hI hB dX0_thingOn_183
        · replace hT := hT.2 hc
          refine lv_iconst (v := 1) hx hb dX0_thingOn_178 (by decide) ?_
          refine lv_goto (tgt := 183) hx hb dX0_thingOn_179 (by decide) ?_
          exact hret _ _ _ _ _ _ _ _ rfl hT hI hB dX0_thingOn_183
  have w_86 : ∀ (x1 : Int32) (x2 : Int32) (s0 : Int32) (s1 : Int32) (σ : CS) (H : Heap) (locs : List Loc) (ls : Array Slot), U_X0_thingOn_86 K x1 x2 s0 s1 σ → xI D dA ad 1296 Hs s.heap σ H locs → lv_has ls 4 [(0, .ref (ad 0)), (1, .int x1), (2, .int x2)] → W p l e ({ frames := 2, cells := 0, slots := 0, locals := 33 }) s m args below meth c H locs 0 0 Q (F0 m 86 ls [.int s0, .int s1, .ref (ad 79)]) := by
    intro x1 x2 s0 s1 σ H locs ls hT hI hl
    unfold U_X0_thingOn_86 at hT
    refine x_zast (i := 79) hC hI (lt_cb (st_lt (Or.inr (Or.inl rfl) : stOK 74) (d := 5) (by decide))) (xst hI (st_lt (Or.inr (Or.inl rfl) : stOK 74) (d := 5) (by decide)) (sls_5 (Or.inr (Or.inl rfl) : stOK 74))) hT dX0_thingOn_86 (fun σ1 H locs hT hI => ?_)
    refine lv_aload_n hx hb dX0_thingOn_87 rfl (lv_at hl 0 rfl) ?_
    refine lv_iload_n hx hb dX0_thingOn_88 rfl (lv_at hl 2 rfl) ?_
    refine x_call (x_runV (i := 0) hC hI (xst hI (Nat.le_of_ble_eq_true rfl) sl_0) rfl (um_X0_byteAt l D dA ad Hs hC.2.2 σ1 x2 _ hT) (lw_V q1569 q1571 qs56 q158 q1572) 1 hdV_X0_byteAt ⟨rfl, rfl⟩ ⟨Nat.le_of_ble_eq_true rfl, Nat.le_of_ble_eq_true rfl⟩ rfl hl.1 rfl (Nat.le_of_ble_eq_true rfl) hB dX0_thingOn_89) hI (fun r3 σ2 H locs hT hI => ?_)
    refine W.eq (g2 := F0 m 92 ls [.int r3]) rfl ?_
    refine lv_iconst (v := 2) hx hb dX0_thingOn_92 (by decide) ?_
    refine lv_icmp_gt (tgt := 147) hx hb dX0_thingOn_93 (by decide) (fun hc => ?_) (fun hc => ?_)
    · replace hT := hT.1 hc
      refine lv_iconst (v := 0) hx hb dX0_thingOn_147 (by decide) ?_
      exact w_148 x1 0 σ2 _ _ _ hT hI (lv_sub hl [0, 1] rfl)
    · replace hT := hT.2 hc
      refine lv_aload_n hx hb dX0_thingOn_96 rfl (lv_at hl 0 rfl) ?_
      refine lv_iload_n hx hb dX0_thingOn_97 rfl (lv_at hl 2 rfl) ?_
      refine lv_iconst (v := 1) hx hb dX0_thingOn_98 (by decide) ?_
      refine lv_iadd hx hb dX0_thingOn_99 ?_
      refine x_call (x_runV (i := 0) hC hI (xst hI (Nat.le_of_ble_eq_true rfl) sl_0) rfl (um_X0_byteAt l D dA ad Hs hC.2.2 σ2 (x2 + 1) _ hT) (lw_V q1569 q1571 qs56 q158 q1572) 1 hdV_X0_byteAt ⟨rfl, rfl⟩ ⟨Nat.le_of_ble_eq_true rfl, Nat.le_of_ble_eq_true rfl⟩ rfl hl.1 rfl (Nat.le_of_ble_eq_true rfl) hB dX0_thingOn_100) hI (fun r5 σ4 H locs hT hI => ?_)
      refine W.eq (g2 := F0 m 103 ls [.int r5]) rfl ?_
      refine lv_bipush (v := 99) hx hb dX0_thingOn_103 (by decide) ?_
      refine lv_icmp_gt (tgt := 147) hx hb dX0_thingOn_105 (by decide) (fun hc => ?_) (fun hc => ?_)
      · replace hT := hT.1 hc
        refine lv_iconst (v := 0) hx hb dX0_thingOn_147 (by decide) ?_
        exact w_148 x1 0 σ4 _ _ _ hT hI (lv_sub hl [0, 1] rfl)
      · replace hT := hT.2 hc
        refine lv_aload_n hx hb dX0_thingOn_108 rfl (lv_at hl 0 rfl) ?_
        refine lv_iload_n hx hb dX0_thingOn_109 rfl (lv_at hl 2 rfl) ?_
        refine lv_iconst (v := 2) hx hb dX0_thingOn_110 (by decide) ?_
        refine lv_iadd hx hb dX0_thingOn_111 ?_
        refine x_call (x_runV (i := 0) hC hI (xst hI (Nat.le_of_ble_eq_true rfl) sl_0) rfl (um_X0_byteAt l D dA ad Hs hC.2.2 σ4 (x2 + 2) _ hT) (lw_V q1569 q1571 qs56 q158 q1572) 1 hdV_X0_byteAt ⟨rfl, rfl⟩ ⟨Nat.le_of_ble_eq_true rfl, Nat.le_of_ble_eq_true rfl⟩ rfl hl.1 rfl (Nat.le_of_ble_eq_true rfl) hB dX0_thingOn_112) hI (fun r7 σ6 H locs hT hI => ?_)
        refine W.eq (g2 := F0 m 115 ls [.int r7]) rfl ?_
        refine lv_bipush (v := 99) hx hb dX0_thingOn_115 (by decide) ?_
        refine lv_icmp_gt (tgt := 147) hx hb dX0_thingOn_117 (by decide) (fun hc => ?_) (fun hc => ?_)
        · replace hT := hT.1 hc
          refine lv_iconst (v := 0) hx hb dX0_thingOn_147 (by decide) ?_
          exact w_148 x1 0 σ6 _ _ _ hT hI (lv_sub hl [0, 1] rfl)
        · replace hT := hT.2 hc
          refine lv_aload_n hx hb dX0_thingOn_120 rfl (lv_at hl 0 rfl) ?_
          refine lv_iload_n hx hb dX0_thingOn_121 rfl (lv_at hl 2 rfl) ?_
          refine lv_iconst (v := 3) hx hb dX0_thingOn_122 (by decide) ?_
          refine lv_iadd hx hb dX0_thingOn_123 ?_
          refine x_call (x_runV (i := 0) hC hI (xst hI (Nat.le_of_ble_eq_true rfl) sl_0) rfl (um_X0_byteAt l D dA ad Hs hC.2.2 σ6 (x2 + 3) _ hT) (lw_V q1569 q1571 qs56 q158 q1572) 1 hdV_X0_byteAt ⟨rfl, rfl⟩ ⟨Nat.le_of_ble_eq_true rfl, Nat.le_of_ble_eq_true rfl⟩ rfl hl.1 rfl (Nat.le_of_ble_eq_true rfl) hB dX0_thingOn_124) hI (fun r9 σ8 H locs hT hI => ?_)
          refine W.eq (g2 := F0 m 127 ls [.int r9]) rfl ?_
          refine lv_bipush (v := 99) hx hb dX0_thingOn_127 (by decide) ?_
          refine lv_icmp_gt (tgt := 147) hx hb dX0_thingOn_129 (by decide) (fun hc => ?_) (fun hc => ?_)
          · replace hT := hT.1 hc
            refine lv_iconst (v := 0) hx hb dX0_thingOn_147 (by decide) ?_
            exact w_148 x1 0 σ8 _ _ _ hT hI (lv_sub hl [0, 1] rfl)
          · replace hT := hT.2 hc
            refine lv_aload_n hx hb dX0_thingOn_132 rfl (lv_at hl 0 rfl) ?_
            refine lv_iload_n hx hb dX0_thingOn_133 rfl (lv_at hl 2 rfl) ?_
            refine lv_iconst (v := 4) hx hb dX0_thingOn_134 (by decide) ?_
            refine lv_iadd hx hb dX0_thingOn_135 ?_
            refine x_call (x_runV (i := 0) hC hI (xst hI (Nat.le_of_ble_eq_true rfl) sl_0) rfl (um_X0_byteAt l D dA ad Hs hC.2.2 σ8 (x2 + 4) _ hT) (lw_V q1569 q1571 qs56 q158 q1572) 1 hdV_X0_byteAt ⟨rfl, rfl⟩ ⟨Nat.le_of_ble_eq_true rfl, Nat.le_of_ble_eq_true rfl⟩ rfl hl.1 rfl (Nat.le_of_ble_eq_true rfl) hB dX0_thingOn_136) hI (fun r11 σ10 H locs hT hI => ?_)
            refine W.eq (g2 := F0 m 139 ls [.int r11]) rfl ?_
            refine lv_iconst (v := 1) hx hb dX0_thingOn_139 (by decide) ?_
            refine lv_icmp_gt (tgt := 147) hx hb dX0_thingOn_140 (by decide) (fun hc => ?_) (fun hc => ?_)
            · replace hT := hT.1 hc
              refine lv_iconst (v := 0) hx hb dX0_thingOn_147 (by decide) ?_
              exact w_148 x1 0 σ10 _ _ _ hT hI (lv_sub hl [0, 1] rfl)
            · replace hT := hT.2 hc
              refine lv_iconst (v := 1) hx hb dX0_thingOn_143 (by decide) ?_
              refine lv_goto (tgt := 148) hx hb dX0_thingOn_144 (by decide) ?_
              exact w_148 x1 1 σ10 _ _ _ hT hI (lv_sub hl [0, 1] rfl)
  unfold U_X0_thingOn at hT
  refine lv_aload_n hx hb dX0_thingOn_0 rfl (lv_at hl 0 rfl) ?_
  refine xg0_10 (i := 0) hC hI (xst hI (Nat.le_of_ble_eq_true rfl) sl_0) q482 (fun _ h => h) dX0_thingOn_1 ?_
  refine xgN5_2 (i := 74) hC hI (xst hI (st_lt (Or.inr (Or.inl rfl) : stOK 74) (d := 0) (by decide)) (sls_0 (Or.inr (Or.inl rfl) : stOK 74))) q416 (fun _ h => h) dX0_thingOn_4 ?_
  refine lv_iload_n hx hb dX0_thingOn_7 rfl (lv_at hl 1 rfl) ?_
  refine lv_aload_n hx hb dX0_thingOn_8 rfl (lv_at hl 0 rfl) ?_
  refine lv_iload_n hx hb dX0_thingOn_9 rfl (lv_at hl 2 rfl) ?_
  refine x_call (x_runV (i := 0) hC hI (xst hI (Nat.le_of_ble_eq_true rfl) sl_0) rfl (um_X0_byteAt l D dA ad Hs hC.2.2 σ x2 _ hT) (lw_V q1569 q1571 qs56 q158 q1572) 1 hdV_X0_byteAt ⟨rfl, rfl⟩ ⟨Nat.le_of_ble_eq_true rfl, Nat.le_of_ble_eq_true rfl⟩ rfl hl.1 rfl (Nat.le_of_ble_eq_true rfl) hB dX0_thingOn_10) hI (fun r13 σ12 H locs hT hI => ?_)
  refine W.eq (g2 := F0 m 13 ls [.int r13, .int x1, .ref (ad 75)]) rfl ?_
  refine x_iast (i := 75) hC hI (lt_cb (st_lt (Or.inr (Or.inl rfl) : stOK 74) (d := 1) (by decide))) (xst hI (st_lt (Or.inr (Or.inl rfl) : stOK 74) (d := 1) (by decide)) (sls_1 (Or.inr (Or.inl rfl) : stOK 74))) hT dX0_thingOn_13 (fun σ14 H locs hT hI => ?_)
  refine lv_aload_n hx hb dX0_thingOn_14 rfl (lv_at hl 0 rfl) ?_
  refine xg0_10 (i := 0) hC hI (xst hI (Nat.le_of_ble_eq_true rfl) sl_0) q482 (fun _ h => h) dX0_thingOn_15 ?_
  refine xgN5_3 (i := 74) hC hI (xst hI (st_lt (Or.inr (Or.inl rfl) : stOK 74) (d := 0) (by decide)) (sls_0 (Or.inr (Or.inl rfl) : stOK 74))) q418 (fun _ h => h) dX0_thingOn_18 ?_
  refine lv_iload_n hx hb dX0_thingOn_21 rfl (lv_at hl 1 rfl) ?_
  refine lv_aload_n hx hb dX0_thingOn_22 rfl (lv_at hl 0 rfl) ?_
  refine lv_iload_n hx hb dX0_thingOn_23 rfl (lv_at hl 2 rfl) ?_
  refine lv_iconst (v := 1) hx hb dX0_thingOn_24 (by decide) ?_
  refine lv_iadd hx hb dX0_thingOn_25 ?_
  refine x_call (x_runV (i := 0) hC hI (xst hI (Nat.le_of_ble_eq_true rfl) sl_0) rfl (um_X0_byteAt l D dA ad Hs hC.2.2 σ14 (x2 + 1) _ hT) (lw_V q1569 q1571 qs56 q158 q1572) 1 hdV_X0_byteAt ⟨rfl, rfl⟩ ⟨Nat.le_of_ble_eq_true rfl, Nat.le_of_ble_eq_true rfl⟩ rfl hl.1 rfl (Nat.le_of_ble_eq_true rfl) hB dX0_thingOn_26) hI (fun r16 σ15 H locs hT hI => ?_)
  refine W.eq (g2 := F0 m 29 ls [.int r16, .int x1, .ref (ad 76)]) rfl ?_
  refine x_iast (i := 76) hC hI (lt_cb (st_lt (Or.inr (Or.inl rfl) : stOK 74) (d := 2) (by decide))) (xst hI (st_lt (Or.inr (Or.inl rfl) : stOK 74) (d := 2) (by decide)) (sls_2 (Or.inr (Or.inl rfl) : stOK 74))) hT dX0_thingOn_29 (fun σ17 H locs hT hI => ?_)
  refine lv_aload_n hx hb dX0_thingOn_30 rfl (lv_at hl 0 rfl) ?_
  refine xg0_10 (i := 0) hC hI (xst hI (Nat.le_of_ble_eq_true rfl) sl_0) q482 (fun _ h => h) dX0_thingOn_31 ?_
  refine xgN5_4 (i := 74) hC hI (xst hI (st_lt (Or.inr (Or.inl rfl) : stOK 74) (d := 0) (by decide)) (sls_0 (Or.inr (Or.inl rfl) : stOK 74))) q420 (fun _ h => h) dX0_thingOn_34 ?_
  refine lv_iload_n hx hb dX0_thingOn_37 rfl (lv_at hl 1 rfl) ?_
  refine lv_aload_n hx hb dX0_thingOn_38 rfl (lv_at hl 0 rfl) ?_
  refine lv_iload_n hx hb dX0_thingOn_39 rfl (lv_at hl 2 rfl) ?_
  refine lv_iconst (v := 2) hx hb dX0_thingOn_40 (by decide) ?_
  refine lv_iadd hx hb dX0_thingOn_41 ?_
  refine x_call (x_runV (i := 0) hC hI (xst hI (Nat.le_of_ble_eq_true rfl) sl_0) rfl (um_X0_byteAt l D dA ad Hs hC.2.2 σ17 (x2 + 2) _ hT) (lw_V q1569 q1571 qs56 q158 q1572) 1 hdV_X0_byteAt ⟨rfl, rfl⟩ ⟨Nat.le_of_ble_eq_true rfl, Nat.le_of_ble_eq_true rfl⟩ rfl hl.1 rfl (Nat.le_of_ble_eq_true rfl) hB dX0_thingOn_42) hI (fun r19 σ18 H locs hT hI => ?_)
  refine W.eq (g2 := F0 m 45 ls [.int r19, .int x1, .ref (ad 77)]) rfl ?_
  refine x_iast (i := 77) hC hI (lt_cb (st_lt (Or.inr (Or.inl rfl) : stOK 74) (d := 3) (by decide))) (xst hI (st_lt (Or.inr (Or.inl rfl) : stOK 74) (d := 3) (by decide)) (sls_3 (Or.inr (Or.inl rfl) : stOK 74))) hT dX0_thingOn_45 (fun σ20 H locs hT hI => ?_)
  refine lv_aload_n hx hb dX0_thingOn_46 rfl (lv_at hl 0 rfl) ?_
  refine xg0_10 (i := 0) hC hI (xst hI (Nat.le_of_ble_eq_true rfl) sl_0) q482 (fun _ h => h) dX0_thingOn_47 ?_
  refine xgN5_5 (i := 74) hC hI (xst hI (st_lt (Or.inr (Or.inl rfl) : stOK 74) (d := 0) (by decide)) (sls_0 (Or.inr (Or.inl rfl) : stOK 74))) q422 (fun _ h => h) dX0_thingOn_50 ?_
  refine lv_iload_n hx hb dX0_thingOn_53 rfl (lv_at hl 1 rfl) ?_
  refine lv_aload_n hx hb dX0_thingOn_54 rfl (lv_at hl 0 rfl) ?_
  refine lv_iload_n hx hb dX0_thingOn_55 rfl (lv_at hl 2 rfl) ?_
  refine lv_iconst (v := 3) hx hb dX0_thingOn_56 (by decide) ?_
  refine lv_iadd hx hb dX0_thingOn_57 ?_
  refine x_call (x_runV (i := 0) hC hI (xst hI (Nat.le_of_ble_eq_true rfl) sl_0) rfl (um_X0_byteAt l D dA ad Hs hC.2.2 σ20 (x2 + 3) _ hT) (lw_V q1569 q1571 qs56 q158 q1572) 1 hdV_X0_byteAt ⟨rfl, rfl⟩ ⟨Nat.le_of_ble_eq_true rfl, Nat.le_of_ble_eq_true rfl⟩ rfl hl.1 rfl (Nat.le_of_ble_eq_true rfl) hB dX0_thingOn_58) hI (fun r22 σ21 H locs hT hI => ?_)
  refine W.eq (g2 := F0 m 61 ls [.int r22, .int x1, .ref (ad 78)]) rfl ?_
  refine x_iast (i := 78) hC hI (lt_cb (st_lt (Or.inr (Or.inl rfl) : stOK 74) (d := 4) (by decide))) (xst hI (st_lt (Or.inr (Or.inl rfl) : stOK 74) (d := 4) (by decide)) (sls_4 (Or.inr (Or.inl rfl) : stOK 74))) hT dX0_thingOn_61 (fun σ23 H locs hT hI => ?_)
  refine lv_aload_n hx hb dX0_thingOn_62 rfl (lv_at hl 0 rfl) ?_
  refine xg0_10 (i := 0) hC hI (xst hI (Nat.le_of_ble_eq_true rfl) sl_0) q482 (fun _ h => h) dX0_thingOn_63 ?_
  refine xgN5_6 (i := 74) hC hI (xst hI (st_lt (Or.inr (Or.inl rfl) : stOK 74) (d := 0) (by decide)) (sls_0 (Or.inr (Or.inl rfl) : stOK 74))) q424 (fun _ h => h) dX0_thingOn_66 ?_
  refine lv_iload_n hx hb dX0_thingOn_69 rfl (lv_at hl 1 rfl) ?_
  refine lv_aload_n hx hb dX0_thingOn_70 rfl (lv_at hl 0 rfl) ?_
  refine lv_iload_n hx hb dX0_thingOn_71 rfl (lv_at hl 2 rfl) ?_
  refine lv_iconst (v := 4) hx hb dX0_thingOn_72 (by decide) ?_
  refine lv_iadd hx hb dX0_thingOn_73 ?_
  refine x_call (x_runV (i := 0) hC hI (xst hI (Nat.le_of_ble_eq_true rfl) sl_0) rfl (um_X0_byteAt l D dA ad Hs hC.2.2 σ23 (x2 + 4) _ hT) (lw_V q1569 q1571 qs56 q158 q1572) 1 hdV_X0_byteAt ⟨rfl, rfl⟩ ⟨Nat.le_of_ble_eq_true rfl, Nat.le_of_ble_eq_true rfl⟩ rfl hl.1 rfl (Nat.le_of_ble_eq_true rfl) hB dX0_thingOn_74) hI (fun r25 σ24 H locs hT hI => ?_)
  refine W.eq (g2 := F0 m 77 ls [.int r25, .int x1, .ref (ad 79)]) rfl ?_
  refine lv_iconst (v := 1) hx hb dX0_thingOn_77 (by decide) ?_
  refine lv_icmp_ne (tgt := 85) hx hb dX0_thingOn_78 (by decide) (fun hc => ?_) (fun hc => ?_)
  · replace hT := hT.1 hc
    refine lv_iconst (v := 0) hx hb dX0_thingOn_85 (by decide) ?_
    exact w_86 x1 x2 0 x1 σ24 _ _ _ hT hI (lv_sub hl [0, 1, 2] rfl)
  · replace hT := hT.2 hc
    refine lv_iconst (v := 1) hx hb dX0_thingOn_81 (by decide) ?_
    refine lv_goto (tgt := 86) hx hb dX0_thingOn_82 (by decide) ?_
    exact w_86 x1 x2 1 x1 σ24 _ _ _ hT hI (lv_sub hl [0, 1, 2] rfl)
set_option maxHeartbeats 4000000 in
set_option maxRecDepth 100000 in
theorem um_X0_on (l : Launch) (D : va_G) (dA : Nat → ClassId) (ad : Nat → Nat) (Hs : Heap) (hA : cAd ad 1296 Hs.size) (σ : CS) (K : Int32 → CS → Prop) (hT : U_X0_on σ K) : Met l yX0_on (ws_ yX0_on cX0_on 5 (some .boolean)) ({ frames := 3, cells := 0, slots := 0, locals := 56 }) (va_Pc [.ref (ad 0)] (cU D dA ad 1296 Hs σ)) (xQ rvI K (cU D dA ad 1296 Hs) (cA ad)) 0 0 (cA ad) := by
  refine xm_z hA (by decide) rfl (Nat.le_of_ble_eq_true rfl) ?_
  intro p e s m args below meth c Q hC hN hret hI ls hl
  have hx := hC.1.1
  have hb := hC.1.2.1
  have hB : 0 ≤ 0 ∧ 0 ≤ 0 := ⟨Nat.zero_le _, Nat.zero_le _⟩
  have hl : lv_has ls 5 [(0, .ref (ad 0))] := hl
  have w_123 : ∀ (x3 : Int32) (σ : CS) (H : Heap) (locs : List Loc) (ls : Array Slot), U_X0_on_123 K x3 σ → xI D dA ad 1296 Hs s.heap σ H locs → lv_has ls 5 [(0, .ref (ad 0)), (3, .int x3)] → W p l e ({ frames := 3, cells := 0, slots := 0, locals := 56 }) s m args below meth c H locs 0 0 Q (F0 m 123 ls []) := by
    intro x3 σ H locs ls hT hI hl
    unfold U_X0_on_123 at hT
    refine lv_iload_n hx hb dX0_on_123 rfl (lv_at hl 1 rfl) ?_
    refine lv_if_ne (tgt := 141) hx hb dX0_on_124 (by decide) (fun hc => ?_) (fun hc => ?_)
    · replace hT := hT.1 hc
      refine lv_aload_n hx hb dX0_on_141 rfl (lv_at hl 0 rfl) ?_
      refine xg0_9 (i := 0) hC hI (xst hI (Nat.le_of_ble_eq_true rfl) sl_0) q481 (fun _ h => h) dX0_on_142 ?_
      refine lv_aload_n hx hb dX0_on_145 rfl (lv_at hl 0 rfl) ?_
      refine xg0_10 (i := 0) hC hI (xst hI (Nat.le_of_ble_eq_true rfl) sl_0) q482 (fun _ h => h) dX0_on_146 ?_
      refine x_call (x_runV (i := 16) hC hI (xst hI (st_lt (Or.inl rfl : stOK 16) (d := 0) (by decide)) (sls_0 (Or.inl rfl : stOK 16))) rfl (um_X5_copy l D dA ad Hs hC.2.2 σ 16 74 (Or.inl rfl : stOK 16) (Or.inr (Or.inl rfl) : stOK 74) _ hT) (lw_V q1486 q1487 q1488 q169 q1489) 1 hdV_X5_copy ⟨rfl, rfl⟩ ⟨Nat.le_of_ble_eq_true rfl, Nat.le_of_ble_eq_true rfl⟩ rfl hl.1 rfl (Nat.le_of_ble_eq_true rfl) hB dX0_on_149) hI (fun r2 σ1 H locs hT hI => ?_)
      refine W.eq (g2 := F0 m 152 ls [va_rf (rgR ad r2)]) rfl ?_
      refine lv_pop hx hb dX0_on_152 (va_rf_cat _) ?_
      refine lv_aload_n hx hb dX0_on_153 rfl (lv_at hl 0 rfl) ?_
      refine lv_iconst (v := 0) hx hb dX0_on_154 (by decide) ?_
      refine xp0_15 (i := 0) (v := 0) hC hI (Nat.lt_of_lt_of_le (show _ < 1296 from (Nat.le_of_ble_eq_true rfl)) (by decide)) (xst hI (Nat.le_of_ble_eq_true rfl) sl_0) hT q487 (fun _ h => h) dX0_on_155 (fun σ3 H locs hT hI => ?_)
      refine lv_iconst (v := 1) hx hb dX0_on_158 (by decide) ?_
      exact hret _ _ _ _ _ _ _ _ rfl hT hI hB dX0_on_159
    · replace hT := hT.2 hc
      refine lv_aload_n hx hb dX0_on_127 rfl (lv_at hl 0 rfl) ?_
      refine lv_iconst (v := 5) hx hb dX0_on_128 (by decide) ?_
      refine x_call (x_runV (i := 0) hC hI (xst hI (Nat.le_of_ble_eq_true rfl) sl_0) rfl (um_X0_refuses l D dA ad Hs hC.2.2 σ 5 _ hT) (lw_V q537 q539 qs1 q158 q540) 1 hdV_X0_refuses ⟨rfl, rfl⟩ ⟨Nat.le_of_ble_eq_true rfl, Nat.le_of_ble_eq_true rfl⟩ rfl hl.1 rfl (Nat.le_of_ble_eq_true rfl) hB dX0_on_129) hI (fun r5 σ4 H locs hT hI => ?_)
      refine W.eq (g2 := F0 m 132 ls [.int r5]) rfl ?_
      refine lv_if_lt (tgt := 139) hx hb dX0_on_132 (by decide) (fun hc => ?_) (fun hc => ?_)
      · replace hT := hT.1 hc
        refine lv_iconst (v := 0) hx hb dX0_on_139 (by decide) ?_
        exact hret _ _ _ _ _ _ _ _ rfl hT hI hB dX0_on_140
      · replace hT := hT.2 hc
        refine lv_iconst (v := 1) hx hb dX0_on_135 (by decide) ?_
        refine lv_goto (tgt := 140) hx hb dX0_on_136 (by decide) ?_
        exact hret _ _ _ _ _ _ _ _ rfl hT hI hB dX0_on_140
  have w_91 : ∀ (n : Nat) (x3 : Int32) (x4 : Int32) (σ : CS) (H : Heap) (locs : List Loc) (ls : Array Slot), U_X0_on_91 K n x3 x4 σ → xI D dA ad 1296 Hs s.heap σ H locs → lv_has ls 5 [(0, .ref (ad 0)), (3, .int x3), (4, .int x4)] → W p l e ({ frames := 3, cells := 0, slots := 0, locals := 56 }) s m args below meth c H locs 0 0 Q (F0 m 91 ls []) := by
    intro n
    induction n with
    | zero => intro x3 x4 σ H locs ls hT; exact hT.elim
    | succ n ih =>
      intro x3 x4 σ H locs ls hT hI hl
      unfold U_X0_on_91 at hT
      refine lv_iload hx hb dX0_on_91 (lv_at hl 2 rfl) ?_
      refine lv_aload_n hx hb dX0_on_93 rfl (lv_at hl 0 rfl) ?_
      refine x_call (x_runV (i := 0) hC hI (xst hI (Nat.le_of_ble_eq_true rfl) sl_0) rfl (um_X0_things l D dA ad Hs hC.2.2 σ _ hT) (lw_V q1249 q1251 qs34 q158 q1252) 0 hdV_X0_things ⟨rfl, rfl⟩ ⟨Nat.le_of_ble_eq_true rfl, Nat.le_of_ble_eq_true rfl⟩ rfl hl.1 rfl (Nat.le_of_ble_eq_true rfl) hB dX0_on_94) hI (fun r7 σ6 H locs hT hI => ?_)
      refine W.eq (g2 := F0 m 97 ls [.int r7, .int x4]) rfl ?_
      refine lv_icmp_ge (tgt := 123) hx hb dX0_on_97 (by decide) (fun hc => ?_) (fun hc => ?_)
      · replace hT := hT.1 hc
        exact w_123 x3 σ6 _ _ _ hT hI (lv_sub hl [0, 1] rfl)
      · replace hT := hT.2 hc
        refine lv_iload_n hx hb dX0_on_100 rfl (lv_at hl 1 rfl) ?_
        refine lv_if_eq (tgt := 123) hx hb dX0_on_101 (by decide) (fun hc => ?_) (fun hc => ?_)
        · replace hT := hT.1 hc
          exact w_123 x3 σ6 _ _ _ hT hI (lv_sub hl [0, 1] rfl)
        · replace hT := hT.2 hc
          refine lv_aload_n hx hb dX0_on_104 rfl (lv_at hl 0 rfl) ?_
          refine lv_iload hx hb dX0_on_105 (lv_at hl 2 rfl) ?_
          refine lv_iconst (v := 2) hx hb dX0_on_107 (by decide) ?_
          refine lv_iconst (v := 5) hx hb dX0_on_108 (by decide) ?_
          refine lv_iload hx hb dX0_on_109 (lv_at hl 2 rfl) ?_
          refine lv_imul hx hb dX0_on_111 ?_
          refine lv_iadd hx hb dX0_on_112 ?_
          refine x_call (x_runV (i := 0) hC hI (xst hI (Nat.le_of_ble_eq_true rfl) sl_0) rfl (um_X0_thingOn l D dA ad Hs hC.2.2 σ6 x4 (2 + (5 * x4)) _ hT) (lw_V q1686 q1688 qs61 q158 q1689) 2 hdV_X0_thingOn ⟨rfl, rfl⟩ ⟨Nat.le_of_ble_eq_true rfl, Nat.le_of_ble_eq_true rfl⟩ rfl hl.1 rfl (Nat.le_of_ble_eq_true rfl) hB dX0_on_113) hI (fun r9 σ8 H locs hT hI => ?_)
          refine W.eq (g2 := F0 m 116 ls [.int r9]) rfl ?_
          refine lv_istore_n (lv' := [(3, .int r9), (0, .ref (ad 0)), (4, .int x4)]) hx hb dX0_on_116 rfl hl (Nat.le_of_ble_eq_true rfl) rfl (fun ls hl => ?_)
          refine lv_iinc (v := x4 + 1) (lv' := [(4, .int (x4 + 1)), (3, .int r9), (0, .ref (ad 0))]) hx hb dX0_on_117 hl (k := 2) rfl rfl (Nat.le_of_ble_eq_true rfl) rfl (fun ls hl => ?_)
          refine lv_goto (tgt := 91) hx hb dX0_on_120 (by decide) ?_
          exact ih r9 (x4 + 1) σ8 _ _ _ hT hI (lv_sub hl [2, 1, 0] rfl)
  have w_64 : ∀ (x2 : Int32) (s0 : Int32) (σ : CS) (H : Heap) (locs : List Loc) (ls : Array Slot), U_X0_on_64 K x2 s0 σ → xI D dA ad 1296 Hs s.heap σ H locs → lv_has ls 5 [(0, .ref (ad 0)), (2, .int x2)] → W p l e ({ frames := 3, cells := 0, slots := 0, locals := 56 }) s m args below meth c H locs 0 0 Q (F0 m 64 ls [.int s0]) := by
    intro x2 s0 σ H locs ls hT hI hl
    unfold U_X0_on_64 at hT
    refine lv_istore_n (lv' := [(3, .int s0), (0, .ref (ad 0)), (2, .int x2)]) hx hb dX0_on_64 rfl hl (Nat.le_of_ble_eq_true rfl) rfl (fun ls hl => ?_)
    refine lv_aload_n hx hb dX0_on_65 rfl (lv_at hl 1 rfl) ?_
    refine xg0_10 (i := 0) hC hI (xst hI (Nat.le_of_ble_eq_true rfl) sl_0) q482 (fun _ h => h) dX0_on_66 ?_
    refine lv_aload_n hx hb dX0_on_69 rfl (lv_at hl 1 rfl) ?_
    refine xg0_9 (i := 0) hC hI (xst hI (Nat.le_of_ble_eq_true rfl) sl_0) q481 (fun _ h => h) dX0_on_70 ?_
    refine x_call (x_runV (i := 74) hC hI (xst hI (st_lt (Or.inr (Or.inl rfl) : stOK 74) (d := 0) (by decide)) (sls_0 (Or.inr (Or.inl rfl) : stOK 74))) rfl (um_X5_copy l D dA ad Hs hC.2.2 σ 74 16 (Or.inr (Or.inl rfl) : stOK 74) (Or.inl rfl : stOK 16) _ hT) (lw_V q1486 q1487 q1488 q169 q1489) 1 hdV_X5_copy ⟨rfl, rfl⟩ ⟨Nat.le_of_ble_eq_true rfl, Nat.le_of_ble_eq_true rfl⟩ rfl hl.1 rfl (Nat.le_of_ble_eq_true rfl) hB dX0_on_73) hI (fun r11 σ10 H locs hT hI => ?_)
    refine W.eq (g2 := F0 m 76 ls [va_rf (rgR ad r11)]) rfl ?_
    refine lv_iload_n hx hb dX0_on_76 rfl (lv_at hl 2 rfl) ?_
    obtain ⟨q12, hqe_q12, hT_q12⟩ := hT
    have hl_q12 := hl
    subst hqe_q12
    replace hT := hT_q12
    refine W.eq (g2 := F0 m 77 ls [.int x2, .ref (ad q12)]) rfl ?_
    have hl : lv_has ls 5 [(3, .int s0), (0, .ref (ad 0)), (2, .int x2)] := hl_q12
    obtain ⟨hic, hT⟩ := hT
    obtain ⟨hL, hT⟩ := hT
    refine xpN5_0 (i := q12) (v := x2) hC hI hic hL hT q412 (fun _ h => h) dX0_on_77 (fun σ13 H locs hT hI => ?_)
    refine lv_aload_n hx hb dX0_on_80 rfl (lv_at hl 1 rfl) ?_
    refine xg0_10 (i := 0) hC hI (xst hI (Nat.le_of_ble_eq_true rfl) sl_0) q482 (fun _ h => h) dX0_on_81 ?_
    refine lv_iconst (v := 0) hx hb dX0_on_84 (by decide) ?_
    refine xpN5_1 (i := 74) (v := 0) hC hI (lt_cb (st_lt (Or.inr (Or.inl rfl) : stOK 74) (d := 0) (by decide))) (xst hI (st_lt (Or.inr (Or.inl rfl) : stOK 74) (d := 0) (by decide)) (sls_0 (Or.inr (Or.inl rfl) : stOK 74))) hT q414 (fun _ h => h) dX0_on_85 (fun σ14 H locs hT hI => ?_)
    refine lv_iconst (v := 0) hx hb dX0_on_88 (by decide) ?_
    refine lv_istore (lv' := [(4, .int 0), (3, .int s0), (0, .ref (ad 0)), (2, .int x2)]) hx hb dX0_on_89 hl (Nat.le_of_ble_eq_true rfl) rfl (fun ls hl => ?_)
    obtain ⟨n91, hT⟩ := hT
    exact w_91 n91 s0 0 σ14 _ _ _ hT hI (lv_sub hl [2, 1, 0] rfl)
  unfold U_X0_on at hT
  refine lv_aload_n hx hb dX0_on_0 rfl (lv_at hl 0 rfl) ?_
  refine x_call (x_runV (i := 0) hC hI (xst hI (Nat.le_of_ble_eq_true rfl) sl_0) rfl (um_X0_taken l D dA ad Hs hC.2.2 σ _ hT) (lw_V q554 q556 qs3 q158 q557) 0 hdV_X0_taken ⟨rfl, rfl⟩ ⟨Nat.le_of_ble_eq_true rfl, Nat.le_of_ble_eq_true rfl⟩ rfl hl.1 rfl (Nat.le_of_ble_eq_true rfl) hB dX0_on_1) hI (fun r16 σ15 H locs hT hI => ?_)
  refine W.eq (g2 := F0 m 4 ls [.int r16]) rfl ?_
  refine lv_istore_n (lv' := [(1, .int r16), (0, .ref (ad 0))]) hx hb dX0_on_4 rfl hl (Nat.le_of_ble_eq_true rfl) rfl (fun ls hl => ?_)
  refine lv_aload_n hx hb dX0_on_5 rfl (lv_at hl 1 rfl) ?_
  refine lv_iconst (v := 0) hx hb dX0_on_6 (by decide) ?_
  refine x_call (x_runV (i := 0) hC hI (xst hI (Nat.le_of_ble_eq_true rfl) sl_0) rfl (um_X0_byteAt l D dA ad Hs hC.2.2 σ15 0 _ hT) (lw_V q1569 q1571 qs56 q158 q1572) 1 hdV_X0_byteAt ⟨rfl, rfl⟩ ⟨Nat.le_of_ble_eq_true rfl, Nat.le_of_ble_eq_true rfl⟩ rfl hl.1 rfl (Nat.le_of_ble_eq_true rfl) hB dX0_on_7) hI (fun r18 σ17 H locs hT hI => ?_)
  refine W.eq (g2 := F0 m 10 ls [.int r18]) rfl ?_
  refine lv_bipush (v := 8) hx hb dX0_on_10 (by decide) ?_
  refine lv_ishl hx hb dX0_on_12 ?_
  refine lv_aload_n hx hb dX0_on_13 rfl (lv_at hl 1 rfl) ?_
  refine lv_iconst (v := 1) hx hb dX0_on_14 (by decide) ?_
  refine x_call (x_runV (i := 0) hC hI (xst hI (Nat.le_of_ble_eq_true rfl) sl_0) rfl (um_X0_byteAt l D dA ad Hs hC.2.2 σ17 1 _ hT) (lw_V q1569 q1571 qs56 q158 q1572) 1 hdV_X0_byteAt ⟨rfl, rfl⟩ ⟨Nat.le_of_ble_eq_true rfl, Nat.le_of_ble_eq_true rfl⟩ rfl hl.1 rfl (Nat.le_of_ble_eq_true rfl) hB dX0_on_15) hI (fun r20 σ19 H locs hT hI => ?_)
  refine W.eq (g2 := F0 m 18 ls [.int r20, .int (r18 <<< (8 &&& 31))]) rfl ?_
  refine lv_ior hx hb dX0_on_18 ?_
  refine lv_istore_n (lv' := [(2, .int ((r18 <<< (8 &&& 31)) ||| r20)), (1, .int r16), (0, .ref (ad 0))]) hx hb dX0_on_19 rfl hl (Nat.le_of_ble_eq_true rfl) rfl (fun ls hl => ?_)
  refine lv_iload_n hx hb dX0_on_20 rfl (lv_at hl 1 rfl) ?_
  refine lv_iconst (v := 3) hx hb dX0_on_21 (by decide) ?_
  refine lv_iconst (v := 5) hx hb dX0_on_22 (by decide) ?_
  refine lv_aload_n hx hb dX0_on_23 rfl (lv_at hl 2 rfl) ?_
  refine x_call (x_runV (i := 0) hC hI (xst hI (Nat.le_of_ble_eq_true rfl) sl_0) rfl (um_X0_things l D dA ad Hs hC.2.2 σ19 _ hT) (lw_V q1249 q1251 qs34 q158 q1252) 0 hdV_X0_things ⟨rfl, rfl⟩ ⟨Nat.le_of_ble_eq_true rfl, Nat.le_of_ble_eq_true rfl⟩ rfl hl.1 rfl (Nat.le_of_ble_eq_true rfl) hB dX0_on_24) hI (fun r22 σ21 H locs hT hI => ?_)
  refine W.eq (g2 := F0 m 27 ls [.int r22, .int 5, .int 3, .int r16]) rfl ?_
  refine lv_imul hx hb dX0_on_27 ?_
  refine lv_iadd hx hb dX0_on_28 ?_
  refine lv_icmp_ne (tgt := 63) hx hb dX0_on_29 (by decide) (fun hc => ?_) (fun hc => ?_)
  · replace hT := hT.1 hc
    refine lv_iconst (v := 0) hx hb dX0_on_63 (by decide) ?_
    exact w_64 ((r18 <<< (8 &&& 31)) ||| r20) 0 σ21 _ _ _ hT hI (lv_sub hl [2, 0] rfl)
  · replace hT := hT.2 hc
    refine lv_aload_n hx hb dX0_on_32 rfl (lv_at hl 2 rfl) ?_
    refine lv_iload_n hx hb dX0_on_33 rfl (lv_at hl 1 rfl) ?_
    refine lv_iconst (v := 1) hx hb dX0_on_34 (by decide) ?_
    refine lv_isub hx hb dX0_on_35 ?_
    refine x_call (x_runV (i := 0) hC hI (xst hI (Nat.le_of_ble_eq_true rfl) sl_0) rfl (um_X0_byteAt l D dA ad Hs hC.2.2 σ21 (r16 - 1) _ hT) (lw_V q1569 q1571 qs56 q158 q1572) 1 hdV_X0_byteAt ⟨rfl, rfl⟩ ⟨Nat.le_of_ble_eq_true rfl, Nat.le_of_ble_eq_true rfl⟩ rfl hl.1 rfl (Nat.le_of_ble_eq_true rfl) hB dX0_on_36) hI (fun r24 σ23 H locs hT hI => ?_)
    refine W.eq (g2 := F0 m 39 ls [.int r24]) rfl ?_
    refine lv_aload_n hx hb dX0_on_39 rfl (lv_at hl 2 rfl) ?_
    refine xg0_1 (i := 0) hC hI (xst hI (Nat.le_of_ble_eq_true rfl) sl_0) q472 (fun _ h => h) dX0_on_40 ?_
    refine lv_iload_n hx hb dX0_on_43 rfl (lv_at hl 1 rfl) ?_
    refine lv_iconst (v := 1) hx hb dX0_on_44 (by decide) ?_
    refine lv_isub hx hb dX0_on_45 ?_
    refine x_call (x_runS hC hI (um_X0_check l D dA ad 1296 Hs hC.2.2 σ23 8 (r16 - 1) _ hT) (lw_S q1675 q1676 q158 q1677) 2 hdS_X0_check ⟨rfl, rfl⟩ ⟨Nat.le_of_ble_eq_true rfl, Nat.le_of_ble_eq_true rfl⟩ rfl hl.1 rfl (Nat.le_of_ble_eq_true rfl) hB dX0_on_46) hI (fun r26 σ25 H locs hT hI => ?_)
    refine W.eq (g2 := F0 m 49 ls [.int r26, .int r24]) rfl ?_
    refine lv_icmp_ne (tgt := 63) hx hb dX0_on_49 (by decide) (fun hc => ?_) (fun hc => ?_)
    · replace hT := hT.1 hc
      refine lv_iconst (v := 0) hx hb dX0_on_63 (by decide) ?_
      exact w_64 ((r18 <<< (8 &&& 31)) ||| r20) 0 σ25 _ _ _ hT hI (lv_sub hl [2, 0] rfl)
    · replace hT := hT.2 hc
      refine lv_iload_n hx hb dX0_on_52 rfl (lv_at hl 0 rfl) ?_
      refine lv_sipush (v := 999) hx hb dX0_on_53 (by decide) ?_
      refine lv_icmp_gt (tgt := 63) hx hb dX0_on_56 (by decide) (fun hc => ?_) (fun hc => ?_)
      · replace hT := hT.1 hc
        refine lv_iconst (v := 0) hx hb dX0_on_63 (by decide) ?_
        exact w_64 ((r18 <<< (8 &&& 31)) ||| r20) 0 σ25 _ _ _ hT hI (lv_sub hl [2, 0] rfl)
      · replace hT := hT.2 hc
        refine lv_iconst (v := 1) hx hb dX0_on_59 (by decide) ?_
        refine lv_goto (tgt := 64) hx hb dX0_on_60 (by decide) ?_
        exact w_64 ((r18 <<< (8 &&& 31)) ||| r20) 1 σ25 _ _ _ hT hI (lv_sub hl [2, 0] rfl)
set_option maxHeartbeats 4000000 in
set_option maxRecDepth 100000 in
theorem um_X0_status (l : Launch) (D : va_G) (dA : Nat → ClassId) (ad : Nat → Nat) (Hs : Heap) (hA : cAd ad 1296 Hs.size) (σ : CS) (x1 : Int32) (K : Int32 → CS → Prop) (hT : U_X0_status σ x1 K) : Met l yX0_status (ws_ yX0_status cX0_status 2 (some .int)) ({ frames := 2, cells := 0, slots := 0, locals := 34 }) (va_Pc [.ref (ad 0), .int x1] (cU D dA ad 1296 Hs σ)) (xQ rvI K (cU D dA ad 1296 Hs) (cA ad)) 0 0 (cA ad) := by
  refine xm_i hA (by decide) rfl (Nat.le_of_ble_eq_true rfl) ?_
  intro p e s m args below meth c Q hC hN hret hI ls hl
  have hx := hC.1.1
  have hb := hC.1.2.1
  have hB : 0 ≤ 0 ∧ 0 ≤ 0 := ⟨Nat.zero_le _, Nat.zero_le _⟩
  have hl : lv_has ls 2 [(0, .ref (ad 0)), (1, .int x1)] := hl
  unfold U_X0_status at hT
  refine lv_iload_n hx hb dX0_status_0 rfl (lv_at hl 1 rfl) ?_
  refine lv_iconst (v := 0) hx hb dX0_status_1 (by decide) ?_
  refine lv_iconst (v := 5) hx hb dX0_status_2 (by decide) ?_
  refine x_call (x_runS hC hI (um_X0_is l D dA ad 1296 Hs hC.2.2 σ x1 0 5 _ hT) (lw_S q1398 q815 q158 q816) 3 hdS_X0_is ⟨rfl, rfl⟩ ⟨Nat.le_of_ble_eq_true rfl, Nat.le_of_ble_eq_true rfl⟩ rfl hl.1 rfl (Nat.le_of_ble_eq_true rfl) hB dX0_status_3) hI (fun r2 σ1 H locs hT hI => ?_)
  refine W.eq (g2 := F0 m 6 ls [.int r2]) rfl ?_
  refine lv_if_eq (tgt := 18) hx hb dX0_status_6 (by decide) (fun hc => ?_) (fun hc => ?_)
  · replace hT := hT.1 hc
    refine lv_iconst (v := -1) hx hb dX0_status_18 (by decide) ?_
    exact hret _ _ _ _ _ _ _ _ hT hI hB dX0_status_19
  · replace hT := hT.2 hc
    refine lv_aload_n hx hb dX0_status_9 rfl (lv_at hl 0 rfl) ?_
    refine xg0_8 (i := 0) hC hI (xst hI (Nat.le_of_ble_eq_true rfl) sl_0) q480 (fun _ h => h) dX0_status_10 ?_
    refine lv_iload_n hx hb dX0_status_13 rfl (lv_at hl 1 rfl) ?_
    refine x_iald (i := 15) hC hI (xst hI (Nat.le_of_ble_eq_true rfl) sl_15) hT dX0_status_14 (fun hT => ?_)
    refine lv_goto (tgt := 19) hx hb dX0_status_15 (by decide) ?_
    exact hret _ _ _ _ _ _ _ _ hT hI hB dX0_status_19
set_option maxHeartbeats 4000000 in
set_option maxRecDepth 100000 in
theorem um_X22_meets (l : Launch) (D : va_G) (dA : Nat → ClassId) (ad : Nat → Nat) (Hs : Heap) (hA : cAd ad 1296 Hs.size) (σ : CS) (ob : Nat) (x1 : Int32) (x2 : Nat) (hx2 : moOK x2) (K : Unit → CS → Prop) (hT : U_X22_meets σ ob x1 x2 K) : Met l yX22_meets (ws_ yX22_meets cX22_meets 5 (none)) ({ frames := 901, cells := 0, slots := 0, locals := 18527 }) (va_Pc [.ref (ad ob), .int x1, .ref (ad x2)] (cU D dA ad 1296 Hs σ)) (xQ rvU K (cU D dA ad 1296 Hs) (cA ad)) 0 0 (cA ad) := by
  refine xm_v hA (by decide) rfl (Nat.le_of_ble_eq_true rfl) ?_
  intro p e s m args below meth c Q hC hN hret hI ls hl
  have hx := hC.1.1
  have hb := hC.1.2.1
  have hB : 0 ≤ 0 ∧ 0 ≤ 0 := ⟨Nat.zero_le _, Nat.zero_le _⟩
  have hl : lv_has ls 5 [(0, .ref (ad ob)), (1, .int x1), (2, .ref (ad x2))] := hl
  unfold U_X22_meets at hT
  refine lv_aload_n hx hb dX22_meets_0 rfl (lv_at hl 0 rfl) ?_
  obtain ⟨hL, hT⟩ := hT
  refine xg19_0 (i := ob) hC hI hL q1639 (fun _ h => h) dX22_meets_1 ?_
  refine lv_iconst (v := 3) hx hb dX22_meets_4 (by decide) ?_
  refine lv_icmp_ge (tgt := 74) hx hb dX22_meets_5 (by decide) (fun hc => ?_) (fun hc => ?_)
  · replace hT := hT.1 hc
    refine lv_aload_n hx hb dX22_meets_74 rfl (lv_at hl 0 rfl) ?_
    obtain ⟨hL, hT⟩ := hT
    refine xg19_2 (i := ob) hC hI hL q1641 (fun _ h => h) dX22_meets_75 ?_
    refine lv_aload_n hx hb dX22_meets_78 rfl (lv_at hl 2 rfl) ?_
    obtain ⟨q1, hq2, hT⟩ := hT
    refine W.eq (congrArg (fun z => F0 m 79 ls [.ref (ad x2), z]) (xrq hq2)) ?_
    refine xc_at hC hI (ev_V l D dA ad Hs hC.2.2 100) hx2 hT q1661 q1319 ⟨Nat.le_of_ble_eq_true rfl, Nat.le_of_ble_eq_true rfl⟩ hl.1 (Nat.le_of_ble_eq_true rfl) hB dX22_meets_79 (fun r4 σ3 H locs hT hI => ?_)
    refine lv_lstore_n (lv' := [(3, .long r4), (0, .ref (ad ob)), (1, .int x1), (2, .ref (ad x2))]) hx hb dX22_meets_82 rfl hl (Nat.le_of_ble_eq_true rfl) rfl (fun ls hl => ?_)
    refine lv_aload_n hx hb dX22_meets_83 rfl (lv_at hl 1 rfl) ?_
    refine lv_aload_n hx hb dX22_meets_84 rfl (lv_at hl 1 rfl) ?_
    obtain ⟨hL, hT⟩ := hT
    refine xg19_4 (i := ob) hC hI hL q1643 (fun _ h => h) dX22_meets_85 ?_
    refine lv_if_ne (tgt := 95) hx hb dX22_meets_88 (by decide) (fun hc => ?_) (fun hc => ?_)
    · replace hT := hT.1 hc
      refine lv_aload_n hx hb dX22_meets_95 rfl (lv_at hl 1 rfl) ?_
      obtain ⟨hL, hT⟩ := hT
      refine xg19_0 (i := ob) hC hI hL q1639 (fun _ h => h) dX22_meets_96 ?_
      refine lv_iconst (v := 3) hx hb dX22_meets_99 (by decide) ?_
      refine lv_icmp_ne (tgt := 112) hx hb dX22_meets_100 (by decide) (fun hc => ?_) (fun hc => ?_)
      · replace hT := hT.1 hc
        refine lv_aload_n hx hb dX22_meets_112 rfl (lv_at hl 1 rfl) ?_
        obtain ⟨hL, hT⟩ := hT
        refine xg19_0 (i := ob) hC hI hL q1639 (fun _ h => h) dX22_meets_113 ?_
        refine lv_iconst (v := 4) hx hb dX22_meets_116 (by decide) ?_
        refine lv_icmp_ne (tgt := 131) hx hb dX22_meets_117 (by decide) (fun hc => ?_) (fun hc => ?_)
        · replace hT := hT.1 hc
          refine lv_aload_n hx hb dX22_meets_131 rfl (lv_at hl 1 rfl) ?_
          obtain ⟨hL, hT⟩ := hT
          refine xg19_3 (i := ob) hC hI hL q1642 (fun _ h => h) dX22_meets_132 ?_
          refine lv_lload_n hx hb dX22_meets_135 rfl (lv_at hl 0 rfl) ?_
          refine x_call (x_runS hC hI (um_J12_min_2 l D dA ad 1296 Hs hC.2.2 σ3 (gL σ3 ob 3) r4 _ hT) (lw_S q1662 q1329 q179 q1330) 2 hdS_J12_min_2 ⟨rfl, rfl⟩ ⟨Nat.le_of_ble_eq_true rfl, Nat.le_of_ble_eq_true rfl⟩ rfl hl.1 rfl (Nat.le_of_ble_eq_true rfl) hB dX22_meets_136) hI (fun r6 σ5 H locs hT hI => ?_)
          refine W.eq (g2 := F0 m 139 ls [.long r6, .ref (ad ob)]) rfl ?_
          obtain ⟨hic, hT⟩ := hT
          obtain ⟨hL, hT⟩ := hT
          refine xp19_3 (i := ob) (v := r6) hC hI hic hL hT q1642 (fun _ h => h) dX22_meets_139 (fun σ7 H locs hT hI => ?_)
          refine lv_aload_n hx hb dX22_meets_142 rfl (lv_at hl 1 rfl) ?_
          refine lv_iconst (v := 1) hx hb dX22_meets_143 (by decide) ?_
          obtain ⟨hic, hT⟩ := hT
          obtain ⟨hL, hT⟩ := hT
          refine xp19_4 (i := ob) (v := 1) hC hI hic hL ⟨rfl, rfl⟩ hT q1643 (fun _ h => h) dX22_meets_144 (fun σ8 H locs hT hI => ?_)
          exact hret _ _ _ _ _ _ _ _ hT hI hB dX22_meets_147
        · replace hT := hT.2 hc
          refine lv_aload_n hx hb dX22_meets_120 rfl (lv_at hl 1 rfl) ?_
          obtain ⟨hL, hT⟩ := hT
          refine xg19_3 (i := ob) hC hI hL q1642 (fun _ h => h) dX22_meets_121 ?_
          refine lv_lload_n hx hb dX22_meets_124 rfl (lv_at hl 0 rfl) ?_
          refine x_call (x_runS hC hI (um_J12_max_2 l D dA ad 1296 Hs hC.2.2 σ3 (gL σ3 ob 3) r4 _ hT) (lw_S q1660 q1332 q179 q1333) 2 hdS_J12_max_2 ⟨rfl, rfl⟩ ⟨Nat.le_of_ble_eq_true rfl, Nat.le_of_ble_eq_true rfl⟩ rfl hl.1 rfl (Nat.le_of_ble_eq_true rfl) hB dX22_meets_125) hI (fun r10 σ9 H locs hT hI => ?_)
          refine W.eq (g2 := F0 m 128 ls [.long r10, .ref (ad ob)]) rfl ?_
          refine lv_goto (tgt := 139) hx hb dX22_meets_128 (by decide) ?_
          obtain ⟨hic, hT⟩ := hT
          obtain ⟨hL, hT⟩ := hT
          refine xp19_3 (i := ob) (v := r10) hC hI hic hL hT q1642 (fun _ h => h) dX22_meets_139 (fun σ11 H locs hT hI => ?_)
          refine lv_aload_n hx hb dX22_meets_142 rfl (lv_at hl 1 rfl) ?_
          refine lv_iconst (v := 1) hx hb dX22_meets_143 (by decide) ?_
          obtain ⟨hic, hT⟩ := hT
          obtain ⟨hL, hT⟩ := hT
          refine xp19_4 (i := ob) (v := 1) hC hI hic hL ⟨rfl, rfl⟩ hT q1643 (fun _ h => h) dX22_meets_144 (fun σ12 H locs hT hI => ?_)
          exact hret _ _ _ _ _ _ _ _ hT hI hB dX22_meets_147
      · replace hT := hT.2 hc
        refine lv_aload_n hx hb dX22_meets_103 rfl (lv_at hl 1 rfl) ?_
        obtain ⟨hL, hT⟩ := hT
        refine xg19_3 (i := ob) hC hI hL q1642 (fun _ h => h) dX22_meets_104 ?_
        refine lv_lload_n hx hb dX22_meets_107 rfl (lv_at hl 0 rfl) ?_
        refine lv_ladd hx hb dX22_meets_108 ?_
        refine lv_goto (tgt := 139) hx hb dX22_meets_109 (by decide) ?_
        obtain ⟨hic, hT⟩ := hT
        obtain ⟨hL, hT⟩ := hT
        refine xp19_3 (i := ob) (v := (gL σ3 ob 3) + r4) hC hI hic hL hT q1642 (fun _ h => h) dX22_meets_139 (fun σ13 H locs hT hI => ?_)
        refine lv_aload_n hx hb dX22_meets_142 rfl (lv_at hl 1 rfl) ?_
        refine lv_iconst (v := 1) hx hb dX22_meets_143 (by decide) ?_
        obtain ⟨hic, hT⟩ := hT
        obtain ⟨hL, hT⟩ := hT
        refine xp19_4 (i := ob) (v := 1) hC hI hic hL ⟨rfl, rfl⟩ hT q1643 (fun _ h => h) dX22_meets_144 (fun σ14 H locs hT hI => ?_)
        exact hret _ _ _ _ _ _ _ _ hT hI hB dX22_meets_147
    · replace hT := hT.2 hc
      refine lv_lload_n hx hb dX22_meets_91 rfl (lv_at hl 0 rfl) ?_
      refine lv_goto (tgt := 139) hx hb dX22_meets_92 (by decide) ?_
      obtain ⟨hic, hT⟩ := hT
      obtain ⟨hL, hT⟩ := hT
      refine xp19_3 (i := ob) (v := r4) hC hI hic hL hT q1642 (fun _ h => h) dX22_meets_139 (fun σ15 H locs hT hI => ?_)
      refine lv_aload_n hx hb dX22_meets_142 rfl (lv_at hl 1 rfl) ?_
      refine lv_iconst (v := 1) hx hb dX22_meets_143 (by decide) ?_
      obtain ⟨hic, hT⟩ := hT
      obtain ⟨hL, hT⟩ := hT
      refine xp19_4 (i := ob) (v := 1) hC hI hic hL ⟨rfl, rfl⟩ hT q1643 (fun _ h => h) dX22_meets_144 (fun σ16 H locs hT hI => ?_)
      exact hret _ _ _ _ _ _ _ _ hT hI hB dX22_meets_147
  · replace hT := hT.2 hc
    refine lv_aload_n hx hb dX22_meets_8 rfl (lv_at hl 0 rfl) ?_
    obtain ⟨hL, hT⟩ := hT
    refine xg19_1 (i := ob) hC hI hL q1640 (fun _ h => h) dX22_meets_9 ?_
    refine lv_aload_n hx hb dX22_meets_12 rfl (lv_at hl 2 rfl) ?_
    obtain ⟨q17, hq18, hT⟩ := hT
    refine W.eq (congrArg (fun z => F0 m 13 ls [.ref (ad x2), z]) (xrq hq18)) ?_
    refine xc_holds hC hI (ev_T l D dA ad Hs hC.2.2 100) hx2 hT q1659 q1299 ⟨Nat.le_of_ble_eq_true rfl, Nat.le_of_ble_eq_true rfl⟩ hl.1 (Nat.le_of_ble_eq_true rfl) hB dX22_meets_13 (fun r20 σ19 H locs hT hI => ?_)
    refine lv_if_ne (tgt := 20) hx hb dX22_meets_16 (by decide) (fun hc => ?_) (fun hc => ?_)
    · replace hT := hT.1 hc
      refine lv_aload_n hx hb dX22_meets_20 rfl (lv_at hl 0 rfl) ?_
      refine lv_aload_n hx hb dX22_meets_21 rfl (lv_at hl 0 rfl) ?_
      obtain ⟨hL, hT⟩ := hT
      refine xg19_0 (i := ob) hC hI hL q1639 (fun _ h => h) dX22_meets_22 ?_
      refine lv_iconst (v := 2) hx hb dX22_meets_25 (by decide) ?_
      refine lv_icmp_ne (tgt := 42) hx hb dX22_meets_26 (by decide) (fun hc => ?_) (fun hc => ?_)
      · replace hT := hT.1 hc
        refine lv_aload_n hx hb dX22_meets_42 rfl (lv_at hl 0 rfl) ?_
        obtain ⟨hL, hT⟩ := hT
        refine xg19_0 (i := ob) hC hI hL q1639 (fun _ h => h) dX22_meets_43 ?_
        refine lv_if_ne (tgt := 63) hx hb dX22_meets_46 (by decide) (fun hc => ?_) (fun hc => ?_)
        · replace hT := hT.1 hc
          refine lv_iload_n hx hb dX22_meets_63 rfl (lv_at hl 1 rfl) ?_
          refine lv_i2l hx hb dX22_meets_64 rfl ?_
          obtain ⟨hic, hT⟩ := hT
          obtain ⟨hL, hT⟩ := hT
          refine xp19_3 (i := ob) (v := Int32.toInt64 x1) hC hI hic hL hT q1642 (fun _ h => h) dX22_meets_65 (fun σ21 H locs hT hI => ?_)
          refine lv_aload_n hx hb dX22_meets_68 rfl (lv_at hl 0 rfl) ?_
          refine lv_iconst (v := 1) hx hb dX22_meets_69 (by decide) ?_
          obtain ⟨hic, hT⟩ := hT
          obtain ⟨hL, hT⟩ := hT
          refine xp19_4 (i := ob) (v := 1) hC hI hic hL ⟨rfl, rfl⟩ hT q1643 (fun _ h => h) dX22_meets_70 (fun σ22 H locs hT hI => ?_)
          exact hret _ _ _ _ _ _ _ _ hT hI hB dX22_meets_73
        · replace hT := hT.2 hc
          refine lv_aload_n hx hb dX22_meets_49 rfl (lv_at hl 0 rfl) ?_
          obtain ⟨hL, hT⟩ := hT
          refine xg19_4 (i := ob) hC hI hL q1643 (fun _ h => h) dX22_meets_50 ?_
          refine lv_if_eq (tgt := 63) hx hb dX22_meets_53 (by decide) (fun hc => ?_) (fun hc => ?_)
          · replace hT := hT.1 hc
            refine lv_iload_n hx hb dX22_meets_63 rfl (lv_at hl 1 rfl) ?_
            refine lv_i2l hx hb dX22_meets_64 rfl ?_
            obtain ⟨hic, hT⟩ := hT
            obtain ⟨hL, hT⟩ := hT
            refine xp19_3 (i := ob) (v := Int32.toInt64 x1) hC hI hic hL hT q1642 (fun _ h => h) dX22_meets_65 (fun σ23 H locs hT hI => ?_)
            refine lv_aload_n hx hb dX22_meets_68 rfl (lv_at hl 0 rfl) ?_
            refine lv_iconst (v := 1) hx hb dX22_meets_69 (by decide) ?_
            obtain ⟨hic, hT⟩ := hT
            obtain ⟨hL, hT⟩ := hT
            refine xp19_4 (i := ob) (v := 1) hC hI hic hL ⟨rfl, rfl⟩ hT q1643 (fun _ h => h) dX22_meets_70 (fun σ24 H locs hT hI => ?_)
            exact hret _ _ _ _ _ _ _ _ hT hI hB dX22_meets_73
          · replace hT := hT.2 hc
            refine lv_aload_n hx hb dX22_meets_56 rfl (lv_at hl 0 rfl) ?_
            obtain ⟨hL, hT⟩ := hT
            refine xg19_3 (i := ob) hC hI hL q1642 (fun _ h => h) dX22_meets_57 ?_
            refine lv_goto (tgt := 65) hx hb dX22_meets_60 (by decide) ?_
            obtain ⟨hic, hT⟩ := hT
            obtain ⟨hL, hT⟩ := hT
            refine xp19_3 (i := ob) (v := gL σ19 ob 3) hC hI hic hL hT q1642 (fun _ h => h) dX22_meets_65 (fun σ25 H locs hT hI => ?_)
            refine lv_aload_n hx hb dX22_meets_68 rfl (lv_at hl 0 rfl) ?_
            refine lv_iconst (v := 1) hx hb dX22_meets_69 (by decide) ?_
            obtain ⟨hic, hT⟩ := hT
            obtain ⟨hL, hT⟩ := hT
            refine xp19_4 (i := ob) (v := 1) hC hI hic hL ⟨rfl, rfl⟩ hT q1643 (fun _ h => h) dX22_meets_70 (fun σ26 H locs hT hI => ?_)
            exact hret _ _ _ _ _ _ _ _ hT hI hB dX22_meets_73
      · replace hT := hT.2 hc
        refine lv_lconst (v := 0) hx hb dX22_meets_29 (by decide) ?_
        refine lv_aload_n hx hb dX22_meets_30 rfl (lv_at hl 0 rfl) ?_
        obtain ⟨hL, hT⟩ := hT
        refine xg19_3 (i := ob) hC hI hL q1642 (fun _ h => h) dX22_meets_31 ?_
        refine x_call (x_runS hC hI (um_J12_max_2 l D dA ad 1296 Hs hC.2.2 σ19 0 (gL σ19 ob 3) _ hT) (lw_S q1660 q1332 q179 q1333) 2 hdS_J12_max_2 ⟨rfl, rfl⟩ ⟨Nat.le_of_ble_eq_true rfl, Nat.le_of_ble_eq_true rfl⟩ rfl hl.1 rfl (Nat.le_of_ble_eq_true rfl) hB dX22_meets_34) hI (fun r28 σ27 H locs hT hI => ?_)
        refine W.eq (g2 := F0 m 37 ls [.long r28, .ref (ad ob)]) rfl ?_
        refine lv_lconst (v := 1) hx hb dX22_meets_37 (by decide) ?_
        refine lv_ladd hx hb dX22_meets_38 ?_
        refine lv_goto (tgt := 65) hx hb dX22_meets_39 (by decide) ?_
        obtain ⟨hic, hT⟩ := hT
        obtain ⟨hL, hT⟩ := hT
        refine xp19_3 (i := ob) (v := r28 + 1) hC hI hic hL hT q1642 (fun _ h => h) dX22_meets_65 (fun σ29 H locs hT hI => ?_)
        refine lv_aload_n hx hb dX22_meets_68 rfl (lv_at hl 0 rfl) ?_
        refine lv_iconst (v := 1) hx hb dX22_meets_69 (by decide) ?_
        obtain ⟨hic, hT⟩ := hT
        obtain ⟨hL, hT⟩ := hT
        refine xp19_4 (i := ob) (v := 1) hC hI hic hL ⟨rfl, rfl⟩ hT q1643 (fun _ h => h) dX22_meets_70 (fun σ30 H locs hT hI => ?_)
        exact hret _ _ _ _ _ _ _ _ hT hI hB dX22_meets_73
    · replace hT := hT.2 hc
      exact hret _ _ _ _ _ _ _ _ hT hI hB dX22_meets_19
set_option maxHeartbeats 4000000 in
set_option maxRecDepth 100000 in
theorem um_X22_answer (l : Launch) (D : va_G) (dA : Nat → ClassId) (ad : Nat → Nat) (n0 : Nat) (Hs : Heap) (hA : cAd ad n0 Hs.size) (σ : CS) (ob : Nat) (K : Int64 → CS → Prop) (hT : U_X22_answer σ ob K) : Met l yX22_answer (ws_ yX22_answer cX22_answer 1 (some .long)) ({ frames := 1, cells := 0, slots := 0, locals := 12 }) (va_Pc [.ref (ad ob)] (cU D dA ad n0 Hs σ)) (xQ rvL K (cU D dA ad n0 Hs) (cA ad)) 0 0 (cA ad) := by
  refine xm_l hA (by decide) rfl (Nat.le_of_ble_eq_true rfl) ?_
  intro p e s m args below meth c Q hC hN hret hI ls hl
  have hx := hC.1.1
  have hb := hC.1.2.1
  have hB : 0 ≤ 0 ∧ 0 ≤ 0 := ⟨Nat.zero_le _, Nat.zero_le _⟩
  have hl : lv_has ls 1 [(0, .ref (ad ob))] := hl
  unfold U_X22_answer at hT
  refine lv_aload_n hx hb dX22_answer_0 rfl (lv_at hl 0 rfl) ?_
  obtain ⟨hL, hT⟩ := hT
  refine xg19_4 (i := ob) hC hI hL q1643 (fun _ h => h) dX22_answer_1 ?_
  refine lv_if_ne (tgt := 15) hx hb dX22_answer_4 (by decide) (fun hc => ?_) (fun hc => ?_)
  · replace hT := hT.1 hc
    refine lv_aload_n hx hb dX22_answer_15 rfl (lv_at hl 0 rfl) ?_
    obtain ⟨hL, hT⟩ := hT
    refine xg19_3 (i := ob) hC hI hL q1642 (fun _ h => h) dX22_answer_16 ?_
    refine lv_goto (tgt := 23) hx hb dX22_answer_19 (by decide) ?_
    exact hret _ _ _ _ _ _ _ _ hT hI hB dX22_answer_23
  · replace hT := hT.2 hc
    refine lv_aload_n hx hb dX22_answer_7 rfl (lv_at hl 0 rfl) ?_
    obtain ⟨hL, hT⟩ := hT
    refine xg19_0 (i := ob) hC hI hL q1639 (fun _ h => h) dX22_answer_8 ?_
    refine lv_iconst (v := 2) hx hb dX22_answer_11 (by decide) ?_
    refine lv_icmp_ge (tgt := 22) hx hb dX22_answer_12 (by decide) (fun hc => ?_) (fun hc => ?_)
    · replace hT := hT.1 hc
      refine lv_lconst (v := 0) hx hb dX22_answer_22 (by decide) ?_
      exact hret _ _ _ _ _ _ _ _ hT hI hB dX22_answer_23
    · replace hT := hT.2 hc
      refine lv_aload_n hx hb dX22_answer_15 rfl (lv_at hl 0 rfl) ?_
      obtain ⟨hL, hT⟩ := hT
      refine xg19_3 (i := ob) hC hI hL q1642 (fun _ h => h) dX22_answer_16 ?_
      refine lv_goto (tgt := 23) hx hb dX22_answer_19 (by decide) ?_
      exact hret _ _ _ _ _ _ _ _ hT hI hB dX22_answer_23
set_option maxHeartbeats 4000000 in
set_option maxRecDepth 100000 in
theorem um_X5_begins (l : Launch) (D : va_G) (dA : Nat → ClassId) (ad : Nat → Nat) (Hs : Heap) (hA : cAd ad 1296 Hs.size) (σ : CS) (ob : Nat) (hp : stOK ob) (K : Unit → CS → Prop) (hT : U_X5_begins σ ob K) : Met l yX5_begins (ws_ yX5_begins cX5_begins 2 (none)) ({ frames := 1, cells := 0, slots := 0, locals := 12 }) (va_Pc [.ref (ad ob)] (cU D dA ad 1296 Hs σ)) (xQ rvU K (cU D dA ad 1296 Hs) (cA ad)) 0 0 (cA ad) := by
  refine xm_v hA (by decide) rfl (Nat.le_of_ble_eq_true rfl) ?_
  intro p e s m args below meth c Q hC hN hret hI ls hl
  have hx := hC.1.1
  have hb := hC.1.2.1
  have hB : 0 ≤ 0 ∧ 0 ≤ 0 := ⟨Nat.zero_le _, Nat.zero_le _⟩
  have hl : lv_has ls 2 [(0, .ref (ad ob))] := hl
  have w_17 : ∀ (n : Nat) (x1 : Int32) (σ : CS) (H : Heap) (locs : List Loc) (ls : Array Slot), U_X5_begins_17 K ob n x1 σ → xI D dA ad 1296 Hs s.heap σ H locs → lv_has ls 2 [(0, .ref (ad ob)), (1, .int x1)] → W p l e ({ frames := 1, cells := 0, slots := 0, locals := 12 }) s m args below meth c H locs 0 0 Q (F0 m 17 ls []) := by
    intro n
    induction n with
    | zero => intro x1 σ H locs ls hT; exact hT.elim
    | succ n ih =>
      intro x1 σ H locs ls hT hI hl
      unfold U_X5_begins_17 at hT
      refine lv_iload_n hx hb dX5_begins_17 rfl (lv_at hl 1 rfl) ?_
      refine lv_bipush (v := 8) hx hb dX5_begins_18 (by decide) ?_
      refine lv_icmp_ge (tgt := 64) hx hb dX5_begins_20 (by decide) (fun hc => ?_) (fun hc => ?_)
      · replace hT := hT.1 hc
        exact hret _ _ _ _ _ _ _ _ hT hI hB dX5_begins_64
      · replace hT := hT.2 hc
        refine lv_aload_n hx hb dX5_begins_23 rfl (lv_at hl 0 rfl) ?_
        refine xg5_2 (i := ob) hC hI (xst hI (st_lt hp (d := 0) (by decide)) (sls_0 hp)) q415 (fun _ h => h) dX5_begins_24 ?_
        refine lv_iload_n hx hb dX5_begins_27 rfl (lv_at hl 1 rfl) ?_
        refine lv_iconst (v := 0) hx hb dX5_begins_28 (by decide) ?_
        refine x_iast (i := ob + 1) hC hI (lt_cb (st_lt hp (d := 1) (by decide))) (xst hI (st_lt hp (d := 1) (by decide)) (sls_1 hp)) hT dX5_begins_29 (fun σ1 H locs hT hI => ?_)
        refine lv_aload_n hx hb dX5_begins_30 rfl (lv_at hl 0 rfl) ?_
        refine xg5_3 (i := ob) hC hI (xst hI (st_lt hp (d := 0) (by decide)) (sls_0 hp)) q417 (fun _ h => h) dX5_begins_31 ?_
        refine lv_iload_n hx hb dX5_begins_34 rfl (lv_at hl 1 rfl) ?_
        refine lv_iconst (v := 0) hx hb dX5_begins_35 (by decide) ?_
        refine x_iast (i := ob + 2) hC hI (lt_cb (st_lt hp (d := 2) (by decide))) (xst hI (st_lt hp (d := 2) (by decide)) (sls_2 hp)) hT dX5_begins_36 (fun σ2 H locs hT hI => ?_)
        refine lv_aload_n hx hb dX5_begins_37 rfl (lv_at hl 0 rfl) ?_
        refine xg5_4 (i := ob) hC hI (xst hI (st_lt hp (d := 0) (by decide)) (sls_0 hp)) q419 (fun _ h => h) dX5_begins_38 ?_
        refine lv_iload_n hx hb dX5_begins_41 rfl (lv_at hl 1 rfl) ?_
        refine lv_iconst (v := 0) hx hb dX5_begins_42 (by decide) ?_
        refine x_iast (i := ob + 3) hC hI (lt_cb (st_lt hp (d := 3) (by decide))) (xst hI (st_lt hp (d := 3) (by decide)) (sls_3 hp)) hT dX5_begins_43 (fun σ3 H locs hT hI => ?_)
        refine lv_aload_n hx hb dX5_begins_44 rfl (lv_at hl 0 rfl) ?_
        refine xg5_5 (i := ob) hC hI (xst hI (st_lt hp (d := 0) (by decide)) (sls_0 hp)) q421 (fun _ h => h) dX5_begins_45 ?_
        refine lv_iload_n hx hb dX5_begins_48 rfl (lv_at hl 1 rfl) ?_
        refine lv_iconst (v := 0) hx hb dX5_begins_49 (by decide) ?_
        refine x_iast (i := ob + 4) hC hI (lt_cb (st_lt hp (d := 4) (by decide))) (xst hI (st_lt hp (d := 4) (by decide)) (sls_4 hp)) hT dX5_begins_50 (fun σ4 H locs hT hI => ?_)
        refine lv_aload_n hx hb dX5_begins_51 rfl (lv_at hl 0 rfl) ?_
        refine xg5_6 (i := ob) hC hI (xst hI (st_lt hp (d := 0) (by decide)) (sls_0 hp)) q423 (fun _ h => h) dX5_begins_52 ?_
        refine lv_iload_n hx hb dX5_begins_55 rfl (lv_at hl 1 rfl) ?_
        refine lv_iconst (v := 0) hx hb dX5_begins_56 (by decide) ?_
        refine x_zast (i := ob + 5) hC hI (lt_cb (st_lt hp (d := 5) (by decide))) (xst hI (st_lt hp (d := 5) (by decide)) (sls_5 hp)) hT dX5_begins_57 (fun σ5 H locs hT hI => ?_)
        refine lv_iinc (v := x1 + 1) (lv' := [(1, .int (x1 + 1)), (0, .ref (ad ob))]) hx hb dX5_begins_58 hl (k := 1) rfl rfl (Nat.le_of_ble_eq_true rfl) rfl (fun ls hl => ?_)
        refine lv_goto (tgt := 17) hx hb dX5_begins_61 (by decide) ?_
        exact ih (x1 + 1) σ5 _ _ _ hT hI (lv_sub hl [1, 0] rfl)
  unfold U_X5_begins at hT
  refine lv_aload_n hx hb dX5_begins_0 rfl (lv_at hl 0 rfl) ?_
  refine lv_iconst (v := 0) hx hb dX5_begins_1 (by decide) ?_
  refine xp5_0 (i := ob) (v := 0) hC hI (lt_cb (st_lt hp (d := 0) (by decide))) (xst hI (st_lt hp (d := 0) (by decide)) (sls_0 hp)) hT q411 (fun _ h => h) dX5_begins_2 (fun σ6 H locs hT hI => ?_)
  refine lv_aload_n hx hb dX5_begins_5 rfl (lv_at hl 0 rfl) ?_
  refine lv_iconst (v := 0) hx hb dX5_begins_6 (by decide) ?_
  refine xp5_1 (i := ob) (v := 0) hC hI (lt_cb (st_lt hp (d := 0) (by decide))) (xst hI (st_lt hp (d := 0) (by decide)) (sls_0 hp)) hT q413 (fun _ h => h) dX5_begins_7 (fun σ7 H locs hT hI => ?_)
  refine lv_aload_n hx hb dX5_begins_10 rfl (lv_at hl 0 rfl) ?_
  refine lv_iconst (v := -1) hx hb dX5_begins_11 (by decide) ?_
  refine xp5_9 (i := ob) (v := -1) hC hI (lt_cb (st_lt hp (d := 0) (by decide))) (xst hI (st_lt hp (d := 0) (by decide)) (sls_0 hp)) hT q429 (fun _ h => h) dX5_begins_12 (fun σ8 H locs hT hI => ?_)
  refine lv_iconst (v := 0) hx hb dX5_begins_15 (by decide) ?_
  refine lv_istore_n (lv' := [(1, .int 0), (0, .ref (ad ob))]) hx hb dX5_begins_16 rfl hl (Nat.le_of_ble_eq_true rfl) rfl (fun ls hl => ?_)
  obtain ⟨n17, hT⟩ := hT
  exact w_17 n17 0 σ8 _ _ _ hT hI (lv_sub hl [1, 0] rfl)
