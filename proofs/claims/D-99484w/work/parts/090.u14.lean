def U_X6_init_1736 (mc ms : Nat) (K : Unit → CS → Prop) (ob : Nat) (cx : Nat) (zx : Nat) (σ : CS) : Prop := K () σ
def U_X6_init_1701 (mc ms : Nat) (K : Unit → CS → Prop) (ob : Nat) (cx : Nat) (zx : Nat) (σ : CS) : Prop := ¬ (1700 : Int32) < 0 ∧ ((Int32.toNatClampNeg 1700) ≤ 1000000 ∧ ((cx + 1 ≤ mc ∧ zx + (Int32.toNatClampNeg 1700) ≤ ms) ∧ (σ.1 < CB ∧ (∀ σ1 : CS, σ1 = nC σ (.inr (0, (Int32.toNatClampNeg 1700))) → (ob < CB ∧ (gK σ1 ob = some kO6c ∧ (∀ σ2 : CS, σ2 = wR σ1 ob 91 ((σ.1) + 1) → (¬ (1700 : Int32) < 0 ∧ ((Int32.toNatClampNeg 1700) ≤ 1000000 ∧ ((cx + 1 + 1 ≤ mc ∧ (zx + (Int32.toNatClampNeg 1700)) + (Int32.toNatClampNeg 1700) ≤ ms) ∧ (σ2.1 < CB ∧ (∀ σ3 : CS, σ3 = nC σ2 (.inr (0, (Int32.toNatClampNeg 1700))) → (ob < CB ∧ (gK σ3 ob = some kO6c ∧ (∀ σ4 : CS, σ4 = wR σ3 ob 93 ((σ2.1) + 1) → (¬ (1700 : Int32) < 0 ∧ ((Int32.toNatClampNeg 1700) ≤ 1000000 ∧ ((cx + 1 + 1 + 1 ≤ mc ∧ ((zx + (Int32.toNatClampNeg 1700)) + (Int32.toNatClampNeg 1700)) + (Int32.toNatClampNeg 1700) ≤ ms) ∧ (σ4.1 < CB ∧ (∀ σ5 : CS, σ5 = nC σ4 (.inr (4, (Int32.toNatClampNeg 1700))) → (ob < CB ∧ (gK σ5 ob = some kO6c ∧ (∀ σ6 : CS, σ6 = wR σ5 ob 97 ((σ4.1) + 1) → (¬ (43 : Int32) < 0 ∧ ((Int32.toNatClampNeg 43) ≤ 1000000 ∧ ((cx + 1 + 1 + 1 + 1 ≤ mc ∧ (((zx + (Int32.toNatClampNeg 1700)) + (Int32.toNatClampNeg 1700)) + (Int32.toNatClampNeg 1700)) + (Int32.toNatClampNeg 43) ≤ ms) ∧ (σ6.1 < CB ∧ (∀ σ7 : CS, σ7 = nC σ6 (.inr (0, (Int32.toNatClampNeg 43))) → (ob < CB ∧ (gK σ7 ob = some kO6c ∧ (∀ σ8 : CS, σ8 = wR σ7 ob 101 ((σ6.1) + 1) → (U_X6_init_1736 mc ms K ob (cx + 1 + 1 + 1 + 1) ((((zx + (Int32.toNatClampNeg 1700)) + (Int32.toNatClampNeg 1700)) + (Int32.toNatClampNeg 1700)) + (Int32.toNatClampNeg 43)) σ8))))))))))))))))))))))))))))))))
def U_X6_init_1576 (mc ms : Nat) (K : Unit → CS → Prop) (ob : Nat) (cx : Nat) (zx : Nat) (σ : CS) : Prop := ¬ (5 : Int32) < 0 ∧ ((Int32.toNatClampNeg 5) ≤ 1000000 ∧ ((cx + 1 ≤ mc ∧ zx + (Int32.toNatClampNeg 5) ≤ ms) ∧ (σ.1 < CB ∧ (∀ σ9 : CS, σ9 = nC σ (.inr (3, (Int32.toNatClampNeg 5))) → ((σ.1) < CB ∧ (gK σ9 (σ.1) = some (.inr (3, gN σ9 (σ.1))) ∧ (vp_in 0 (gN σ9 (σ.1)) ∧ (∀ σ10 : CS, σ10 = wI σ9 (σ.1) (Int32.toNatClampNeg 0) (vp_nar .char 115) → ((σ.1) < CB ∧ (gK σ10 (σ.1) = some (.inr (3, gN σ10 (σ.1))) ∧ (vp_in 1 (gN σ10 (σ.1)) ∧ (∀ σ11 : CS, σ11 = wI σ10 (σ.1) (Int32.toNatClampNeg 1) (vp_nar .char 107) → ((σ.1) < CB ∧ (gK σ11 (σ.1) = some (.inr (3, gN σ11 (σ.1))) ∧ (vp_in 2 (gN σ11 (σ.1)) ∧ (∀ σ12 : CS, σ12 = wI σ11 (σ.1) (Int32.toNatClampNeg 2) (vp_nar .char 105) → ((σ.1) < CB ∧ (gK σ12 (σ.1) = some (.inr (3, gN σ12 (σ.1))) ∧ (vp_in 3 (gN σ12 (σ.1)) ∧ (∀ σ13 : CS, σ13 = wI σ12 (σ.1) (Int32.toNatClampNeg 3) (vp_nar .char 108) → ((σ.1) < CB ∧ (gK σ13 (σ.1) = some (.inr (3, gN σ13 (σ.1))) ∧ (vp_in 4 (gN σ13 (σ.1)) ∧ (∀ σ14 : CS, σ14 = wI σ13 (σ.1) (Int32.toNatClampNeg 4) (vp_nar .char 108) → (ob < CB ∧ (gK σ14 ob = some kO6c ∧ (∀ σ15 : CS, σ15 = wR σ14 ob 87 ((σ.1) + 1) → (¬ (6 : Int32) < 0 ∧ ((Int32.toNatClampNeg 6) ≤ 1000000 ∧ ((cx + 1 + 1 ≤ mc ∧ (zx + (Int32.toNatClampNeg 5)) + (Int32.toNatClampNeg 6) ≤ ms) ∧ (σ15.1 < CB ∧ (∀ σ16 : CS, σ16 = nC σ15 (.inr (3, (Int32.toNatClampNeg 6))) → ((σ15.1) < CB ∧ (gK σ16 (σ15.1) = some (.inr (3, gN σ16 (σ15.1))) ∧ (vp_in 0 (gN σ16 (σ15.1)) ∧ (∀ σ17 : CS, σ17 = wI σ16 (σ15.1) (Int32.toNatClampNeg 0) (vp_nar .char 110) → ((σ15.1) < CB ∧ (gK σ17 (σ15.1) = some (.inr (3, gN σ17 (σ15.1))) ∧ (vp_in 1 (gN σ17 (σ15.1)) ∧ (∀ σ18 : CS, σ18 = wI σ17 (σ15.1) (Int32.toNatClampNeg 1) (vp_nar .char 117) → ((σ15.1) < CB ∧ (gK σ18 (σ15.1) = some (.inr (3, gN σ18 (σ15.1))) ∧ (vp_in 2 (gN σ18 (σ15.1)) ∧ (∀ σ19 : CS, σ19 = wI σ18 (σ15.1) (Int32.toNatClampNeg 2) (vp_nar .char 109) → ((σ15.1) < CB ∧ (gK σ19 (σ15.1) = some (.inr (3, gN σ19 (σ15.1))) ∧ (vp_in 3 (gN σ19 (σ15.1)) ∧ (∀ σ20 : CS, σ20 = wI σ19 (σ15.1) (Int32.toNatClampNeg 3) (vp_nar .char 98) → ((σ15.1) < CB ∧ (gK σ20 (σ15.1) = some (.inr (3, gN σ20 (σ15.1))) ∧ (vp_in 4 (gN σ20 (σ15.1)) ∧ (∀ σ21 : CS, σ21 = wI σ20 (σ15.1) (Int32.toNatClampNeg 4) (vp_nar .char 101) → ((σ15.1) < CB ∧ (gK σ21 (σ15.1) = some (.inr (3, gN σ21 (σ15.1))) ∧ (vp_in 5 (gN σ21 (σ15.1)) ∧ (∀ σ22 : CS, σ22 = wI σ21 (σ15.1) (Int32.toNatClampNeg 5) (vp_nar .char 114) → (ob < CB ∧ (gK σ22 ob = some kO6c ∧ (∀ σ23 : CS, σ23 = wR σ22 ob 88 ((σ15.1) + 1) → (¬ (6 : Int32) < 0 ∧ ((Int32.toNatClampNeg 6) ≤ 1000000 ∧ ((cx + 1 + 1 + 1 ≤ mc ∧ ((zx + (Int32.toNatClampNeg 5)) + (Int32.toNatClampNeg 6)) + (Int32.toNatClampNeg 6) ≤ ms) ∧ (σ23.1 < CB ∧ (∀ σ24 : CS, σ24 = nC σ23 (.inr (3, (Int32.toNatClampNeg 6))) → ((σ23.1) < CB ∧ (gK σ24 (σ23.1) = some (.inr (3, gN σ24 (σ23.1))) ∧ (vp_in 0 (gN σ24 (σ23.1)) ∧ (∀ σ25 : CS, σ25 = wI σ24 (σ23.1) (Int32.toNatClampNeg 0) (vp_nar .char 102) → ((σ23.1) < CB ∧ (gK σ25 (σ23.1) = some (.inr (3, gN σ25 (σ23.1))) ∧ (vp_in 1 (gN σ25 (σ23.1)) ∧ (∀ σ26 : CS, σ26 = wI σ25 (σ23.1) (Int32.toNatClampNeg 1) (vp_nar .char 111) → ((σ23.1) < CB ∧ (gK σ26 (σ23.1) = some (.inr (3, gN σ26 (σ23.1))) ∧ (vp_in 2 (gN σ26 (σ23.1)) ∧ (∀ σ27 : CS, σ27 = wI σ26 (σ23.1) (Int32.toNatClampNeg 2) (vp_nar .char 114) → ((σ23.1) < CB ∧ (gK σ27 (σ23.1) = some (.inr (3, gN σ27 (σ23.1))) ∧ (vp_in 3 (gN σ27 (σ23.1)) ∧ (∀ σ28 : CS, σ28 = wI σ27 (σ23.1) (Int32.toNatClampNeg 3) (vp_nar .char 103) → ((σ23.1) < CB ∧ (gK σ28 (σ23.1) = some (.inr (3, gN σ28 (σ23.1))) ∧ (vp_in 4 (gN σ28 (σ23.1)) ∧ (∀ σ29 : CS, σ29 = wI σ28 (σ23.1) (Int32.toNatClampNeg 4) (vp_nar .char 101) → ((σ23.1) < CB ∧ (gK σ29 (σ23.1) = some (.inr (3, gN σ29 (σ23.1))) ∧ (vp_in 5 (gN σ29 (σ23.1)) ∧ (∀ σ30 : CS, σ30 = wI σ29 (σ23.1) (Int32.toNatClampNeg 5) (vp_nar .char 100) → (ob < CB ∧ (gK σ30 ob = some kO6c ∧ (∀ σ31 : CS, σ31 = wR σ30 ob 89 ((σ23.1) + 1) → (¬ (2 : Int32) < 0 ∧ ((Int32.toNatClampNeg 2) ≤ 1000000 ∧ ((cx + 1 + 1 + 1 + 1 ≤ mc ∧ (((zx + (Int32.toNatClampNeg 5)) + (Int32.toNatClampNeg 6)) + (Int32.toNatClampNeg 6)) + (Int32.toNatClampNeg 2) ≤ ms) ∧ (σ31.1 < CB ∧ (∀ σ32 : CS, σ32 = nC σ31 (.inr (3, (Int32.toNatClampNeg 2))) → ((σ31.1) < CB ∧ (gK σ32 (σ31.1) = some (.inr (3, gN σ32 (σ31.1))) ∧ (vp_in 0 (gN σ32 (σ31.1)) ∧ (∀ σ33 : CS, σ33 = wI σ32 (σ31.1) (Int32.toNatClampNeg 0) (vp_nar .char 105) → ((σ31.1) < CB ∧ (gK σ33 (σ31.1) = some (.inr (3, gN σ33 (σ31.1))) ∧ (vp_in 1 (gN σ33 (σ31.1)) ∧ (∀ σ34 : CS, σ34 = wI σ33 (σ31.1) (Int32.toNatClampNeg 1) (vp_nar .char 115) → (ob < CB ∧ (gK σ34 ob = some kO6c ∧ (∀ σ35 : CS, σ35 = wR σ34 ob 90 ((σ31.1) + 1) → (U_X6_init_1701 mc ms K ob (cx + 1 + 1 + 1 + 1) ((((zx + (Int32.toNatClampNeg 5)) + (Int32.toNatClampNeg 6)) + (Int32.toNatClampNeg 6)) + (Int32.toNatClampNeg 2)) σ35))))))))))))))))))))))))))))))))))))))))))))))))))))))))))))))))))))))))))))))))))))))))))))))))))))))))))))
def U_X6_init_1457 (mc ms : Nat) (K : Unit → CS → Prop) (ob : Nat) (cx : Nat) (zx : Nat) (σ : CS) : Prop := ¬ (6 : Int32) < 0 ∧ ((Int32.toNatClampNeg 6) ≤ 1000000 ∧ ((cx + 1 ≤ mc ∧ zx + (Int32.toNatClampNeg 6) ≤ ms) ∧ (σ.1 < CB ∧ (∀ σ36 : CS, σ36 = nC σ (.inr (3, (Int32.toNatClampNeg 6))) → ((σ.1) < CB ∧ (gK σ36 (σ.1) = some (.inr (3, gN σ36 (σ.1))) ∧ (vp_in 0 (gN σ36 (σ.1)) ∧ (∀ σ37 : CS, σ37 = wI σ36 (σ.1) (Int32.toNatClampNeg 0) (vp_nar .char 98) → ((σ.1) < CB ∧ (gK σ37 (σ.1) = some (.inr (3, gN σ37 (σ.1))) ∧ (vp_in 1 (gN σ37 (σ.1)) ∧ (∀ σ38 : CS, σ38 = wI σ37 (σ.1) (Int32.toNatClampNeg 1) (vp_nar .char 114) → ((σ.1) < CB ∧ (gK σ38 (σ.1) = some (.inr (3, gN σ38 (σ.1))) ∧ (vp_in 2 (gN σ38 (σ.1)) ∧ (∀ σ39 : CS, σ39 = wI σ38 (σ.1) (Int32.toNatClampNeg 2) (vp_nar .char 101) → ((σ.1) < CB ∧ (gK σ39 (σ.1) = some (.inr (3, gN σ39 (σ.1))) ∧ (vp_in 3 (gN σ39 (σ.1)) ∧ (∀ σ40 : CS, σ40 = wI σ39 (σ.1) (Int32.toNatClampNeg 3) (vp_nar .char 97) → ((σ.1) < CB ∧ (gK σ40 (σ.1) = some (.inr (3, gN σ40 (σ.1))) ∧ (vp_in 4 (gN σ40 (σ.1)) ∧ (∀ σ41 : CS, σ41 = wI σ40 (σ.1) (Int32.toNatClampNeg 4) (vp_nar .char 107) → ((σ.1) < CB ∧ (gK σ41 (σ.1) = some (.inr (3, gN σ41 (σ.1))) ∧ (vp_in 5 (gN σ41 (σ.1)) ∧ (∀ σ42 : CS, σ42 = wI σ41 (σ.1) (Int32.toNatClampNeg 5) (vp_nar .char 115) → (ob < CB ∧ (gK σ42 ob = some kO6c ∧ (∀ σ43 : CS, σ43 = wR σ42 ob 83 ((σ.1) + 1) → (¬ (5 : Int32) < 0 ∧ ((Int32.toNatClampNeg 5) ≤ 1000000 ∧ ((cx + 1 + 1 ≤ mc ∧ (zx + (Int32.toNatClampNeg 6)) + (Int32.toNatClampNeg 5) ≤ ms) ∧ (σ43.1 < CB ∧ (∀ σ44 : CS, σ44 = nC σ43 (.inr (3, (Int32.toNatClampNeg 5))) → ((σ43.1) < CB ∧ (gK σ44 (σ43.1) = some (.inr (3, gN σ44 (σ43.1))) ∧ (vp_in 0 (gN σ44 (σ43.1)) ∧ (∀ σ45 : CS, σ45 = wI σ44 (σ43.1) (Int32.toNatClampNeg 0) (vp_nar .char 109) → ((σ43.1) < CB ∧ (gK σ45 (σ43.1) = some (.inr (3, gN σ45 (σ43.1))) ∧ (vp_in 1 (gN σ45 (σ43.1)) ∧ (∀ σ46 : CS, σ46 = wI σ45 (σ43.1) (Int32.toNatClampNeg 1) (vp_nar .char 101) → ((σ43.1) < CB ∧ (gK σ46 (σ43.1) = some (.inr (3, gN σ46 (σ43.1))) ∧ (vp_in 2 (gN σ46 (σ43.1)) ∧ (∀ σ47 : CS, σ47 = wI σ46 (σ43.1) (Int32.toNatClampNeg 2) (vp_nar .char 110) → ((σ43.1) < CB ∧ (gK σ47 (σ43.1) = some (.inr (3, gN σ47 (σ43.1))) ∧ (vp_in 3 (gN σ47 (σ43.1)) ∧ (∀ σ48 : CS, σ48 = wI σ47 (σ43.1) (Int32.toNatClampNeg 3) (vp_nar .char 100) → ((σ43.1) < CB ∧ (gK σ48 (σ43.1) = some (.inr (3, gN σ48 (σ43.1))) ∧ (vp_in 4 (gN σ48 (σ43.1)) ∧ (∀ σ49 : CS, σ49 = wI σ48 (σ43.1) (Int32.toNatClampNeg 4) (vp_nar .char 115) → (ob < CB ∧ (gK σ49 ob = some kO6c ∧ (∀ σ50 : CS, σ50 = wR σ49 ob 84 ((σ43.1) + 1) → (¬ (3 : Int32) < 0 ∧ ((Int32.toNatClampNeg 3) ≤ 1000000 ∧ ((cx + 1 + 1 + 1 ≤ mc ∧ ((zx + (Int32.toNatClampNeg 6)) + (Int32.toNatClampNeg 5)) + (Int32.toNatClampNeg 3) ≤ ms) ∧ (σ50.1 < CB ∧ (∀ σ51 : CS, σ51 = nC σ50 (.inr (3, (Int32.toNatClampNeg 3))) → ((σ50.1) < CB ∧ (gK σ51 (σ50.1) = some (.inr (3, gN σ51 (σ50.1))) ∧ (vp_in 0 (gN σ51 (σ50.1)) ∧ (∀ σ52 : CS, σ52 = wI σ51 (σ50.1) (Int32.toNatClampNeg 0) (vp_nar .char 100) → ((σ50.1) < CB ∧ (gK σ52 (σ50.1) = some (.inr (3, gN σ52 (σ50.1))) ∧ (vp_in 1 (gN σ52 (σ50.1)) ∧ (∀ σ53 : CS, σ53 = wI σ52 (σ50.1) (Int32.toNatClampNeg 1) (vp_nar .char 97) → ((σ50.1) < CB ∧ (gK σ53 (σ50.1) = some (.inr (3, gN σ53 (σ50.1))) ∧ (vp_in 2 (gN σ53 (σ50.1)) ∧ (∀ σ54 : CS, σ54 = wI σ53 (σ50.1) (Int32.toNatClampNeg 2) (vp_nar .char 121) → (ob < CB ∧ (gK σ54 ob = some kO6c ∧ (∀ σ55 : CS, σ55 = wR σ54 ob 85 ((σ50.1) + 1) → (¬ (4 : Int32) < 0 ∧ ((Int32.toNatClampNeg 4) ≤ 1000000 ∧ ((cx + 1 + 1 + 1 + 1 ≤ mc ∧ (((zx + (Int32.toNatClampNeg 6)) + (Int32.toNatClampNeg 5)) + (Int32.toNatClampNeg 3)) + (Int32.toNatClampNeg 4) ≤ ms) ∧ (σ55.1 < CB ∧ (∀ σ56 : CS, σ56 = nC σ55 (.inr (3, (Int32.toNatClampNeg 4))) → ((σ55.1) < CB ∧ (gK σ56 (σ55.1) = some (.inr (3, gN σ56 (σ55.1))) ∧ (vp_in 0 (gN σ56 (σ55.1)) ∧ (∀ σ57 : CS, σ57 = wI σ56 (σ55.1) (Int32.toNatClampNeg 0) (vp_nar .char 103) → ((σ55.1) < CB ∧ (gK σ57 (σ55.1) = some (.inr (3, gN σ57 (σ55.1))) ∧ (vp_in 1 (gN σ57 (σ55.1)) ∧ (∀ σ58 : CS, σ58 = wI σ57 (σ55.1) (Int32.toNatClampNeg 1) (vp_nar .char 108) → ((σ55.1) < CB ∧ (gK σ58 (σ55.1) = some (.inr (3, gN σ58 (σ55.1))) ∧ (vp_in 2 (gN σ58 (σ55.1)) ∧ (∀ σ59 : CS, σ59 = wI σ58 (σ55.1) (Int32.toNatClampNeg 2) (vp_nar .char 117) → ((σ55.1) < CB ∧ (gK σ59 (σ55.1) = some (.inr (3, gN σ59 (σ55.1))) ∧ (vp_in 3 (gN σ59 (σ55.1)) ∧ (∀ σ60 : CS, σ60 = wI σ59 (σ55.1) (Int32.toNatClampNeg 3) (vp_nar .char 101) → (ob < CB ∧ (gK σ60 ob = some kO6c ∧ (∀ σ61 : CS, σ61 = wR σ60 ob 86 ((σ55.1) + 1) → (U_X6_init_1576 mc ms K ob (cx + 1 + 1 + 1 + 1) ((((zx + (Int32.toNatClampNeg 6)) + (Int32.toNatClampNeg 5)) + (Int32.toNatClampNeg 3)) + (Int32.toNatClampNeg 4)) σ61))))))))))))))))))))))))))))))))))))))))))))))))))))))))))))))))))))))))))))))))))))))))))))))))))))))))
def U_X6_init_1349 (mc ms : Nat) (K : Unit → CS → Prop) (ob : Nat) (cx : Nat) (zx : Nat) (σ : CS) : Prop := ¬ (3 : Int32) < 0 ∧ ((Int32.toNatClampNeg 3) ≤ 1000000 ∧ ((cx + 1 ≤ mc ∧ zx + (Int32.toNatClampNeg 3) ≤ ms) ∧ (σ.1 < CB ∧ (∀ σ62 : CS, σ62 = nC σ (.inr (3, (Int32.toNatClampNeg 3))) → ((σ.1) < CB ∧ (gK σ62 (σ.1) = some (.inr (3, gN σ62 (σ.1))) ∧ (vp_in 0 (gN σ62 (σ.1)) ∧ (∀ σ63 : CS, σ63 = wI σ62 (σ.1) (Int32.toNatClampNeg 0) (vp_nar .char 109) → ((σ.1) < CB ∧ (gK σ63 (σ.1) = some (.inr (3, gN σ63 (σ.1))) ∧ (vp_in 1 (gN σ63 (σ.1)) ∧ (∀ σ64 : CS, σ64 = wI σ63 (σ.1) (Int32.toNatClampNeg 1) (vp_nar .char 97) → ((σ.1) < CB ∧ (gK σ64 (σ.1) = some (.inr (3, gN σ64 (σ.1))) ∧ (vp_in 2 (gN σ64 (σ.1)) ∧ (∀ σ65 : CS, σ65 = wI σ64 (σ.1) (Int32.toNatClampNeg 2) (vp_nar .char 120) → (ob < CB ∧ (gK σ65 ob = some kO6c ∧ (∀ σ66 : CS, σ66 = wR σ65 ob 79 ((σ.1) + 1) → (¬ (5 : Int32) < 0 ∧ ((Int32.toNatClampNeg 5) ≤ 1000000 ∧ ((cx + 1 + 1 ≤ mc ∧ (zx + (Int32.toNatClampNeg 3)) + (Int32.toNatClampNeg 5) ≤ ms) ∧ (σ66.1 < CB ∧ (∀ σ67 : CS, σ67 = nC σ66 (.inr (3, (Int32.toNatClampNeg 5))) → ((σ66.1) < CB ∧ (gK σ67 (σ66.1) = some (.inr (3, gN σ67 (σ66.1))) ∧ (vp_in 0 (gN σ67 (σ66.1)) ∧ (∀ σ68 : CS, σ68 = wI σ67 (σ66.1) (Int32.toNatClampNeg 0) (vp_nar .char 119) → ((σ66.1) < CB ∧ (gK σ68 (σ66.1) = some (.inr (3, gN σ68 (σ66.1))) ∧ (vp_in 1 (gN σ68 (σ66.1)) ∧ (∀ σ69 : CS, σ69 = wI σ68 (σ66.1) (Int32.toNatClampNeg 1) (vp_nar .char 111) → ((σ66.1) < CB ∧ (gK σ69 (σ66.1) = some (.inr (3, gN σ69 (σ66.1))) ∧ (vp_in 2 (gN σ69 (σ66.1)) ∧ (∀ σ70 : CS, σ70 = wI σ69 (σ66.1) (Int32.toNatClampNeg 2) (vp_nar .char 114) → ((σ66.1) < CB ∧ (gK σ70 (σ66.1) = some (.inr (3, gN σ70 (σ66.1))) ∧ (vp_in 3 (gN σ70 (σ66.1)) ∧ (∀ σ71 : CS, σ71 = wI σ70 (σ66.1) (Int32.toNatClampNeg 3) (vp_nar .char 116) → ((σ66.1) < CB ∧ (gK σ71 (σ66.1) = some (.inr (3, gN σ71 (σ66.1))) ∧ (vp_in 4 (gN σ71 (σ66.1)) ∧ (∀ σ72 : CS, σ72 = wI σ71 (σ66.1) (Int32.toNatClampNeg 4) (vp_nar .char 104) → (ob < CB ∧ (gK σ72 ob = some kO6c ∧ (∀ σ73 : CS, σ73 = wR σ72 ob 80 ((σ66.1) + 1) → (¬ (3 : Int32) < 0 ∧ ((Int32.toNatClampNeg 3) ≤ 1000000 ∧ ((cx + 1 + 1 + 1 ≤ mc ∧ ((zx + (Int32.toNatClampNeg 3)) + (Int32.toNatClampNeg 5)) + (Int32.toNatClampNeg 3) ≤ ms) ∧ (σ73.1 < CB ∧ (∀ σ74 : CS, σ74 = nC σ73 (.inr (3, (Int32.toNatClampNeg 3))) → ((σ73.1) < CB ∧ (gK σ74 (σ73.1) = some (.inr (3, gN σ74 (σ73.1))) ∧ (vp_in 0 (gN σ74 (σ73.1)) ∧ (∀ σ75 : CS, σ75 = wI σ74 (σ73.1) (Int32.toNatClampNeg 0) (vp_nar .char 117) → ((σ73.1) < CB ∧ (gK σ75 (σ73.1) = some (.inr (3, gN σ75 (σ73.1))) ∧ (vp_in 1 (gN σ75 (σ73.1)) ∧ (∀ σ76 : CS, σ76 = wI σ75 (σ73.1) (Int32.toNatClampNeg 1) (vp_nar .char 115) → ((σ73.1) < CB ∧ (gK σ76 (σ73.1) = some (.inr (3, gN σ76 (σ73.1))) ∧ (vp_in 2 (gN σ76 (σ73.1)) ∧ (∀ σ77 : CS, σ77 = wI σ76 (σ73.1) (Int32.toNatClampNeg 2) (vp_nar .char 101) → (ob < CB ∧ (gK σ77 ob = some kO6c ∧ (∀ σ78 : CS, σ78 = wR σ77 ob 81 ((σ73.1) + 1) → (¬ (5 : Int32) < 0 ∧ ((Int32.toNatClampNeg 5) ≤ 1000000 ∧ ((cx + 1 + 1 + 1 + 1 ≤ mc ∧ (((zx + (Int32.toNatClampNeg 3)) + (Int32.toNatClampNeg 5)) + (Int32.toNatClampNeg 3)) + (Int32.toNatClampNeg 5) ≤ ms) ∧ (σ78.1 < CB ∧ (∀ σ79 : CS, σ79 = nC σ78 (.inr (3, (Int32.toNatClampNeg 5))) → ((σ78.1) < CB ∧ (gK σ79 (σ78.1) = some (.inr (3, gN σ79 (σ78.1))) ∧ (vp_in 0 (gN σ79 (σ78.1)) ∧ (∀ σ80 : CS, σ80 = wI σ79 (σ78.1) (Int32.toNatClampNeg 0) (vp_nar .char 102) → ((σ78.1) < CB ∧ (gK σ80 (σ78.1) = some (.inr (3, gN σ80 (σ78.1))) ∧ (vp_in 1 (gN σ80 (σ78.1)) ∧ (∀ σ81 : CS, σ81 = wI σ80 (σ78.1) (Int32.toNatClampNeg 1) (vp_nar .char 114) → ((σ78.1) < CB ∧ (gK σ81 (σ78.1) = some (.inr (3, gN σ81 (σ78.1))) ∧ (vp_in 2 (gN σ81 (σ78.1)) ∧ (∀ σ82 : CS, σ82 = wI σ81 (σ78.1) (Int32.toNatClampNeg 2) (vp_nar .char 97) → ((σ78.1) < CB ∧ (gK σ82 (σ78.1) = some (.inr (3, gN σ82 (σ78.1))) ∧ (vp_in 3 (gN σ82 (σ78.1)) ∧ (∀ σ83 : CS, σ83 = wI σ82 (σ78.1) (Int32.toNatClampNeg 3) (vp_nar .char 105) → ((σ78.1) < CB ∧ (gK σ83 (σ78.1) = some (.inr (3, gN σ83 (σ78.1))) ∧ (vp_in 4 (gN σ83 (σ78.1)) ∧ (∀ σ84 : CS, σ84 = wI σ83 (σ78.1) (Int32.toNatClampNeg 4) (vp_nar .char 108) → (ob < CB ∧ (gK σ84 ob = some kO6c ∧ (∀ σ85 : CS, σ85 = wR σ84 ob 82 ((σ78.1) + 1) → (U_X6_init_1457 mc ms K ob (cx + 1 + 1 + 1 + 1) ((((zx + (Int32.toNatClampNeg 3)) + (Int32.toNatClampNeg 5)) + (Int32.toNatClampNeg 3)) + (Int32.toNatClampNeg 5)) σ85))))))))))))))))))))))))))))))))))))))))))))))))))))))))))))))))))))))))))))))))))))))))))))))))
def U_X6_init_1266 (mc ms : Nat) (K : Unit → CS → Prop) (ob : Nat) (cx : Nat) (zx : Nat) (σ : CS) : Prop := ¬ (3 : Int32) < 0 ∧ ((Int32.toNatClampNeg 3) ≤ 1000000 ∧ ((cx + 1 ≤ mc ∧ zx + (Int32.toNatClampNeg 3) ≤ ms) ∧ (σ.1 < CB ∧ (∀ σ86 : CS, σ86 = nC σ (.inr (3, (Int32.toNatClampNeg 3))) → ((σ.1) < CB ∧ (gK σ86 (σ.1) = some (.inr (3, gN σ86 (σ.1))) ∧ (vp_in 0 (gN σ86 (σ.1)) ∧ (∀ σ87 : CS, σ87 = wI σ86 (σ.1) (Int32.toNatClampNeg 0) (vp_nar .char 97) → ((σ.1) < CB ∧ (gK σ87 (σ.1) = some (.inr (3, gN σ87 (σ.1))) ∧ (vp_in 1 (gN σ87 (σ.1)) ∧ (∀ σ88 : CS, σ88 = wI σ87 (σ.1) (Int32.toNatClampNeg 1) (vp_nar .char 110) → ((σ.1) < CB ∧ (gK σ88 (σ.1) = some (.inr (3, gN σ88 (σ.1))) ∧ (vp_in 2 (gN σ88 (σ.1)) ∧ (∀ σ89 : CS, σ89 = wI σ88 (σ.1) (Int32.toNatClampNeg 2) (vp_nar .char 100) → (ob < CB ∧ (gK σ89 ob = some kO6c ∧ (∀ σ90 : CS, σ90 = wR σ89 ob 75 ((σ.1) + 1) → (¬ (2 : Int32) < 0 ∧ ((Int32.toNatClampNeg 2) ≤ 1000000 ∧ ((cx + 1 + 1 ≤ mc ∧ (zx + (Int32.toNatClampNeg 3)) + (Int32.toNatClampNeg 2) ≤ ms) ∧ (σ90.1 < CB ∧ (∀ σ91 : CS, σ91 = nC σ90 (.inr (3, (Int32.toNatClampNeg 2))) → ((σ90.1) < CB ∧ (gK σ91 (σ90.1) = some (.inr (3, gN σ91 (σ90.1))) ∧ (vp_in 0 (gN σ91 (σ90.1)) ∧ (∀ σ92 : CS, σ92 = wI σ91 (σ90.1) (Int32.toNatClampNeg 0) (vp_nar .char 111) → ((σ90.1) < CB ∧ (gK σ92 (σ90.1) = some (.inr (3, gN σ92 (σ90.1))) ∧ (vp_in 1 (gN σ92 (σ90.1)) ∧ (∀ σ93 : CS, σ93 = wI σ92 (σ90.1) (Int32.toNatClampNeg 1) (vp_nar .char 114) → (ob < CB ∧ (gK σ93 ob = some kO6c ∧ (∀ σ94 : CS, σ94 = wR σ93 ob 76 ((σ90.1) + 1) → (¬ (3 : Int32) < 0 ∧ ((Int32.toNatClampNeg 3) ≤ 1000000 ∧ ((cx + 1 + 1 + 1 ≤ mc ∧ ((zx + (Int32.toNatClampNeg 3)) + (Int32.toNatClampNeg 2)) + (Int32.toNatClampNeg 3) ≤ ms) ∧ (σ94.1 < CB ∧ (∀ σ95 : CS, σ95 = nC σ94 (.inr (3, (Int32.toNatClampNeg 3))) → ((σ94.1) < CB ∧ (gK σ95 (σ94.1) = some (.inr (3, gN σ95 (σ94.1))) ∧ (vp_in 0 (gN σ95 (σ94.1)) ∧ (∀ σ96 : CS, σ96 = wI σ95 (σ94.1) (Int32.toNatClampNeg 0) (vp_nar .char 97) → ((σ94.1) < CB ∧ (gK σ96 (σ94.1) = some (.inr (3, gN σ96 (σ94.1))) ∧ (vp_in 1 (gN σ96 (σ94.1)) ∧ (∀ σ97 : CS, σ97 = wI σ96 (σ94.1) (Int32.toNatClampNeg 1) (vp_nar .char 108) → ((σ94.1) < CB ∧ (gK σ97 (σ94.1) = some (.inr (3, gN σ97 (σ94.1))) ∧ (vp_in 2 (gN σ97 (σ94.1)) ∧ (∀ σ98 : CS, σ98 = wI σ97 (σ94.1) (Int32.toNatClampNeg 2) (vp_nar .char 108) → (ob < CB ∧ (gK σ98 ob = some kO6c ∧ (∀ σ99 : CS, σ99 = wR σ98 ob 77 ((σ94.1) + 1) → (¬ (3 : Int32) < 0 ∧ ((Int32.toNatClampNeg 3) ≤ 1000000 ∧ ((cx + 1 + 1 + 1 + 1 ≤ mc ∧ (((zx + (Int32.toNatClampNeg 3)) + (Int32.toNatClampNeg 2)) + (Int32.toNatClampNeg 3)) + (Int32.toNatClampNeg 3) ≤ ms) ∧ (σ99.1 < CB ∧ (∀ σ100 : CS, σ100 = nC σ99 (.inr (3, (Int32.toNatClampNeg 3))) → ((σ99.1) < CB ∧ (gK σ100 (σ99.1) = some (.inr (3, gN σ100 (σ99.1))) ∧ (vp_in 0 (gN σ100 (σ99.1)) ∧ (∀ σ101 : CS, σ101 = wI σ100 (σ99.1) (Int32.toNatClampNeg 0) (vp_nar .char 109) → ((σ99.1) < CB ∧ (gK σ101 (σ99.1) = some (.inr (3, gN σ101 (σ99.1))) ∧ (vp_in 1 (gN σ101 (σ99.1)) ∧ (∀ σ102 : CS, σ102 = wI σ101 (σ99.1) (Int32.toNatClampNeg 1) (vp_nar .char 105) → ((σ99.1) < CB ∧ (gK σ102 (σ99.1) = some (.inr (3, gN σ102 (σ99.1))) ∧ (vp_in 2 (gN σ102 (σ99.1)) ∧ (∀ σ103 : CS, σ103 = wI σ102 (σ99.1) (Int32.toNatClampNeg 2) (vp_nar .char 110) → (ob < CB ∧ (gK σ103 ob = some kO6c ∧ (∀ σ104 : CS, σ104 = wR σ103 ob 78 ((σ99.1) + 1) → (U_X6_init_1349 mc ms K ob (cx + 1 + 1 + 1 + 1) ((((zx + (Int32.toNatClampNeg 3)) + (Int32.toNatClampNeg 2)) + (Int32.toNatClampNeg 3)) + (Int32.toNatClampNeg 3)) σ104))))))))))))))))))))))))))))))))))))))))))))))))))))))))))))))))))))))))))))
def U_X6_init_1153 (mc ms : Nat) (K : Unit → CS → Prop) (ob : Nat) (cx : Nat) (zx : Nat) (σ : CS) : Prop := ¬ (5 : Int32) < 0 ∧ ((Int32.toNatClampNeg 5) ≤ 1000000 ∧ ((cx + 1 ≤ mc ∧ zx + (Int32.toNatClampNeg 5) ≤ ms) ∧ (σ.1 < CB ∧ (∀ σ105 : CS, σ105 = nC σ (.inr (3, (Int32.toNatClampNeg 5))) → ((σ.1) < CB ∧ (gK σ105 (σ.1) = some (.inr (3, gN σ105 (σ.1))) ∧ (vp_in 0 (gN σ105 (σ.1)) ∧ (∀ σ106 : CS, σ106 = wI σ105 (σ.1) (Int32.toNatClampNeg 0) (vp_nar .char 116) → ((σ.1) < CB ∧ (gK σ106 (σ.1) = some (.inr (3, gN σ106 (σ.1))) ∧ (vp_in 1 (gN σ106 (σ.1)) ∧ (∀ σ107 : CS, σ107 = wI σ106 (σ.1) (Int32.toNatClampNeg 1) (vp_nar .char 111) → ((σ.1) < CB ∧ (gK σ107 (σ.1) = some (.inr (3, gN σ107 (σ.1))) ∧ (vp_in 2 (gN σ107 (σ.1)) ∧ (∀ σ108 : CS, σ108 = wI σ107 (σ.1) (Int32.toNatClampNeg 2) (vp_nar .char 116) → ((σ.1) < CB ∧ (gK σ108 (σ.1) = some (.inr (3, gN σ108 (σ.1))) ∧ (vp_in 3 (gN σ108 (σ.1)) ∧ (∀ σ109 : CS, σ109 = wI σ108 (σ.1) (Int32.toNatClampNeg 3) (vp_nar .char 97) → ((σ.1) < CB ∧ (gK σ109 (σ.1) = some (.inr (3, gN σ109 (σ.1))) ∧ (vp_in 4 (gN σ109 (σ.1)) ∧ (∀ σ110 : CS, σ110 = wI σ109 (σ.1) (Int32.toNatClampNeg 4) (vp_nar .char 108) → (ob < CB ∧ (gK σ110 ob = some kO6c ∧ (∀ σ111 : CS, σ111 = wR σ110 ob 71 ((σ.1) + 1) → (¬ (4 : Int32) < 0 ∧ ((Int32.toNatClampNeg 4) ≤ 1000000 ∧ ((cx + 1 + 1 ≤ mc ∧ (zx + (Int32.toNatClampNeg 5)) + (Int32.toNatClampNeg 4) ≤ ms) ∧ (σ111.1 < CB ∧ (∀ σ112 : CS, σ112 = nC σ111 (.inr (3, (Int32.toNatClampNeg 4))) → ((σ111.1) < CB ∧ (gK σ112 (σ111.1) = some (.inr (3, gN σ112 (σ111.1))) ∧ (vp_in 0 (gN σ112 (σ111.1)) ∧ (∀ σ113 : CS, σ113 = wI σ112 (σ111.1) (Int32.toNatClampNeg 0) (vp_nar .char 109) → ((σ111.1) < CB ∧ (gK σ113 (σ111.1) = some (.inr (3, gN σ113 (σ111.1))) ∧ (vp_in 1 (gN σ113 (σ111.1)) ∧ (∀ σ114 : CS, σ114 = wI σ113 (σ111.1) (Int32.toNatClampNeg 1) (vp_nar .char 111) → ((σ111.1) < CB ∧ (gK σ114 (σ111.1) = some (.inr (3, gN σ114 (σ111.1))) ∧ (vp_in 2 (gN σ114 (σ111.1)) ∧ (∀ σ115 : CS, σ115 = wI σ114 (σ111.1) (Int32.toNatClampNeg 2) (vp_nar .char 115) → ((σ111.1) < CB ∧ (gK σ115 (σ111.1) = some (.inr (3, gN σ115 (σ111.1))) ∧ (vp_in 3 (gN σ115 (σ111.1)) ∧ (∀ σ116 : CS, σ116 = wI σ115 (σ111.1) (Int32.toNatClampNeg 3) (vp_nar .char 116) → (ob < CB ∧ (gK σ116 ob = some kO6c ∧ (∀ σ117 : CS, σ117 = wR σ116 ob 72 ((σ111.1) + 1) → (¬ (5 : Int32) < 0 ∧ ((Int32.toNatClampNeg 5) ≤ 1000000 ∧ ((cx + 1 + 1 + 1 ≤ mc ∧ ((zx + (Int32.toNatClampNeg 5)) + (Int32.toNatClampNeg 4)) + (Int32.toNatClampNeg 5) ≤ ms) ∧ (σ117.1 < CB ∧ (∀ σ118 : CS, σ118 = nC σ117 (.inr (3, (Int32.toNatClampNeg 5))) → ((σ117.1) < CB ∧ (gK σ118 (σ117.1) = some (.inr (3, gN σ118 (σ117.1))) ∧ (vp_in 0 (gN σ118 (σ117.1)) ∧ (∀ σ119 : CS, σ119 = wI σ118 (σ117.1) (Int32.toNatClampNeg 0) (vp_nar .char 108) → ((σ117.1) < CB ∧ (gK σ119 (σ117.1) = some (.inr (3, gN σ119 (σ117.1))) ∧ (vp_in 1 (gN σ119 (σ117.1)) ∧ (∀ σ120 : CS, σ120 = wI σ119 (σ117.1) (Int32.toNatClampNeg 1) (vp_nar .char 101) → ((σ117.1) < CB ∧ (gK σ120 (σ117.1) = some (.inr (3, gN σ120 (σ117.1))) ∧ (vp_in 2 (gN σ120 (σ117.1)) ∧ (∀ σ121 : CS, σ121 = wI σ120 (σ117.1) (Int32.toNatClampNeg 2) (vp_nar .char 97) → ((σ117.1) < CB ∧ (gK σ121 (σ117.1) = some (.inr (3, gN σ121 (σ117.1))) ∧ (vp_in 3 (gN σ121 (σ117.1)) ∧ (∀ σ122 : CS, σ122 = wI σ121 (σ117.1) (Int32.toNatClampNeg 3) (vp_nar .char 115) → ((σ117.1) < CB ∧ (gK σ122 (σ117.1) = some (.inr (3, gN σ122 (σ117.1))) ∧ (vp_in 4 (gN σ122 (σ117.1)) ∧ (∀ σ123 : CS, σ123 = wI σ122 (σ117.1) (Int32.toNatClampNeg 4) (vp_nar .char 116) → (ob < CB ∧ (gK σ123 ob = some kO6c ∧ (∀ σ124 : CS, σ124 = wR σ123 ob 73 ((σ117.1) + 1) → (¬ (3 : Int32) < 0 ∧ ((Int32.toNatClampNeg 3) ≤ 1000000 ∧ ((cx + 1 + 1 + 1 + 1 ≤ mc ∧ (((zx + (Int32.toNatClampNeg 5)) + (Int32.toNatClampNeg 4)) + (Int32.toNatClampNeg 5)) + (Int32.toNatClampNeg 3) ≤ ms) ∧ (σ124.1 < CB ∧ (∀ σ125 : CS, σ125 = nC σ124 (.inr (3, (Int32.toNatClampNeg 3))) → ((σ124.1) < CB ∧ (gK σ125 (σ124.1) = some (.inr (3, gN σ125 (σ124.1))) ∧ (vp_in 0 (gN σ125 (σ124.1)) ∧ (∀ σ126 : CS, σ126 = wI σ125 (σ124.1) (Int32.toNatClampNeg 0) (vp_nar .char 110) → ((σ124.1) < CB ∧ (gK σ126 (σ124.1) = some (.inr (3, gN σ126 (σ124.1))) ∧ (vp_in 1 (gN σ126 (σ124.1)) ∧ (∀ σ127 : CS, σ127 = wI σ126 (σ124.1) (Int32.toNatClampNeg 1) (vp_nar .char 111) → ((σ124.1) < CB ∧ (gK σ127 (σ124.1) = some (.inr (3, gN σ127 (σ124.1))) ∧ (vp_in 2 (gN σ127 (σ124.1)) ∧ (∀ σ128 : CS, σ128 = wI σ127 (σ124.1) (Int32.toNatClampNeg 2) (vp_nar .char 116) → (ob < CB ∧ (gK σ128 ob = some kO6c ∧ (∀ σ129 : CS, σ129 = wR σ128 ob 74 ((σ124.1) + 1) → (U_X6_init_1266 mc ms K ob (cx + 1 + 1 + 1 + 1) ((((zx + (Int32.toNatClampNeg 5)) + (Int32.toNatClampNeg 4)) + (Int32.toNatClampNeg 5)) + (Int32.toNatClampNeg 3)) σ129))))))))))))))))))))))))))))))))))))))))))))))))))))))))))))))))))))))))))))))))))))))))))))))))))))
def U_X6_init_1057 (mc ms : Nat) (K : Unit → CS → Prop) (ob : Nat) (cx : Nat) (zx : Nat) (σ : CS) : Prop := ob < CB ∧ (gK σ ob = some kO6c ∧ (∀ σ130 : CS, σ130 = wL σ ob 67 1 → (¬ (5 : Int32) < 0 ∧ ((Int32.toNatClampNeg 5) ≤ 1000000 ∧ ((cx + 1 ≤ mc ∧ zx + (Int32.toNatClampNeg 5) ≤ ms) ∧ (σ130.1 < CB ∧ (∀ σ131 : CS, σ131 = nC σ130 (.inr (3, (Int32.toNatClampNeg 5))) → ((σ130.1) < CB ∧ (gK σ131 (σ130.1) = some (.inr (3, gN σ131 (σ130.1))) ∧ (vp_in 0 (gN σ131 (σ130.1)) ∧ (∀ σ132 : CS, σ132 = wI σ131 (σ130.1) (Int32.toNatClampNeg 0) (vp_nar .char 102) → ((σ130.1) < CB ∧ (gK σ132 (σ130.1) = some (.inr (3, gN σ132 (σ130.1))) ∧ (vp_in 1 (gN σ132 (σ130.1)) ∧ (∀ σ133 : CS, σ133 = wI σ132 (σ130.1) (Int32.toNatClampNeg 1) (vp_nar .char 105) → ((σ130.1) < CB ∧ (gK σ133 (σ130.1) = some (.inr (3, gN σ133 (σ130.1))) ∧ (vp_in 2 (gN σ133 (σ130.1)) ∧ (∀ σ134 : CS, σ134 = wI σ133 (σ130.1) (Int32.toNatClampNeg 2) (vp_nar .char 114) → ((σ130.1) < CB ∧ (gK σ134 (σ130.1) = some (.inr (3, gN σ134 (σ130.1))) ∧ (vp_in 3 (gN σ134 (σ130.1)) ∧ (∀ σ135 : CS, σ135 = wI σ134 (σ130.1) (Int32.toNatClampNeg 3) (vp_nar .char 115) → ((σ130.1) < CB ∧ (gK σ135 (σ130.1) = some (.inr (3, gN σ135 (σ130.1))) ∧ (vp_in 4 (gN σ135 (σ130.1)) ∧ (∀ σ136 : CS, σ136 = wI σ135 (σ130.1) (Int32.toNatClampNeg 4) (vp_nar .char 116) → (ob < CB ∧ (gK σ136 ob = some kO6c ∧ (∀ σ137 : CS, σ137 = wR σ136 ob 68 ((σ130.1) + 1) → (¬ (4 : Int32) < 0 ∧ ((Int32.toNatClampNeg 4) ≤ 1000000 ∧ ((cx + 1 + 1 ≤ mc ∧ (zx + (Int32.toNatClampNeg 5)) + (Int32.toNatClampNeg 4) ≤ ms) ∧ (σ137.1 < CB ∧ (∀ σ138 : CS, σ138 = nC σ137 (.inr (3, (Int32.toNatClampNeg 4))) → ((σ137.1) < CB ∧ (gK σ138 (σ137.1) = some (.inr (3, gN σ138 (σ137.1))) ∧ (vp_in 0 (gN σ138 (σ137.1)) ∧ (∀ σ139 : CS, σ139 = wI σ138 (σ137.1) (Int32.toNatClampNeg 0) (vp_nar .char 108) → ((σ137.1) < CB ∧ (gK σ139 (σ137.1) = some (.inr (3, gN σ139 (σ137.1))) ∧ (vp_in 1 (gN σ139 (σ137.1)) ∧ (∀ σ140 : CS, σ140 = wI σ139 (σ137.1) (Int32.toNatClampNeg 1) (vp_nar .char 97) → ((σ137.1) < CB ∧ (gK σ140 (σ137.1) = some (.inr (3, gN σ140 (σ137.1))) ∧ (vp_in 2 (gN σ140 (σ137.1)) ∧ (∀ σ141 : CS, σ141 = wI σ140 (σ137.1) (Int32.toNatClampNeg 2) (vp_nar .char 115) → ((σ137.1) < CB ∧ (gK σ141 (σ137.1) = some (.inr (3, gN σ141 (σ137.1))) ∧ (vp_in 3 (gN σ141 (σ137.1)) ∧ (∀ σ142 : CS, σ142 = wI σ141 (σ137.1) (Int32.toNatClampNeg 3) (vp_nar .char 116) → (ob < CB ∧ (gK σ142 ob = some kO6c ∧ (∀ σ143 : CS, σ143 = wR σ142 ob 69 ((σ137.1) + 1) → (¬ (5 : Int32) < 0 ∧ ((Int32.toNatClampNeg 5) ≤ 1000000 ∧ ((cx + 1 + 1 + 1 ≤ mc ∧ ((zx + (Int32.toNatClampNeg 5)) + (Int32.toNatClampNeg 4)) + (Int32.toNatClampNeg 5) ≤ ms) ∧ (σ143.1 < CB ∧ (∀ σ144 : CS, σ144 = nC σ143 (.inr (3, (Int32.toNatClampNeg 5))) → ((σ143.1) < CB ∧ (gK σ144 (σ143.1) = some (.inr (3, gN σ144 (σ143.1))) ∧ (vp_in 0 (gN σ144 (σ143.1)) ∧ (∀ σ145 : CS, σ145 = wI σ144 (σ143.1) (Int32.toNatClampNeg 0) (vp_nar .char 111) → ((σ143.1) < CB ∧ (gK σ145 (σ143.1) = some (.inr (3, gN σ145 (σ143.1))) ∧ (vp_in 1 (gN σ145 (σ143.1)) ∧ (∀ σ146 : CS, σ146 = wI σ145 (σ143.1) (Int32.toNatClampNeg 1) (vp_nar .char 102) → ((σ143.1) < CB ∧ (gK σ146 (σ143.1) = some (.inr (3, gN σ146 (σ143.1))) ∧ (vp_in 2 (gN σ146 (σ143.1)) ∧ (∀ σ147 : CS, σ147 = wI σ146 (σ143.1) (Int32.toNatClampNeg 2) (vp_nar .char 116) → ((σ143.1) < CB ∧ (gK σ147 (σ143.1) = some (.inr (3, gN σ147 (σ143.1))) ∧ (vp_in 3 (gN σ147 (σ143.1)) ∧ (∀ σ148 : CS, σ148 = wI σ147 (σ143.1) (Int32.toNatClampNeg 3) (vp_nar .char 101) → ((σ143.1) < CB ∧ (gK σ148 (σ143.1) = some (.inr (3, gN σ148 (σ143.1))) ∧ (vp_in 4 (gN σ148 (σ143.1)) ∧ (∀ σ149 : CS, σ149 = wI σ148 (σ143.1) (Int32.toNatClampNeg 4) (vp_nar .char 110) → (ob < CB ∧ (gK σ149 ob = some kO6c ∧ (∀ σ150 : CS, σ150 = wR σ149 ob 70 ((σ143.1) + 1) → (U_X6_init_1153 mc ms K ob (cx + 1 + 1 + 1) (((zx + (Int32.toNatClampNeg 5)) + (Int32.toNatClampNeg 4)) + (Int32.toNatClampNeg 5)) σ150)))))))))))))))))))))))))))))))))))))))))))))))))))))))))))))))))))))))))))))))))))
def U_X6_init_1023 (mc ms : Nat) (K : Unit → CS → Prop) (ob : Nat) (cx : Nat) (zx : Nat) (σ : CS) : Prop := ¬ (6 : Int32) < 0 ∧ ((Int32.toNatClampNeg 6) ≤ 1000000 ∧ ((cx + 1 ≤ mc ∧ zx + (Int32.toNatClampNeg 6) ≤ ms) ∧ (σ.1 < CB ∧ (∀ σ151 : CS, σ151 = nC σ (.inr (0, (Int32.toNatClampNeg 6))) → (ob < CB ∧ (gK σ151 ob = some kO6c ∧ (∀ σ152 : CS, σ152 = wR σ151 ob 61 ((σ.1) + 1) → (¬ (6 : Int32) < 0 ∧ ((Int32.toNatClampNeg 6) ≤ 1000000 ∧ ((cx + 1 + 1 ≤ mc ∧ (zx + (Int32.toNatClampNeg 6)) + (Int32.toNatClampNeg 6) ≤ ms) ∧ (σ152.1 < CB ∧ (∀ σ153 : CS, σ153 = nC σ152 (.inr (0, (Int32.toNatClampNeg 6))) → (ob < CB ∧ (gK σ153 ob = some kO6c ∧ (∀ σ154 : CS, σ154 = wR σ153 ob 62 ((σ152.1) + 1) → (¬ (310 : Int32) < 0 ∧ ((Int32.toNatClampNeg 310) ≤ 1000000 ∧ ((cx + 1 + 1 + 1 ≤ mc ∧ ((zx + (Int32.toNatClampNeg 6)) + (Int32.toNatClampNeg 6)) + (Int32.toNatClampNeg 310) ≤ ms) ∧ (σ154.1 < CB ∧ (∀ σ155 : CS, σ155 = nC σ154 (.inr (2, (Int32.toNatClampNeg 310))) → (ob < CB ∧ (gK σ155 ob = some kO6c ∧ (∀ σ156 : CS, σ156 = wR σ155 ob 63 ((σ154.1) + 1) → (¬ (3840 : Int32) < 0 ∧ ((Int32.toNatClampNeg 3840) ≤ 1000000 ∧ ((cx + 1 + 1 + 1 + 1 ≤ mc ∧ (((zx + (Int32.toNatClampNeg 6)) + (Int32.toNatClampNeg 6)) + (Int32.toNatClampNeg 310)) + (Int32.toNatClampNeg 3840) ≤ ms) ∧ (σ156.1 < CB ∧ (∀ σ157 : CS, σ157 = nC σ156 (.inr (0, (Int32.toNatClampNeg 3840))) → (ob < CB ∧ (gK σ157 ob = some kO6c ∧ (∀ σ158 : CS, σ158 = wR σ157 ob 64 ((σ156.1) + 1) → (U_X6_init_1057 mc ms K ob (cx + 1 + 1 + 1 + 1) ((((zx + (Int32.toNatClampNeg 6)) + (Int32.toNatClampNeg 6)) + (Int32.toNatClampNeg 310)) + (Int32.toNatClampNeg 3840)) σ158))))))))))))))))))))))))))))))))
def U_X6_init_995 (mc ms : Nat) (K : Unit → CS → Prop) (ob : Nat) (cx : Nat) (zx : Nat) (σ : CS) : Prop := ob < CB ∧ (gK σ ob = some kO6c ∧ (∀ σ159 : CS, σ159 = wI σ ob 53 (-1) → (¬ (40 : Int32) < 0 ∧ ((Int32.toNatClampNeg 40) ≤ 1000000 ∧ ((cx + 1 ≤ mc ∧ zx + (Int32.toNatClampNeg 40) ≤ ms) ∧ (σ159.1 < CB ∧ (∀ σ160 : CS, σ160 = nC σ159 (.inr (0, (Int32.toNatClampNeg 40))) → (ob < CB ∧ (gK σ160 ob = some kO6c ∧ (∀ σ161 : CS, σ161 = wR σ160 ob 56 ((σ159.1) + 1) → (¬ (8 : Int32) < 0 ∧ ((Int32.toNatClampNeg 8) ≤ 1000000 ∧ ((cx + 1 + 1 ≤ mc ∧ (zx + (Int32.toNatClampNeg 40)) + (Int32.toNatClampNeg 8) ≤ ms) ∧ (σ161.1 < CB ∧ (∀ σ162 : CS, σ162 = nC σ161 (.inr (2, (Int32.toNatClampNeg 8))) → (ob < CB ∧ (gK σ162 ob = some kO6c ∧ (∀ σ163 : CS, σ163 = wR σ162 ob 59 ((σ161.1) + 1) → (¬ (4 : Int32) < 0 ∧ ((Int32.toNatClampNeg 4) ≤ 1000000 ∧ ((cx + 1 + 1 + 1 ≤ mc ∧ ((zx + (Int32.toNatClampNeg 40)) + (Int32.toNatClampNeg 8)) + (Int32.toNatClampNeg 4) ≤ ms) ∧ (σ163.1 < CB ∧ (∀ σ164 : CS, σ164 = nC σ163 (.inr (0, (Int32.toNatClampNeg 4))) → (ob < CB ∧ (gK σ164 ob = some kO6c ∧ (∀ σ165 : CS, σ165 = wR σ164 ob 60 ((σ163.1) + 1) → (U_X6_init_1023 mc ms K ob (cx + 1 + 1 + 1) (((zx + (Int32.toNatClampNeg 40)) + (Int32.toNatClampNeg 8)) + (Int32.toNatClampNeg 4)) σ165)))))))))))))))))))))))))))
def U_X6_init_961 (mc ms : Nat) (K : Unit → CS → Prop) (ob : Nat) (cx : Nat) (zx : Nat) (σ : CS) : Prop := ¬ (20 : Int32) < 0 ∧ ((Int32.toNatClampNeg 20) ≤ 1000000 ∧ ((cx + 1 ≤ mc ∧ zx + (Int32.toNatClampNeg 20) ≤ ms) ∧ (σ.1 < CB ∧ (∀ σ166 : CS, σ166 = nC σ (.inr (0, (Int32.toNatClampNeg 20))) → (ob < CB ∧ (gK σ166 ob = some kO6c ∧ (∀ σ167 : CS, σ167 = wR σ166 ob 46 ((σ.1) + 1) → (¬ (3200 : Int32) < 0 ∧ ((Int32.toNatClampNeg 3200) ≤ 1000000 ∧ ((cx + 1 + 1 ≤ mc ∧ (zx + (Int32.toNatClampNeg 20)) + (Int32.toNatClampNeg 3200) ≤ ms) ∧ (σ167.1 < CB ∧ (∀ σ168 : CS, σ168 = nC σ167 (.inr (0, (Int32.toNatClampNeg 3200))) → (ob < CB ∧ (gK σ168 ob = some kO6c ∧ (∀ σ169 : CS, σ169 = wR σ168 ob 47 ((σ167.1) + 1) → (¬ (192 : Int32) < 0 ∧ ((Int32.toNatClampNeg 192) ≤ 1000000 ∧ ((cx + 1 + 1 + 1 ≤ mc ∧ ((zx + (Int32.toNatClampNeg 20)) + (Int32.toNatClampNeg 3200)) + (Int32.toNatClampNeg 192) ≤ ms) ∧ (σ169.1 < CB ∧ (∀ σ170 : CS, σ170 = nC σ169 (.inr (0, (Int32.toNatClampNeg 192))) → (ob < CB ∧ (gK σ170 ob = some kO6c ∧ (∀ σ171 : CS, σ171 = wR σ170 ob 51 ((σ169.1) + 1) → (¬ (41 : Int32) < 0 ∧ ((Int32.toNatClampNeg 41) ≤ 1000000 ∧ ((cx + 1 + 1 + 1 + 1 ≤ mc ∧ (((zx + (Int32.toNatClampNeg 20)) + (Int32.toNatClampNeg 3200)) + (Int32.toNatClampNeg 192)) + (Int32.toNatClampNeg 41) ≤ ms) ∧ (σ171.1 < CB ∧ (∀ σ172 : CS, σ172 = nC σ171 (.inr (0, (Int32.toNatClampNeg 41))) → (ob < CB ∧ (gK σ172 ob = some kO6c ∧ (∀ σ173 : CS, σ173 = wR σ172 ob 52 ((σ171.1) + 1) → (U_X6_init_995 mc ms K ob (cx + 1 + 1 + 1 + 1) ((((zx + (Int32.toNatClampNeg 20)) + (Int32.toNatClampNeg 3200)) + (Int32.toNatClampNeg 192)) + (Int32.toNatClampNeg 41)) σ173))))))))))))))))))))))))))))))))
def U_X6_init_835 (mc ms : Nat) (K : Unit → CS → Prop) (ob : Nat) (cx : Nat) (zx : Nat) (σ : CS) : Prop := ¬ (48 : Int32) < 0 ∧ ((Int32.toNatClampNeg 48) ≤ 1000000 ∧ ((cx + 1 ≤ mc ∧ zx + (Int32.toNatClampNeg 48) ≤ ms) ∧ (σ.1 < CB ∧ (∀ σ174 : CS, σ174 = nC σ (.inr (4, (Int32.toNatClampNeg 48))) → (ob < CB ∧ (gK σ174 ob = some kO6c ∧ (∀ σ175 : CS, σ175 = wR σ174 ob 40 ((σ.1) + 1) → (¬ (48 : Int32) < 0 ∧ ((Int32.toNatClampNeg 48) ≤ 1000000 ∧ ((cx + 1 + 1 ≤ mc ∧ (zx + (Int32.toNatClampNeg 48)) + (Int32.toNatClampNeg 48) ≤ ms) ∧ (σ175.1 < CB ∧ (∀ σ176 : CS, σ176 = nC σ175 (.inr (0, (Int32.toNatClampNeg 48))) → (ob < CB ∧ (gK σ176 ob = some kO6c ∧ (∀ σ177 : CS, σ177 = wR σ176 ob 41 ((σ175.1) + 1) → (¬ (16 : Int32) < 0 ∧ ((Int32.toNatClampNeg 16) ≤ 1000000 ∧ ((cx + 1 + 1 + 1 ≤ mc ∧ ((zx + (Int32.toNatClampNeg 48)) + (Int32.toNatClampNeg 48)) + (Int32.toNatClampNeg 16) ≤ ms) ∧ (σ177.1 < CB ∧ (∀ σ178 : CS, σ178 = nC σ177 (.inr (0, (Int32.toNatClampNeg 16))) → (ob < CB ∧ (gK σ178 ob = some kO6c ∧ (∀ σ179 : CS, σ179 = wR σ178 ob 42 ((σ177.1) + 1) → (¬ (20 : Int32) < 0 ∧ ((Int32.toNatClampNeg 20) ≤ 1000000 ∧ ((cx + 1 + 1 + 1 + 1 ≤ mc ∧ (((zx + (Int32.toNatClampNeg 48)) + (Int32.toNatClampNeg 48)) + (Int32.toNatClampNeg 16)) + (Int32.toNatClampNeg 20) ≤ ms) ∧ (σ179.1 < CB ∧ (∀ σ180 : CS, σ180 = nC σ179 (.inr (0, (Int32.toNatClampNeg 20))) → ((σ179.1) < CB ∧ (gK σ180 (σ179.1) = some (.inr (0, gN σ180 (σ179.1))) ∧ (vp_in 0 (gN σ180 (σ179.1)) ∧ (∀ σ181 : CS, σ181 = wI σ180 (σ179.1) (Int32.toNatClampNeg 0) (-1) → ((σ179.1) < CB ∧ (gK σ181 (σ179.1) = some (.inr (0, gN σ181 (σ179.1))) ∧ (vp_in 1 (gN σ181 (σ179.1)) ∧ (∀ σ182 : CS, σ182 = wI σ181 (σ179.1) (Int32.toNatClampNeg 1) (-1) → ((σ179.1) < CB ∧ (gK σ182 (σ179.1) = some (.inr (0, gN σ182 (σ179.1))) ∧ (vp_in 2 (gN σ182 (σ179.1)) ∧ (∀ σ183 : CS, σ183 = wI σ182 (σ179.1) (Int32.toNatClampNeg 2) (-1) → ((σ179.1) < CB ∧ (gK σ183 (σ179.1) = some (.inr (0, gN σ183 (σ179.1))) ∧ (vp_in 3 (gN σ183 (σ179.1)) ∧ (∀ σ184 : CS, σ184 = wI σ183 (σ179.1) (Int32.toNatClampNeg 3) (-1) → ((σ179.1) < CB ∧ (gK σ184 (σ179.1) = some (.inr (0, gN σ184 (σ179.1))) ∧ (vp_in 4 (gN σ184 (σ179.1)) ∧ (∀ σ185 : CS, σ185 = wI σ184 (σ179.1) (Int32.toNatClampNeg 4) (-1) → ((σ179.1) < CB ∧ (gK σ185 (σ179.1) = some (.inr (0, gN σ185 (σ179.1))) ∧ (vp_in 5 (gN σ185 (σ179.1)) ∧ (∀ σ186 : CS, σ186 = wI σ185 (σ179.1) (Int32.toNatClampNeg 5) (-1) → ((σ179.1) < CB ∧ (gK σ186 (σ179.1) = some (.inr (0, gN σ186 (σ179.1))) ∧ (vp_in 6 (gN σ186 (σ179.1)) ∧ (∀ σ187 : CS, σ187 = wI σ186 (σ179.1) (Int32.toNatClampNeg 6) (-1) → ((σ179.1) < CB ∧ (gK σ187 (σ179.1) = some (.inr (0, gN σ187 (σ179.1))) ∧ (vp_in 7 (gN σ187 (σ179.1)) ∧ (∀ σ188 : CS, σ188 = wI σ187 (σ179.1) (Int32.toNatClampNeg 7) (-1) → ((σ179.1) < CB ∧ (gK σ188 (σ179.1) = some (.inr (0, gN σ188 (σ179.1))) ∧ (vp_in 8 (gN σ188 (σ179.1)) ∧ (∀ σ189 : CS, σ189 = wI σ188 (σ179.1) (Int32.toNatClampNeg 8) (-1) → ((σ179.1) < CB ∧ (gK σ189 (σ179.1) = some (.inr (0, gN σ189 (σ179.1))) ∧ (vp_in 9 (gN σ189 (σ179.1)) ∧ (∀ σ190 : CS, σ190 = wI σ189 (σ179.1) (Int32.toNatClampNeg 9) (-1) → ((σ179.1) < CB ∧ (gK σ190 (σ179.1) = some (.inr (0, gN σ190 (σ179.1))) ∧ (vp_in 10 (gN σ190 (σ179.1)) ∧ (∀ σ191 : CS, σ191 = wI σ190 (σ179.1) (Int32.toNatClampNeg 10) (-1) → ((σ179.1) < CB ∧ (gK σ191 (σ179.1) = some (.inr (0, gN σ191 (σ179.1))) ∧ (vp_in 11 (gN σ191 (σ179.1)) ∧ (∀ σ192 : CS, σ192 = wI σ191 (σ179.1) (Int32.toNatClampNeg 11) (-1) → ((σ179.1) < CB ∧ (gK σ192 (σ179.1) = some (.inr (0, gN σ192 (σ179.1))) ∧ (vp_in 12 (gN σ192 (σ179.1)) ∧ (∀ σ193 : CS, σ193 = wI σ192 (σ179.1) (Int32.toNatClampNeg 12) (-1) → ((σ179.1) < CB ∧ (gK σ193 (σ179.1) = some (.inr (0, gN σ193 (σ179.1))) ∧ (vp_in 13 (gN σ193 (σ179.1)) ∧ (∀ σ194 : CS, σ194 = wI σ193 (σ179.1) (Int32.toNatClampNeg 13) (-1) → ((σ179.1) < CB ∧ (gK σ194 (σ179.1) = some (.inr (0, gN σ194 (σ179.1))) ∧ (vp_in 14 (gN σ194 (σ179.1)) ∧ (∀ σ195 : CS, σ195 = wI σ194 (σ179.1) (Int32.toNatClampNeg 14) (-1) → ((σ179.1) < CB ∧ (gK σ195 (σ179.1) = some (.inr (0, gN σ195 (σ179.1))) ∧ (vp_in 15 (gN σ195 (σ179.1)) ∧ (∀ σ196 : CS, σ196 = wI σ195 (σ179.1) (Int32.toNatClampNeg 15) (-1) → ((σ179.1) < CB ∧ (gK σ196 (σ179.1) = some (.inr (0, gN σ196 (σ179.1))) ∧ (vp_in 16 (gN σ196 (σ179.1)) ∧ (∀ σ197 : CS, σ197 = wI σ196 (σ179.1) (Int32.toNatClampNeg 16) (-1) → ((σ179.1) < CB ∧ (gK σ197 (σ179.1) = some (.inr (0, gN σ197 (σ179.1))) ∧ (vp_in 17 (gN σ197 (σ179.1)) ∧ (∀ σ198 : CS, σ198 = wI σ197 (σ179.1) (Int32.toNatClampNeg 17) (-1) → ((σ179.1) < CB ∧ (gK σ198 (σ179.1) = some (.inr (0, gN σ198 (σ179.1))) ∧ (vp_in 18 (gN σ198 (σ179.1)) ∧ (∀ σ199 : CS, σ199 = wI σ198 (σ179.1) (Int32.toNatClampNeg 18) (-1) → ((σ179.1) < CB ∧ (gK σ199 (σ179.1) = some (.inr (0, gN σ199 (σ179.1))) ∧ (vp_in 19 (gN σ199 (σ179.1)) ∧ (∀ σ200 : CS, σ200 = wI σ199 (σ179.1) (Int32.toNatClampNeg 19) (-1) → (ob < CB ∧ (gK σ200 ob = some kO6c ∧ (∀ σ201 : CS, σ201 = wR σ200 ob 45 ((σ179.1) + 1) → (U_X6_init_961 mc ms K ob (cx + 1 + 1 + 1 + 1) ((((zx + (Int32.toNatClampNeg 48)) + (Int32.toNatClampNeg 48)) + (Int32.toNatClampNeg 16)) + (Int32.toNatClampNeg 20)) σ201))))))))))))))))))))))))))))))))))))))))))))))))))))))))))))))))))))))))))))))))))))))))))))))))))))))))))))))))
def U_X6_init_761 (mc ms : Nat) (K : Unit → CS → Prop) (ob : Nat) (cx : Nat) (zx : Nat) (σ : CS) : Prop := ¬ (3 : Int32) < 0 ∧ ((Int32.toNatClampNeg 3) ≤ 1000000 ∧ ((cx + 1 ≤ mc ∧ zx + (Int32.toNatClampNeg 3) ≤ ms) ∧ (σ.1 < CB ∧ (∀ σ202 : CS, σ202 = nC σ (.inr (3, (Int32.toNatClampNeg 3))) → ((σ.1) < CB ∧ (gK σ202 (σ.1) = some (.inr (3, gN σ202 (σ.1))) ∧ (vp_in 0 (gN σ202 (σ.1)) ∧ (∀ σ203 : CS, σ203 = wI σ202 (σ.1) (Int32.toNatClampNeg 0) (vp_nar .char 97) → ((σ.1) < CB ∧ (gK σ203 (σ.1) = some (.inr (3, gN σ203 (σ.1))) ∧ (vp_in 1 (gN σ203 (σ.1)) ∧ (∀ σ204 : CS, σ204 = wI σ203 (σ.1) (Int32.toNatClampNeg 1) (vp_nar .char 108) → ((σ.1) < CB ∧ (gK σ204 (σ.1) = some (.inr (3, gN σ204 (σ.1))) ∧ (vp_in 2 (gN σ204 (σ.1)) ∧ (∀ σ205 : CS, σ205 = wI σ204 (σ.1) (Int32.toNatClampNeg 2) (vp_nar .char 108) → (ob < CB ∧ (gK σ205 ob = some kO6c ∧ (∀ σ206 : CS, σ206 = wR σ205 ob 35 ((σ.1) + 1) → (¬ (3 : Int32) < 0 ∧ ((Int32.toNatClampNeg 3) ≤ 1000000 ∧ ((cx + 1 + 1 ≤ mc ∧ (zx + (Int32.toNatClampNeg 3)) + (Int32.toNatClampNeg 3) ≤ ms) ∧ (σ206.1 < CB ∧ (∀ σ207 : CS, σ207 = nC σ206 (.inr (3, (Int32.toNatClampNeg 3))) → ((σ206.1) < CB ∧ (gK σ207 (σ206.1) = some (.inr (3, gN σ207 (σ206.1))) ∧ (vp_in 0 (gN σ207 (σ206.1)) ∧ (∀ σ208 : CS, σ208 = wI σ207 (σ206.1) (Int32.toNatClampNeg 0) (vp_nar .char 109) → ((σ206.1) < CB ∧ (gK σ208 (σ206.1) = some (.inr (3, gN σ208 (σ206.1))) ∧ (vp_in 1 (gN σ208 (σ206.1)) ∧ (∀ σ209 : CS, σ209 = wI σ208 (σ206.1) (Int32.toNatClampNeg 1) (vp_nar .char 105) → ((σ206.1) < CB ∧ (gK σ209 (σ206.1) = some (.inr (3, gN σ209 (σ206.1))) ∧ (vp_in 2 (gN σ209 (σ206.1)) ∧ (∀ σ210 : CS, σ210 = wI σ209 (σ206.1) (Int32.toNatClampNeg 2) (vp_nar .char 110) → (ob < CB ∧ (gK σ210 ob = some kO6c ∧ (∀ σ211 : CS, σ211 = wR σ210 ob 36 ((σ206.1) + 1) → (¬ (3 : Int32) < 0 ∧ ((Int32.toNatClampNeg 3) ≤ 1000000 ∧ ((cx + 1 + 1 + 1 ≤ mc ∧ ((zx + (Int32.toNatClampNeg 3)) + (Int32.toNatClampNeg 3)) + (Int32.toNatClampNeg 3) ≤ ms) ∧ (σ211.1 < CB ∧ (∀ σ212 : CS, σ212 = nC σ211 (.inr (3, (Int32.toNatClampNeg 3))) → ((σ211.1) < CB ∧ (gK σ212 (σ211.1) = some (.inr (3, gN σ212 (σ211.1))) ∧ (vp_in 0 (gN σ212 (σ211.1)) ∧ (∀ σ213 : CS, σ213 = wI σ212 (σ211.1) (Int32.toNatClampNeg 0) (vp_nar .char 109) → ((σ211.1) < CB ∧ (gK σ213 (σ211.1) = some (.inr (3, gN σ213 (σ211.1))) ∧ (vp_in 1 (gN σ213 (σ211.1)) ∧ (∀ σ214 : CS, σ214 = wI σ213 (σ211.1) (Int32.toNatClampNeg 1) (vp_nar .char 97) → ((σ211.1) < CB ∧ (gK σ214 (σ211.1) = some (.inr (3, gN σ214 (σ211.1))) ∧ (vp_in 2 (gN σ214 (σ211.1)) ∧ (∀ σ215 : CS, σ215 = wI σ214 (σ211.1) (Int32.toNatClampNeg 2) (vp_nar .char 120) → (ob < CB ∧ (gK σ215 ob = some kO6c ∧ (∀ σ216 : CS, σ216 = wR σ215 ob 37 ((σ211.1) + 1) → (¬ (6 : Int32) < 0 ∧ ((Int32.toNatClampNeg 6) ≤ 1000000 ∧ ((cx + 1 + 1 + 1 + 1 ≤ mc ∧ (((zx + (Int32.toNatClampNeg 3)) + (Int32.toNatClampNeg 3)) + (Int32.toNatClampNeg 3)) + (Int32.toNatClampNeg 6) ≤ ms) ∧ (σ216.1 < CB ∧ (∀ σ217 : CS, σ217 = nC σ216 (.inr (0, (Int32.toNatClampNeg 6))) → (ob < CB ∧ (gK σ217 ob = some kO6c ∧ (∀ σ218 : CS, σ218 = wR σ217 ob 39 ((σ216.1) + 1) → (U_X6_init_835 mc ms K ob (cx + 1 + 1 + 1 + 1) ((((zx + (Int32.toNatClampNeg 3)) + (Int32.toNatClampNeg 3)) + (Int32.toNatClampNeg 3)) + (Int32.toNatClampNeg 6)) σ218))))))))))))))))))))))))))))))))))))))))))))))))))))))))))))))))))))
def U_X6_init_673 (mc ms : Nat) (K : Unit → CS → Prop) (ob : Nat) (cx : Nat) (zx : Nat) (σ : CS) : Prop := ¬ (4 : Int32) < 0 ∧ ((Int32.toNatClampNeg 4) ≤ 1000000 ∧ ((cx + 1 ≤ mc ∧ zx + (Int32.toNatClampNeg 4) ≤ ms) ∧ (σ.1 < CB ∧ (∀ σ219 : CS, σ219 = nC σ (.inr (3, (Int32.toNatClampNeg 4))) → ((σ.1) < CB ∧ (gK σ219 (σ.1) = some (.inr (3, gN σ219 (σ.1))) ∧ (vp_in 0 (gN σ219 (σ.1)) ∧ (∀ σ220 : CS, σ220 = wI σ219 (σ.1) (Int32.toNatClampNeg 0) (vp_nar .char 108) → ((σ.1) < CB ∧ (gK σ220 (σ.1) = some (.inr (3, gN σ220 (σ.1))) ∧ (vp_in 1 (gN σ220 (σ.1)) ∧ (∀ σ221 : CS, σ221 = wI σ220 (σ.1) (Int32.toNatClampNeg 1) (vp_nar .char 97) → ((σ.1) < CB ∧ (gK σ221 (σ.1) = some (.inr (3, gN σ221 (σ.1))) ∧ (vp_in 2 (gN σ221 (σ.1)) ∧ (∀ σ222 : CS, σ222 = wI σ221 (σ.1) (Int32.toNatClampNeg 2) (vp_nar .char 115) → ((σ.1) < CB ∧ (gK σ222 (σ.1) = some (.inr (3, gN σ222 (σ.1))) ∧ (vp_in 3 (gN σ222 (σ.1)) ∧ (∀ σ223 : CS, σ223 = wI σ222 (σ.1) (Int32.toNatClampNeg 3) (vp_nar .char 116) → (ob < CB ∧ (gK σ223 ob = some kO6c ∧ (∀ σ224 : CS, σ224 = wR σ223 ob 31 ((σ.1) + 1) → (¬ (2 : Int32) < 0 ∧ ((Int32.toNatClampNeg 2) ≤ 1000000 ∧ ((cx + 1 + 1 ≤ mc ∧ (zx + (Int32.toNatClampNeg 4)) + (Int32.toNatClampNeg 2) ≤ ms) ∧ (σ224.1 < CB ∧ (∀ σ225 : CS, σ225 = nC σ224 (.inr (3, (Int32.toNatClampNeg 2))) → ((σ224.1) < CB ∧ (gK σ225 (σ224.1) = some (.inr (3, gN σ225 (σ224.1))) ∧ (vp_in 0 (gN σ225 (σ224.1)) ∧ (∀ σ226 : CS, σ226 = wI σ225 (σ224.1) (Int32.toNatClampNeg 0) (vp_nar .char 111) → ((σ224.1) < CB ∧ (gK σ226 (σ224.1) = some (.inr (3, gN σ226 (σ224.1))) ∧ (vp_in 1 (gN σ226 (σ224.1)) ∧ (∀ σ227 : CS, σ227 = wI σ226 (σ224.1) (Int32.toNatClampNeg 1) (vp_nar .char 114) → (ob < CB ∧ (gK σ227 ob = some kO6c ∧ (∀ σ228 : CS, σ228 = wR σ227 ob 32 ((σ224.1) + 1) → (¬ (3 : Int32) < 0 ∧ ((Int32.toNatClampNeg 3) ≤ 1000000 ∧ ((cx + 1 + 1 + 1 ≤ mc ∧ ((zx + (Int32.toNatClampNeg 4)) + (Int32.toNatClampNeg 2)) + (Int32.toNatClampNeg 3) ≤ ms) ∧ (σ228.1 < CB ∧ (∀ σ229 : CS, σ229 = nC σ228 (.inr (3, (Int32.toNatClampNeg 3))) → ((σ228.1) < CB ∧ (gK σ229 (σ228.1) = some (.inr (3, gN σ229 (σ228.1))) ∧ (vp_in 0 (gN σ229 (σ228.1)) ∧ (∀ σ230 : CS, σ230 = wI σ229 (σ228.1) (Int32.toNatClampNeg 0) (vp_nar .char 97) → ((σ228.1) < CB ∧ (gK σ230 (σ228.1) = some (.inr (3, gN σ230 (σ228.1))) ∧ (vp_in 1 (gN σ230 (σ228.1)) ∧ (∀ σ231 : CS, σ231 = wI σ230 (σ228.1) (Int32.toNatClampNeg 1) (vp_nar .char 110) → ((σ228.1) < CB ∧ (gK σ231 (σ228.1) = some (.inr (3, gN σ231 (σ228.1))) ∧ (vp_in 2 (gN σ231 (σ228.1)) ∧ (∀ σ232 : CS, σ232 = wI σ231 (σ228.1) (Int32.toNatClampNeg 2) (vp_nar .char 100) → (ob < CB ∧ (gK σ232 ob = some kO6c ∧ (∀ σ233 : CS, σ233 = wR σ232 ob 33 ((σ228.1) + 1) → (¬ (3 : Int32) < 0 ∧ ((Int32.toNatClampNeg 3) ≤ 1000000 ∧ ((cx + 1 + 1 + 1 + 1 ≤ mc ∧ (((zx + (Int32.toNatClampNeg 4)) + (Int32.toNatClampNeg 2)) + (Int32.toNatClampNeg 3)) + (Int32.toNatClampNeg 3) ≤ ms) ∧ (σ233.1 < CB ∧ (∀ σ234 : CS, σ234 = nC σ233 (.inr (3, (Int32.toNatClampNeg 3))) → ((σ233.1) < CB ∧ (gK σ234 (σ233.1) = some (.inr (3, gN σ234 (σ233.1))) ∧ (vp_in 0 (gN σ234 (σ233.1)) ∧ (∀ σ235 : CS, σ235 = wI σ234 (σ233.1) (Int32.toNatClampNeg 0) (vp_nar .char 110) → ((σ233.1) < CB ∧ (gK σ235 (σ233.1) = some (.inr (3, gN σ235 (σ233.1))) ∧ (vp_in 1 (gN σ235 (σ233.1)) ∧ (∀ σ236 : CS, σ236 = wI σ235 (σ233.1) (Int32.toNatClampNeg 1) (vp_nar .char 111) → ((σ233.1) < CB ∧ (gK σ236 (σ233.1) = some (.inr (3, gN σ236 (σ233.1))) ∧ (vp_in 2 (gN σ236 (σ233.1)) ∧ (∀ σ237 : CS, σ237 = wI σ236 (σ233.1) (Int32.toNatClampNeg 2) (vp_nar .char 116) → (ob < CB ∧ (gK σ237 ob = some kO6c ∧ (∀ σ238 : CS, σ238 = wR σ237 ob 34 ((σ233.1) + 1) → (U_X6_init_761 mc ms K ob (cx + 1 + 1 + 1 + 1) ((((zx + (Int32.toNatClampNeg 4)) + (Int32.toNatClampNeg 2)) + (Int32.toNatClampNeg 3)) + (Int32.toNatClampNeg 3)) σ238))))))))))))))))))))))))))))))))))))))))))))))))))))))))))))))))))))))))))))))))
def U_X6_init_548 (mc ms : Nat) (K : Unit → CS → Prop) (ob : Nat) (cx : Nat) (zx : Nat) (σ : CS) : Prop := ¬ (3 : Int32) < 0 ∧ ((Int32.toNatClampNeg 3) ≤ 1000000 ∧ ((cx + 1 ≤ mc ∧ zx + (Int32.toNatClampNeg 3) ≤ ms) ∧ (σ.1 < CB ∧ (∀ σ239 : CS, σ239 = nC σ (.inr (3, (Int32.toNatClampNeg 3))) → ((σ.1) < CB ∧ (gK σ239 (σ.1) = some (.inr (3, gN σ239 (σ.1))) ∧ (vp_in 0 (gN σ239 (σ.1)) ∧ (∀ σ240 : CS, σ240 = wI σ239 (σ.1) (Int32.toNatClampNeg 0) (vp_nar .char 100) → ((σ.1) < CB ∧ (gK σ240 (σ.1) = some (.inr (3, gN σ240 (σ.1))) ∧ (vp_in 1 (gN σ240 (σ.1)) ∧ (∀ σ241 : CS, σ241 = wI σ240 (σ.1) (Int32.toNatClampNeg 1) (vp_nar .char 97) → ((σ.1) < CB ∧ (gK σ241 (σ.1) = some (.inr (3, gN σ241 (σ.1))) ∧ (vp_in 2 (gN σ241 (σ.1)) ∧ (∀ σ242 : CS, σ242 = wI σ241 (σ.1) (Int32.toNatClampNeg 2) (vp_nar .char 121) → (ob < CB ∧ (gK σ242 ob = some kO6c ∧ (∀ σ243 : CS, σ243 = wR σ242 ob 27 ((σ.1) + 1) → (¬ (4 : Int32) < 0 ∧ ((Int32.toNatClampNeg 4) ≤ 1000000 ∧ ((cx + 1 + 1 ≤ mc ∧ (zx + (Int32.toNatClampNeg 3)) + (Int32.toNatClampNeg 4) ≤ ms) ∧ (σ243.1 < CB ∧ (∀ σ244 : CS, σ244 = nC σ243 (.inr (3, (Int32.toNatClampNeg 4))) → ((σ243.1) < CB ∧ (gK σ244 (σ243.1) = some (.inr (3, gN σ244 (σ243.1))) ∧ (vp_in 0 (gN σ244 (σ243.1)) ∧ (∀ σ245 : CS, σ245 = wI σ244 (σ243.1) (Int32.toNatClampNeg 0) (vp_nar .char 103) → ((σ243.1) < CB ∧ (gK σ245 (σ243.1) = some (.inr (3, gN σ245 (σ243.1))) ∧ (vp_in 1 (gN σ245 (σ243.1)) ∧ (∀ σ246 : CS, σ246 = wI σ245 (σ243.1) (Int32.toNatClampNeg 1) (vp_nar .char 108) → ((σ243.1) < CB ∧ (gK σ246 (σ243.1) = some (.inr (3, gN σ246 (σ243.1))) ∧ (vp_in 2 (gN σ246 (σ243.1)) ∧ (∀ σ247 : CS, σ247 = wI σ246 (σ243.1) (Int32.toNatClampNeg 2) (vp_nar .char 117) → ((σ243.1) < CB ∧ (gK σ247 (σ243.1) = some (.inr (3, gN σ247 (σ243.1))) ∧ (vp_in 3 (gN σ247 (σ243.1)) ∧ (∀ σ248 : CS, σ248 = wI σ247 (σ243.1) (Int32.toNatClampNeg 3) (vp_nar .char 101) → (ob < CB ∧ (gK σ248 ob = some kO6c ∧ (∀ σ249 : CS, σ249 = wR σ248 ob 28 ((σ243.1) + 1) → (¬ (6 : Int32) < 0 ∧ ((Int32.toNatClampNeg 6) ≤ 1000000 ∧ ((cx + 1 + 1 + 1 ≤ mc ∧ ((zx + (Int32.toNatClampNeg 3)) + (Int32.toNatClampNeg 4)) + (Int32.toNatClampNeg 6) ≤ ms) ∧ (σ249.1 < CB ∧ (∀ σ250 : CS, σ250 = nC σ249 (.inr (3, (Int32.toNatClampNeg 6))) → ((σ249.1) < CB ∧ (gK σ250 (σ249.1) = some (.inr (3, gN σ250 (σ249.1))) ∧ (vp_in 0 (gN σ250 (σ249.1)) ∧ (∀ σ251 : CS, σ251 = wI σ250 (σ249.1) (Int32.toNatClampNeg 0) (vp_nar .char 110) → ((σ249.1) < CB ∧ (gK σ251 (σ249.1) = some (.inr (3, gN σ251 (σ249.1))) ∧ (vp_in 1 (gN σ251 (σ249.1)) ∧ (∀ σ252 : CS, σ252 = wI σ251 (σ249.1) (Int32.toNatClampNeg 1) (vp_nar .char 117) → ((σ249.1) < CB ∧ (gK σ252 (σ249.1) = some (.inr (3, gN σ252 (σ249.1))) ∧ (vp_in 2 (gN σ252 (σ249.1)) ∧ (∀ σ253 : CS, σ253 = wI σ252 (σ249.1) (Int32.toNatClampNeg 2) (vp_nar .char 109) → ((σ249.1) < CB ∧ (gK σ253 (σ249.1) = some (.inr (3, gN σ253 (σ249.1))) ∧ (vp_in 3 (gN σ253 (σ249.1)) ∧ (∀ σ254 : CS, σ254 = wI σ253 (σ249.1) (Int32.toNatClampNeg 3) (vp_nar .char 98) → ((σ249.1) < CB ∧ (gK σ254 (σ249.1) = some (.inr (3, gN σ254 (σ249.1))) ∧ (vp_in 4 (gN σ254 (σ249.1)) ∧ (∀ σ255 : CS, σ255 = wI σ254 (σ249.1) (Int32.toNatClampNeg 4) (vp_nar .char 101) → ((σ249.1) < CB ∧ (gK σ255 (σ249.1) = some (.inr (3, gN σ255 (σ249.1))) ∧ (vp_in 5 (gN σ255 (σ249.1)) ∧ (∀ σ256 : CS, σ256 = wI σ255 (σ249.1) (Int32.toNatClampNeg 5) (vp_nar .char 114) → (ob < CB ∧ (gK σ256 ob = some kO6c ∧ (∀ σ257 : CS, σ257 = wR σ256 ob 29 ((σ249.1) + 1) → (¬ (6 : Int32) < 0 ∧ ((Int32.toNatClampNeg 6) ≤ 1000000 ∧ ((cx + 1 + 1 + 1 + 1 ≤ mc ∧ (((zx + (Int32.toNatClampNeg 3)) + (Int32.toNatClampNeg 4)) + (Int32.toNatClampNeg 6)) + (Int32.toNatClampNeg 6) ≤ ms) ∧ (σ257.1 < CB ∧ (∀ σ258 : CS, σ258 = nC σ257 (.inr (3, (Int32.toNatClampNeg 6))) → ((σ257.1) < CB ∧ (gK σ258 (σ257.1) = some (.inr (3, gN σ258 (σ257.1))) ∧ (vp_in 0 (gN σ258 (σ257.1)) ∧ (∀ σ259 : CS, σ259 = wI σ258 (σ257.1) (Int32.toNatClampNeg 0) (vp_nar .char 102) → ((σ257.1) < CB ∧ (gK σ259 (σ257.1) = some (.inr (3, gN σ259 (σ257.1))) ∧ (vp_in 1 (gN σ259 (σ257.1)) ∧ (∀ σ260 : CS, σ260 = wI σ259 (σ257.1) (Int32.toNatClampNeg 1) (vp_nar .char 111) → ((σ257.1) < CB ∧ (gK σ260 (σ257.1) = some (.inr (3, gN σ260 (σ257.1))) ∧ (vp_in 2 (gN σ260 (σ257.1)) ∧ (∀ σ261 : CS, σ261 = wI σ260 (σ257.1) (Int32.toNatClampNeg 2) (vp_nar .char 114) → ((σ257.1) < CB ∧ (gK σ261 (σ257.1) = some (.inr (3, gN σ261 (σ257.1))) ∧ (vp_in 3 (gN σ261 (σ257.1)) ∧ (∀ σ262 : CS, σ262 = wI σ261 (σ257.1) (Int32.toNatClampNeg 3) (vp_nar .char 103) → ((σ257.1) < CB ∧ (gK σ262 (σ257.1) = some (.inr (3, gN σ262 (σ257.1))) ∧ (vp_in 4 (gN σ262 (σ257.1)) ∧ (∀ σ263 : CS, σ263 = wI σ262 (σ257.1) (Int32.toNatClampNeg 4) (vp_nar .char 101) → ((σ257.1) < CB ∧ (gK σ263 (σ257.1) = some (.inr (3, gN σ263 (σ257.1))) ∧ (vp_in 5 (gN σ263 (σ257.1)) ∧ (∀ σ264 : CS, σ264 = wI σ263 (σ257.1) (Int32.toNatClampNeg 5) (vp_nar .char 100) → (ob < CB ∧ (gK σ264 ob = some kO6c ∧ (∀ σ265 : CS, σ265 = wR σ264 ob 30 ((σ257.1) + 1) → (U_X6_init_673 mc ms K ob (cx + 1 + 1 + 1 + 1) ((((zx + (Int32.toNatClampNeg 3)) + (Int32.toNatClampNeg 4)) + (Int32.toNatClampNeg 6)) + (Int32.toNatClampNeg 6)) σ265))))))))))))))))))))))))))))))))))))))))))))))))))))))))))))))))))))))))))))))))))))))))))))))))))))))))))))
def U_X6_init_424 (mc ms : Nat) (K : Unit → CS → Prop) (ob : Nat) (cx : Nat) (zx : Nat) (σ : CS) : Prop := ¬ (5 : Int32) < 0 ∧ ((Int32.toNatClampNeg 5) ≤ 1000000 ∧ ((cx + 1 ≤ mc ∧ zx + (Int32.toNatClampNeg 5) ≤ ms) ∧ (σ.1 < CB ∧ (∀ σ266 : CS, σ266 = nC σ (.inr (3, (Int32.toNatClampNeg 5))) → ((σ.1) < CB ∧ (gK σ266 (σ.1) = some (.inr (3, gN σ266 (σ.1))) ∧ (vp_in 0 (gN σ266 (σ.1)) ∧ (∀ σ267 : CS, σ267 = wI σ266 (σ.1) (Int32.toNatClampNeg 0) (vp_nar .char 102) → ((σ.1) < CB ∧ (gK σ267 (σ.1) = some (.inr (3, gN σ267 (σ.1))) ∧ (vp_in 1 (gN σ267 (σ.1)) ∧ (∀ σ268 : CS, σ268 = wI σ267 (σ.1) (Int32.toNatClampNeg 1) (vp_nar .char 105) → ((σ.1) < CB ∧ (gK σ268 (σ.1) = some (.inr (3, gN σ268 (σ.1))) ∧ (vp_in 2 (gN σ268 (σ.1)) ∧ (∀ σ269 : CS, σ269 = wI σ268 (σ.1) (Int32.toNatClampNeg 2) (vp_nar .char 114) → ((σ.1) < CB ∧ (gK σ269 (σ.1) = some (.inr (3, gN σ269 (σ.1))) ∧ (vp_in 3 (gN σ269 (σ.1)) ∧ (∀ σ270 : CS, σ270 = wI σ269 (σ.1) (Int32.toNatClampNeg 3) (vp_nar .char 115) → ((σ.1) < CB ∧ (gK σ270 (σ.1) = some (.inr (3, gN σ270 (σ.1))) ∧ (vp_in 4 (gN σ270 (σ.1)) ∧ (∀ σ271 : CS, σ271 = wI σ270 (σ.1) (Int32.toNatClampNeg 4) (vp_nar .char 116) → (ob < CB ∧ (gK σ271 ob = some kO6c ∧ (∀ σ272 : CS, σ272 = wR σ271 ob 23 ((σ.1) + 1) → (¬ (3 : Int32) < 0 ∧ ((Int32.toNatClampNeg 3) ≤ 1000000 ∧ ((cx + 1 + 1 ≤ mc ∧ (zx + (Int32.toNatClampNeg 5)) + (Int32.toNatClampNeg 3) ≤ ms) ∧ (σ272.1 < CB ∧ (∀ σ273 : CS, σ273 = nC σ272 (.inr (3, (Int32.toNatClampNeg 3))) → ((σ272.1) < CB ∧ (gK σ273 (σ272.1) = some (.inr (3, gN σ273 (σ272.1))) ∧ (vp_in 0 (gN σ273 (σ272.1)) ∧ (∀ σ274 : CS, σ274 = wI σ273 (σ272.1) (Int32.toNatClampNeg 0) (vp_nar .char 99) → ((σ272.1) < CB ∧ (gK σ274 (σ272.1) = some (.inr (3, gN σ274 (σ272.1))) ∧ (vp_in 1 (gN σ274 (σ272.1)) ∧ (∀ σ275 : CS, σ275 = wI σ274 (σ272.1) (Int32.toNatClampNeg 1) (vp_nar .char 97) → ((σ272.1) < CB ∧ (gK σ275 (σ272.1) = some (.inr (3, gN σ275 (σ272.1))) ∧ (vp_in 2 (gN σ275 (σ272.1)) ∧ (∀ σ276 : CS, σ276 = wI σ275 (σ272.1) (Int32.toNatClampNeg 2) (vp_nar .char 116) → (ob < CB ∧ (gK σ276 ob = some kO6c ∧ (∀ σ277 : CS, σ277 = wR σ276 ob 24 ((σ272.1) + 1) → (¬ (6 : Int32) < 0 ∧ ((Int32.toNatClampNeg 6) ≤ 1000000 ∧ ((cx + 1 + 1 + 1 ≤ mc ∧ ((zx + (Int32.toNatClampNeg 5)) + (Int32.toNatClampNeg 3)) + (Int32.toNatClampNeg 6) ≤ ms) ∧ (σ277.1 < CB ∧ (∀ σ278 : CS, σ278 = nC σ277 (.inr (3, (Int32.toNatClampNeg 6))) → ((σ277.1) < CB ∧ (gK σ278 (σ277.1) = some (.inr (3, gN σ278 (σ277.1))) ∧ (vp_in 0 (gN σ278 (σ277.1)) ∧ (∀ σ279 : CS, σ279 = wI σ278 (σ277.1) (Int32.toNatClampNeg 0) (vp_nar .char 98) → ((σ277.1) < CB ∧ (gK σ279 (σ277.1) = some (.inr (3, gN σ279 (σ277.1))) ∧ (vp_in 1 (gN σ279 (σ277.1)) ∧ (∀ σ280 : CS, σ280 = wI σ279 (σ277.1) (Int32.toNatClampNeg 1) (vp_nar .char 114) → ((σ277.1) < CB ∧ (gK σ280 (σ277.1) = some (.inr (3, gN σ280 (σ277.1))) ∧ (vp_in 2 (gN σ280 (σ277.1)) ∧ (∀ σ281 : CS, σ281 = wI σ280 (σ277.1) (Int32.toNatClampNeg 2) (vp_nar .char 101) → ((σ277.1) < CB ∧ (gK σ281 (σ277.1) = some (.inr (3, gN σ281 (σ277.1))) ∧ (vp_in 3 (gN σ281 (σ277.1)) ∧ (∀ σ282 : CS, σ282 = wI σ281 (σ277.1) (Int32.toNatClampNeg 3) (vp_nar .char 97) → ((σ277.1) < CB ∧ (gK σ282 (σ277.1) = some (.inr (3, gN σ282 (σ277.1))) ∧ (vp_in 4 (gN σ282 (σ277.1)) ∧ (∀ σ283 : CS, σ283 = wI σ282 (σ277.1) (Int32.toNatClampNeg 4) (vp_nar .char 107) → ((σ277.1) < CB ∧ (gK σ283 (σ277.1) = some (.inr (3, gN σ283 (σ277.1))) ∧ (vp_in 5 (gN σ283 (σ277.1)) ∧ (∀ σ284 : CS, σ284 = wI σ283 (σ277.1) (Int32.toNatClampNeg 5) (vp_nar .char 115) → (ob < CB ∧ (gK σ284 ob = some kO6c ∧ (∀ σ285 : CS, σ285 = wR σ284 ob 25 ((σ277.1) + 1) → (¬ (5 : Int32) < 0 ∧ ((Int32.toNatClampNeg 5) ≤ 1000000 ∧ ((cx + 1 + 1 + 1 + 1 ≤ mc ∧ (((zx + (Int32.toNatClampNeg 5)) + (Int32.toNatClampNeg 3)) + (Int32.toNatClampNeg 6)) + (Int32.toNatClampNeg 5) ≤ ms) ∧ (σ285.1 < CB ∧ (∀ σ286 : CS, σ286 = nC σ285 (.inr (3, (Int32.toNatClampNeg 5))) → ((σ285.1) < CB ∧ (gK σ286 (σ285.1) = some (.inr (3, gN σ286 (σ285.1))) ∧ (vp_in 0 (gN σ286 (σ285.1)) ∧ (∀ σ287 : CS, σ287 = wI σ286 (σ285.1) (Int32.toNatClampNeg 0) (vp_nar .char 109) → ((σ285.1) < CB ∧ (gK σ287 (σ285.1) = some (.inr (3, gN σ287 (σ285.1))) ∧ (vp_in 1 (gN σ287 (σ285.1)) ∧ (∀ σ288 : CS, σ288 = wI σ287 (σ285.1) (Int32.toNatClampNeg 1) (vp_nar .char 101) → ((σ285.1) < CB ∧ (gK σ288 (σ285.1) = some (.inr (3, gN σ288 (σ285.1))) ∧ (vp_in 2 (gN σ288 (σ285.1)) ∧ (∀ σ289 : CS, σ289 = wI σ288 (σ285.1) (Int32.toNatClampNeg 2) (vp_nar .char 110) → ((σ285.1) < CB ∧ (gK σ289 (σ285.1) = some (.inr (3, gN σ289 (σ285.1))) ∧ (vp_in 3 (gN σ289 (σ285.1)) ∧ (∀ σ290 : CS, σ290 = wI σ289 (σ285.1) (Int32.toNatClampNeg 3) (vp_nar .char 100) → ((σ285.1) < CB ∧ (gK σ290 (σ285.1) = some (.inr (3, gN σ290 (σ285.1))) ∧ (vp_in 4 (gN σ290 (σ285.1)) ∧ (∀ σ291 : CS, σ291 = wI σ290 (σ285.1) (Int32.toNatClampNeg 4) (vp_nar .char 115) → (ob < CB ∧ (gK σ291 ob = some kO6c ∧ (∀ σ292 : CS, σ292 = wR σ291 ob 26 ((σ285.1) + 1) → (U_X6_init_548 mc ms K ob (cx + 1 + 1 + 1 + 1) ((((zx + (Int32.toNatClampNeg 5)) + (Int32.toNatClampNeg 3)) + (Int32.toNatClampNeg 6)) + (Int32.toNatClampNeg 5)) σ292))))))))))))))))))))))))))))))))))))))))))))))))))))))))))))))))))))))))))))))))))))))))))))))))))))))))))))
def U_X6_init_295 (mc ms : Nat) (K : Unit → CS → Prop) (ob : Nat) (cx : Nat) (zx : Nat) (σ : CS) : Prop := ¬ (6 : Int32) < 0 ∧ ((Int32.toNatClampNeg 6) ≤ 1000000 ∧ ((cx + 1 ≤ mc ∧ zx + (Int32.toNatClampNeg 6) ≤ ms) ∧ (σ.1 < CB ∧ (∀ σ293 : CS, σ293 = nC σ (.inr (3, (Int32.toNatClampNeg 6))) → ((σ.1) < CB ∧ (gK σ293 (σ.1) = some (.inr (3, gN σ293 (σ.1))) ∧ (vp_in 0 (gN σ293 (σ.1)) ∧ (∀ σ294 : CS, σ294 = wI σ293 (σ.1) (Int32.toNatClampNeg 0) (vp_nar .char 115) → ((σ.1) < CB ∧ (gK σ294 (σ.1) = some (.inr (3, gN σ294 (σ.1))) ∧ (vp_in 1 (gN σ294 (σ.1)) ∧ (∀ σ295 : CS, σ295 = wI σ294 (σ.1) (Int32.toNatClampNeg 1) (vp_nar .char 116) → ((σ.1) < CB ∧ (gK σ295 (σ.1) = some (.inr (3, gN σ295 (σ.1))) ∧ (vp_in 2 (gN σ295 (σ.1)) ∧ (∀ σ296 : CS, σ296 = wI σ295 (σ.1) (Int32.toNatClampNeg 2) (vp_nar .char 97) → ((σ.1) < CB ∧ (gK σ296 (σ.1) = some (.inr (3, gN σ296 (σ.1))) ∧ (vp_in 3 (gN σ296 (σ.1)) ∧ (∀ σ297 : CS, σ297 = wI σ296 (σ.1) (Int32.toNatClampNeg 3) (vp_nar .char 110) → ((σ.1) < CB ∧ (gK σ297 (σ.1) = some (.inr (3, gN σ297 (σ.1))) ∧ (vp_in 4 (gN σ297 (σ.1)) ∧ (∀ σ298 : CS, σ298 = wI σ297 (σ.1) (Int32.toNatClampNeg 4) (vp_nar .char 100) → ((σ.1) < CB ∧ (gK σ298 (σ.1) = some (.inr (3, gN σ298 (σ.1))) ∧ (vp_in 5 (gN σ298 (σ.1)) ∧ (∀ σ299 : CS, σ299 = wI σ298 (σ.1) (Int32.toNatClampNeg 5) (vp_nar .char 115) → (ob < CB ∧ (gK σ299 ob = some kO6c ∧ (∀ σ300 : CS, σ300 = wR σ299 ob 19 ((σ.1) + 1) → (¬ (5 : Int32) < 0 ∧ ((Int32.toNatClampNeg 5) ≤ 1000000 ∧ ((cx + 1 + 1 ≤ mc ∧ (zx + (Int32.toNatClampNeg 6)) + (Int32.toNatClampNeg 5) ≤ ms) ∧ (σ300.1 < CB ∧ (∀ σ301 : CS, σ301 = nC σ300 (.inr (3, (Int32.toNatClampNeg 5))) → ((σ300.1) < CB ∧ (gK σ301 (σ300.1) = some (.inr (3, gN σ301 (σ300.1))) ∧ (vp_in 0 (gN σ301 (σ300.1)) ∧ (∀ σ302 : CS, σ302 = wI σ301 (σ300.1) (Int32.toNatClampNeg 0) (vp_nar .char 102) → ((σ300.1) < CB ∧ (gK σ302 (σ300.1) = some (.inr (3, gN σ302 (σ300.1))) ∧ (vp_in 1 (gN σ302 (σ300.1)) ∧ (∀ σ303 : CS, σ303 = wI σ302 (σ300.1) (Int32.toNatClampNeg 1) (vp_nar .char 97) → ((σ300.1) < CB ∧ (gK σ303 (σ300.1) = some (.inr (3, gN σ303 (σ300.1))) ∧ (vp_in 2 (gN σ303 (σ300.1)) ∧ (∀ σ304 : CS, σ304 = wI σ303 (σ300.1) (Int32.toNatClampNeg 2) (vp_nar .char 108) → ((σ300.1) < CB ∧ (gK σ304 (σ300.1) = some (.inr (3, gN σ304 (σ300.1))) ∧ (vp_in 3 (gN σ304 (σ300.1)) ∧ (∀ σ305 : CS, σ305 = wI σ304 (σ300.1) (Int32.toNatClampNeg 3) (vp_nar .char 108) → ((σ300.1) < CB ∧ (gK σ305 (σ300.1) = some (.inr (3, gN σ305 (σ300.1))) ∧ (vp_in 4 (gN σ305 (σ300.1)) ∧ (∀ σ306 : CS, σ306 = wI σ305 (σ300.1) (Int32.toNatClampNeg 4) (vp_nar .char 115) → (ob < CB ∧ (gK σ306 ob = some kO6c ∧ (∀ σ307 : CS, σ307 = wR σ306 ob 20 ((σ300.1) + 1) → (¬ (5 : Int32) < 0 ∧ ((Int32.toNatClampNeg 5) ≤ 1000000 ∧ ((cx + 1 + 1 + 1 ≤ mc ∧ ((zx + (Int32.toNatClampNeg 6)) + (Int32.toNatClampNeg 5)) + (Int32.toNatClampNeg 5) ≤ ms) ∧ (σ307.1 < CB ∧ (∀ σ308 : CS, σ308 = nC σ307 (.inr (3, (Int32.toNatClampNeg 5))) → ((σ307.1) < CB ∧ (gK σ308 (σ307.1) = some (.inr (3, gN σ308 (σ307.1))) ∧ (vp_in 0 (gN σ308 (σ307.1)) ∧ (∀ σ309 : CS, σ309 = wI σ308 (σ307.1) (Int32.toNatClampNeg 0) (vp_nar .char 116) → ((σ307.1) < CB ∧ (gK σ309 (σ307.1) = some (.inr (3, gN σ309 (σ307.1))) ∧ (vp_in 1 (gN σ309 (σ307.1)) ∧ (∀ σ310 : CS, σ310 = wI σ309 (σ307.1) (Int32.toNatClampNeg 1) (vp_nar .char 97) → ((σ307.1) < CB ∧ (gK σ310 (σ307.1) = some (.inr (3, gN σ310 (σ307.1))) ∧ (vp_in 2 (gN σ310 (σ307.1)) ∧ (∀ σ311 : CS, σ311 = wI σ310 (σ307.1) (Int32.toNatClampNeg 2) (vp_nar .char 107) → ((σ307.1) < CB ∧ (gK σ311 (σ307.1) = some (.inr (3, gN σ311 (σ307.1))) ∧ (vp_in 3 (gN σ311 (σ307.1)) ∧ (∀ σ312 : CS, σ312 = wI σ311 (σ307.1) (Int32.toNatClampNeg 3) (vp_nar .char 101) → ((σ307.1) < CB ∧ (gK σ312 (σ307.1) = some (.inr (3, gN σ312 (σ307.1))) ∧ (vp_in 4 (gN σ312 (σ307.1)) ∧ (∀ σ313 : CS, σ313 = wI σ312 (σ307.1) (Int32.toNatClampNeg 4) (vp_nar .char 115) → (ob < CB ∧ (gK σ313 ob = some kO6c ∧ (∀ σ314 : CS, σ314 = wR σ313 ob 21 ((σ307.1) + 1) → (¬ (4 : Int32) < 0 ∧ ((Int32.toNatClampNeg 4) ≤ 1000000 ∧ ((cx + 1 + 1 + 1 + 1 ≤ mc ∧ (((zx + (Int32.toNatClampNeg 6)) + (Int32.toNatClampNeg 5)) + (Int32.toNatClampNeg 5)) + (Int32.toNatClampNeg 4) ≤ ms) ∧ (σ314.1 < CB ∧ (∀ σ315 : CS, σ315 = nC σ314 (.inr (3, (Int32.toNatClampNeg 4))) → ((σ314.1) < CB ∧ (gK σ315 (σ314.1) = some (.inr (3, gN σ315 (σ314.1))) ∧ (vp_in 0 (gN σ315 (σ314.1)) ∧ (∀ σ316 : CS, σ316 = wI σ315 (σ314.1) (Int32.toNatClampNeg 0) (vp_nar .char 102) → ((σ314.1) < CB ∧ (gK σ316 (σ314.1) = some (.inr (3, gN σ316 (σ314.1))) ∧ (vp_in 1 (gN σ316 (σ314.1)) ∧ (∀ σ317 : CS, σ317 = wI σ316 (σ314.1) (Int32.toNatClampNeg 1) (vp_nar .char 105) → ((σ314.1) < CB ∧ (gK σ317 (σ314.1) = some (.inr (3, gN σ317 (σ314.1))) ∧ (vp_in 2 (gN σ317 (σ314.1)) ∧ (∀ σ318 : CS, σ318 = wI σ317 (σ314.1) (Int32.toNatClampNeg 2) (vp_nar .char 110) → ((σ314.1) < CB ∧ (gK σ318 (σ314.1) = some (.inr (3, gN σ318 (σ314.1))) ∧ (vp_in 3 (gN σ318 (σ314.1)) ∧ (∀ σ319 : CS, σ319 = wI σ318 (σ314.1) (Int32.toNatClampNeg 3) (vp_nar .char 101) → (ob < CB ∧ (gK σ319 ob = some kO6c ∧ (∀ σ320 : CS, σ320 = wR σ319 ob 22 ((σ314.1) + 1) → (U_X6_init_424 mc ms K ob (cx + 1 + 1 + 1 + 1) ((((zx + (Int32.toNatClampNeg 6)) + (Int32.toNatClampNeg 5)) + (Int32.toNatClampNeg 5)) + (Int32.toNatClampNeg 4)) σ320))))))))))))))))))))))))))))))))))))))))))))))))))))))))))))))))))))))))))))))))))))))))))))))))))))))))))))))))
def U_X6_init_182 (mc ms : Nat) (K : Unit → CS → Prop) (ob : Nat) (cx : Nat) (zx : Nat) (σ : CS) : Prop := ¬ (5 : Int32) < 0 ∧ ((Int32.toNatClampNeg 5) ≤ 1000000 ∧ ((cx + 1 ≤ mc ∧ zx + (Int32.toNatClampNeg 5) ≤ ms) ∧ (σ.1 < CB ∧ (∀ σ321 : CS, σ321 = nC σ (.inr (3, (Int32.toNatClampNeg 5))) → ((σ.1) < CB ∧ (gK σ321 (σ.1) = some (.inr (3, gN σ321 (σ.1))) ∧ (vp_in 0 (gN σ321 (σ.1)) ∧ (∀ σ322 : CS, σ322 = wI σ321 (σ.1) (Int32.toNatClampNeg 0) (vp_nar .char 115) → ((σ.1) < CB ∧ (gK σ322 (σ.1) = some (.inr (3, gN σ322 (σ.1))) ∧ (vp_in 1 (gN σ322 (σ.1)) ∧ (∀ σ323 : CS, σ323 = wI σ322 (σ.1) (Int32.toNatClampNeg 1) (vp_nar .char 107) → ((σ.1) < CB ∧ (gK σ323 (σ.1) = some (.inr (3, gN σ323 (σ.1))) ∧ (vp_in 2 (gN σ323 (σ.1)) ∧ (∀ σ324 : CS, σ324 = wI σ323 (σ.1) (Int32.toNatClampNeg 2) (vp_nar .char 105) → ((σ.1) < CB ∧ (gK σ324 (σ.1) = some (.inr (3, gN σ324 (σ.1))) ∧ (vp_in 3 (gN σ324 (σ.1)) ∧ (∀ σ325 : CS, σ325 = wI σ324 (σ.1) (Int32.toNatClampNeg 3) (vp_nar .char 108) → ((σ.1) < CB ∧ (gK σ325 (σ.1) = some (.inr (3, gN σ325 (σ.1))) ∧ (vp_in 4 (gN σ325 (σ.1)) ∧ (∀ σ326 : CS, σ326 = wI σ325 (σ.1) (Int32.toNatClampNeg 4) (vp_nar .char 108) → (ob < CB ∧ (gK σ326 ob = some kO6c ∧ (∀ σ327 : CS, σ327 = wR σ326 ob 15 ((σ.1) + 1) → (¬ (5 : Int32) < 0 ∧ ((Int32.toNatClampNeg 5) ≤ 1000000 ∧ ((cx + 1 + 1 ≤ mc ∧ (zx + (Int32.toNatClampNeg 5)) + (Int32.toNatClampNeg 5) ≤ ms) ∧ (σ327.1 < CB ∧ (∀ σ328 : CS, σ328 = nC σ327 (.inr (3, (Int32.toNatClampNeg 5))) → ((σ327.1) < CB ∧ (gK σ328 (σ327.1) = some (.inr (3, gN σ328 (σ327.1))) ∧ (vp_in 0 (gN σ328 (σ327.1)) ∧ (∀ σ329 : CS, σ329 = wI σ328 (σ327.1) (Int32.toNatClampNeg 0) (vp_nar .char 104) → ((σ327.1) < CB ∧ (gK σ329 (σ327.1) = some (.inr (3, gN σ329 (σ327.1))) ∧ (vp_in 1 (gN σ329 (σ327.1)) ∧ (∀ σ330 : CS, σ330 = wI σ329 (σ327.1) (Int32.toNatClampNeg 1) (vp_nar .char 111) → ((σ327.1) < CB ∧ (gK σ330 (σ327.1) = some (.inr (3, gN σ330 (σ327.1))) ∧ (vp_in 2 (gN σ330 (σ327.1)) ∧ (∀ σ331 : CS, σ331 = wI σ330 (σ327.1) (Int32.toNatClampNeg 2) (vp_nar .char 117) → ((σ327.1) < CB ∧ (gK σ331 (σ327.1) = some (.inr (3, gN σ331 (σ327.1))) ∧ (vp_in 3 (gN σ331 (σ327.1)) ∧ (∀ σ332 : CS, σ332 = wI σ331 (σ327.1) (Int32.toNatClampNeg 3) (vp_nar .char 114) → ((σ327.1) < CB ∧ (gK σ332 (σ327.1) = some (.inr (3, gN σ332 (σ327.1))) ∧ (vp_in 4 (gN σ332 (σ327.1)) ∧ (∀ σ333 : CS, σ333 = wI σ332 (σ327.1) (Int32.toNatClampNeg 4) (vp_nar .char 115) → (ob < CB ∧ (gK σ333 ob = some kO6c ∧ (∀ σ334 : CS, σ334 = wR σ333 ob 16 ((σ327.1) + 1) → (¬ (5 : Int32) < 0 ∧ ((Int32.toNatClampNeg 5) ≤ 1000000 ∧ ((cx + 1 + 1 + 1 ≤ mc ∧ ((zx + (Int32.toNatClampNeg 5)) + (Int32.toNatClampNeg 5)) + (Int32.toNatClampNeg 5) ≤ ms) ∧ (σ334.1 < CB ∧ (∀ σ335 : CS, σ335 = nC σ334 (.inr (3, (Int32.toNatClampNeg 5))) → ((σ334.1) < CB ∧ (gK σ335 (σ334.1) = some (.inr (3, gN σ335 (σ334.1))) ∧ (vp_in 0 (gN σ335 (σ334.1)) ∧ (∀ σ336 : CS, σ336 = wI σ335 (σ334.1) (Int32.toNatClampNeg 0) (vp_nar .char 116) → ((σ334.1) < CB ∧ (gK σ336 (σ334.1) = some (.inr (3, gN σ336 (σ334.1))) ∧ (vp_in 1 (gN σ336 (σ334.1)) ∧ (∀ σ337 : CS, σ337 = wI σ336 (σ334.1) (Int32.toNatClampNeg 1) (vp_nar .char 114) → ((σ334.1) < CB ∧ (gK σ337 (σ334.1) = some (.inr (3, gN σ337 (σ334.1))) ∧ (vp_in 2 (gN σ337 (σ334.1)) ∧ (∀ σ338 : CS, σ338 = wI σ337 (σ334.1) (Int32.toNatClampNeg 2) (vp_nar .char 105) → ((σ334.1) < CB ∧ (gK σ338 (σ334.1) = some (.inr (3, gN σ338 (σ334.1))) ∧ (vp_in 3 (gN σ338 (σ334.1)) ∧ (∀ σ339 : CS, σ339 = wI σ338 (σ334.1) (Int32.toNatClampNeg 3) (vp_nar .char 97) → ((σ334.1) < CB ∧ (gK σ339 (σ334.1) = some (.inr (3, gN σ339 (σ334.1))) ∧ (vp_in 4 (gN σ339 (σ334.1)) ∧ (∀ σ340 : CS, σ340 = wI σ339 (σ334.1) (Int32.toNatClampNeg 4) (vp_nar .char 108) → (ob < CB ∧ (gK σ340 ob = some kO6c ∧ (∀ σ341 : CS, σ341 = wR σ340 ob 17 ((σ334.1) + 1) → (¬ (2 : Int32) < 0 ∧ ((Int32.toNatClampNeg 2) ≤ 1000000 ∧ ((cx + 1 + 1 + 1 + 1 ≤ mc ∧ (((zx + (Int32.toNatClampNeg 5)) + (Int32.toNatClampNeg 5)) + (Int32.toNatClampNeg 5)) + (Int32.toNatClampNeg 2) ≤ ms) ∧ (σ341.1 < CB ∧ (∀ σ342 : CS, σ342 = nC σ341 (.inr (3, (Int32.toNatClampNeg 2))) → ((σ341.1) < CB ∧ (gK σ342 (σ341.1) = some (.inr (3, gN σ342 (σ341.1))) ∧ (vp_in 0 (gN σ342 (σ341.1)) ∧ (∀ σ343 : CS, σ343 = wI σ342 (σ341.1) (Int32.toNatClampNeg 0) (vp_nar .char 105) → ((σ341.1) < CB ∧ (gK σ343 (σ341.1) = some (.inr (3, gN σ343 (σ341.1))) ∧ (vp_in 1 (gN σ343 (σ341.1)) ∧ (∀ σ344 : CS, σ344 = wI σ343 (σ341.1) (Int32.toNatClampNeg 1) (vp_nar .char 115) → (ob < CB ∧ (gK σ344 ob = some kO6c ∧ (∀ σ345 : CS, σ345 = wR σ344 ob 18 ((σ341.1) + 1) → (U_X6_init_295 mc ms K ob (cx + 1 + 1 + 1 + 1) ((((zx + (Int32.toNatClampNeg 5)) + (Int32.toNatClampNeg 5)) + (Int32.toNatClampNeg 5)) + (Int32.toNatClampNeg 2)) σ345))))))))))))))))))))))))))))))))))))))))))))))))))))))))))))))))))))))))))))))))))))))))))))))))))))
def U_X6_init_58 (mc ms : Nat) (K : Unit → CS → Prop) (ob : Nat) (cx : Nat) (zx : Nat) (σ : CS) : Prop := ¬ (5 : Int32) < 0 ∧ ((Int32.toNatClampNeg 5) ≤ 1000000 ∧ ((cx + 1 ≤ mc ∧ zx + (Int32.toNatClampNeg 5) ≤ ms) ∧ (σ.1 < CB ∧ (∀ σ346 : CS, σ346 = nC σ (.inr (3, (Int32.toNatClampNeg 5))) → ((σ.1) < CB ∧ (gK σ346 (σ.1) = some (.inr (3, gN σ346 (σ.1))) ∧ (vp_in 0 (gN σ346 (σ.1)) ∧ (∀ σ347 : CS, σ347 = wI σ346 (σ.1) (Int32.toNatClampNeg 0) (vp_nar .char 119) → ((σ.1) < CB ∧ (gK σ347 (σ.1) = some (.inr (3, gN σ347 (σ.1))) ∧ (vp_in 1 (gN σ347 (σ.1)) ∧ (∀ σ348 : CS, σ348 = wI σ347 (σ.1) (Int32.toNatClampNeg 1) (vp_nar .char 111) → ((σ.1) < CB ∧ (gK σ348 (σ.1) = some (.inr (3, gN σ348 (σ.1))) ∧ (vp_in 2 (gN σ348 (σ.1)) ∧ (∀ σ349 : CS, σ349 = wI σ348 (σ.1) (Int32.toNatClampNeg 2) (vp_nar .char 114) → ((σ.1) < CB ∧ (gK σ349 (σ.1) = some (.inr (3, gN σ349 (σ.1))) ∧ (vp_in 3 (gN σ349 (σ.1)) ∧ (∀ σ350 : CS, σ350 = wI σ349 (σ.1) (Int32.toNatClampNeg 3) (vp_nar .char 116) → ((σ.1) < CB ∧ (gK σ350 (σ.1) = some (.inr (3, gN σ350 (σ.1))) ∧ (vp_in 4 (gN σ350 (σ.1)) ∧ (∀ σ351 : CS, σ351 = wI σ350 (σ.1) (Int32.toNatClampNeg 4) (vp_nar .char 104) → (ob < CB ∧ (gK σ351 ob = some kO6c ∧ (∀ σ352 : CS, σ352 = wR σ351 ob 11 ((σ.1) + 1) → (¬ (3 : Int32) < 0 ∧ ((Int32.toNatClampNeg 3) ≤ 1000000 ∧ ((cx + 1 + 1 ≤ mc ∧ (zx + (Int32.toNatClampNeg 5)) + (Int32.toNatClampNeg 3) ≤ ms) ∧ (σ352.1 < CB ∧ (∀ σ353 : CS, σ353 = nC σ352 (.inr (3, (Int32.toNatClampNeg 3))) → ((σ352.1) < CB ∧ (gK σ353 (σ352.1) = some (.inr (3, gN σ353 (σ352.1))) ∧ (vp_in 0 (gN σ353 (σ352.1)) ∧ (∀ σ354 : CS, σ354 = wI σ353 (σ352.1) (Int32.toNatClampNeg 0) (vp_nar .char 117) → ((σ352.1) < CB ∧ (gK σ354 (σ352.1) = some (.inr (3, gN σ354 (σ352.1))) ∧ (vp_in 1 (gN σ354 (σ352.1)) ∧ (∀ σ355 : CS, σ355 = wI σ354 (σ352.1) (Int32.toNatClampNeg 1) (vp_nar .char 115) → ((σ352.1) < CB ∧ (gK σ355 (σ352.1) = some (.inr (3, gN σ355 (σ352.1))) ∧ (vp_in 2 (gN σ355 (σ352.1)) ∧ (∀ σ356 : CS, σ356 = wI σ355 (σ352.1) (Int32.toNatClampNeg 2) (vp_nar .char 101) → (ob < CB ∧ (gK σ356 ob = some kO6c ∧ (∀ σ357 : CS, σ357 = wR σ356 ob 12 ((σ352.1) + 1) → (¬ (5 : Int32) < 0 ∧ ((Int32.toNatClampNeg 5) ≤ 1000000 ∧ ((cx + 1 + 1 + 1 ≤ mc ∧ ((zx + (Int32.toNatClampNeg 5)) + (Int32.toNatClampNeg 3)) + (Int32.toNatClampNeg 5) ≤ ms) ∧ (σ357.1 < CB ∧ (∀ σ358 : CS, σ358 = nC σ357 (.inr (3, (Int32.toNatClampNeg 5))) → ((σ357.1) < CB ∧ (gK σ358 (σ357.1) = some (.inr (3, gN σ358 (σ357.1))) ∧ (vp_in 0 (gN σ358 (σ357.1)) ∧ (∀ σ359 : CS, σ359 = wI σ358 (σ357.1) (Int32.toNatClampNeg 0) (vp_nar .char 102) → ((σ357.1) < CB ∧ (gK σ359 (σ357.1) = some (.inr (3, gN σ359 (σ357.1))) ∧ (vp_in 1 (gN σ359 (σ357.1)) ∧ (∀ σ360 : CS, σ360 = wI σ359 (σ357.1) (Int32.toNatClampNeg 1) (vp_nar .char 114) → ((σ357.1) < CB ∧ (gK σ360 (σ357.1) = some (.inr (3, gN σ360 (σ357.1))) ∧ (vp_in 2 (gN σ360 (σ357.1)) ∧ (∀ σ361 : CS, σ361 = wI σ360 (σ357.1) (Int32.toNatClampNeg 2) (vp_nar .char 97) → ((σ357.1) < CB ∧ (gK σ361 (σ357.1) = some (.inr (3, gN σ361 (σ357.1))) ∧ (vp_in 3 (gN σ361 (σ357.1)) ∧ (∀ σ362 : CS, σ362 = wI σ361 (σ357.1) (Int32.toNatClampNeg 3) (vp_nar .char 105) → ((σ357.1) < CB ∧ (gK σ362 (σ357.1) = some (.inr (3, gN σ362 (σ357.1))) ∧ (vp_in 4 (gN σ362 (σ357.1)) ∧ (∀ σ363 : CS, σ363 = wI σ362 (σ357.1) (Int32.toNatClampNeg 4) (vp_nar .char 108) → (ob < CB ∧ (gK σ363 ob = some kO6c ∧ (∀ σ364 : CS, σ364 = wR σ363 ob 13 ((σ357.1) + 1) → (¬ (6 : Int32) < 0 ∧ ((Int32.toNatClampNeg 6) ≤ 1000000 ∧ ((cx + 1 + 1 + 1 + 1 ≤ mc ∧ (((zx + (Int32.toNatClampNeg 5)) + (Int32.toNatClampNeg 3)) + (Int32.toNatClampNeg 5)) + (Int32.toNatClampNeg 6) ≤ ms) ∧ (σ364.1 < CB ∧ (∀ σ365 : CS, σ365 = nC σ364 (.inr (3, (Int32.toNatClampNeg 6))) → ((σ364.1) < CB ∧ (gK σ365 (σ364.1) = some (.inr (3, gN σ365 (σ364.1))) ∧ (vp_in 0 (gN σ365 (σ364.1)) ∧ (∀ σ366 : CS, σ366 = wI σ365 (σ364.1) (Int32.toNatClampNeg 0) (vp_nar .char 109) → ((σ364.1) < CB ∧ (gK σ366 (σ364.1) = some (.inr (3, gN σ366 (σ364.1))) ∧ (vp_in 1 (gN σ366 (σ364.1)) ∧ (∀ σ367 : CS, σ367 = wI σ366 (σ364.1) (Int32.toNatClampNeg 1) (vp_nar .char 101) → ((σ364.1) < CB ∧ (gK σ367 (σ364.1) = some (.inr (3, gN σ367 (σ364.1))) ∧ (vp_in 2 (gN σ367 (σ364.1)) ∧ (∀ σ368 : CS, σ368 = wI σ367 (σ364.1) (Int32.toNatClampNeg 2) (vp_nar .char 110) → ((σ364.1) < CB ∧ (gK σ368 (σ364.1) = some (.inr (3, gN σ368 (σ364.1))) ∧ (vp_in 3 (gN σ368 (σ364.1)) ∧ (∀ σ369 : CS, σ369 = wI σ368 (σ364.1) (Int32.toNatClampNeg 3) (vp_nar .char 100) → ((σ364.1) < CB ∧ (gK σ369 (σ364.1) = some (.inr (3, gN σ369 (σ364.1))) ∧ (vp_in 4 (gN σ369 (σ364.1)) ∧ (∀ σ370 : CS, σ370 = wI σ369 (σ364.1) (Int32.toNatClampNeg 4) (vp_nar .char 101) → ((σ364.1) < CB ∧ (gK σ370 (σ364.1) = some (.inr (3, gN σ370 (σ364.1))) ∧ (vp_in 5 (gN σ370 (σ364.1)) ∧ (∀ σ371 : CS, σ371 = wI σ370 (σ364.1) (Int32.toNatClampNeg 5) (vp_nar .char 114) → (ob < CB ∧ (gK σ371 ob = some kO6c ∧ (∀ σ372 : CS, σ372 = wR σ371 ob 14 ((σ364.1) + 1) → (U_X6_init_182 mc ms K ob (cx + 1 + 1 + 1 + 1) ((((zx + (Int32.toNatClampNeg 5)) + (Int32.toNatClampNeg 3)) + (Int32.toNatClampNeg 5)) + (Int32.toNatClampNeg 6)) σ372))))))))))))))))))))))))))))))))))))))))))))))))))))))))))))))))))))))))))))))))))))))))))))))))))))))))))))
def U_X6_init (mc ms : Nat) (σ : CS) (ob : Nat) (K : Unit → CS → Prop) : Prop := ¬ (1600 : Int32) < 0 ∧ ((Int32.toNatClampNeg 1600) ≤ 1000000 ∧ ((1 ≤ mc ∧ 0 + (Int32.toNatClampNeg 1600) ≤ ms) ∧ (σ.1 < CB ∧ (∀ σ373 : CS, σ373 = nC σ (.inr (0, (Int32.toNatClampNeg 1600))) → (ob < CB ∧ (gK σ373 ob = some kO6c ∧ (∀ σ374 : CS, σ374 = wR σ373 ob 0 ((σ.1) + 1) → (ob < CB ∧ (gK σ374 ob = some kO6c ∧ (∀ σ375 : CS, σ375 = wI σ374 ob 8 (-1) → (¬ (6 : Int32) < 0 ∧ ((Int32.toNatClampNeg 6) ≤ 1000000 ∧ ((2 ≤ mc ∧ (0 + (Int32.toNatClampNeg 1600)) + (Int32.toNatClampNeg 6) ≤ ms) ∧ (σ375.1 < CB ∧ (∀ σ376 : CS, σ376 = nC σ375 (.inr (0, (Int32.toNatClampNeg 6))) → (ob < CB ∧ (gK σ376 ob = some kO6c ∧ (∀ σ377 : CS, σ377 = wR σ376 ob 9 ((σ375.1) + 1) → (¬ (5 : Int32) < 0 ∧ ((Int32.toNatClampNeg 5) ≤ 1000000 ∧ ((3 ≤ mc ∧ ((0 + (Int32.toNatClampNeg 1600)) + (Int32.toNatClampNeg 6)) + (Int32.toNatClampNeg 5) ≤ ms) ∧ (σ377.1 < CB ∧ (∀ σ378 : CS, σ378 = nC σ377 (.inr (3, (Int32.toNatClampNeg 5))) → ((σ377.1) < CB ∧ (gK σ378 (σ377.1) = some (.inr (3, gN σ378 (σ377.1))) ∧ (vp_in 0 (gN σ378 (σ377.1)) ∧ (∀ σ379 : CS, σ379 = wI σ378 (σ377.1) (Int32.toNatClampNeg 0) (vp_nar .char 116) → ((σ377.1) < CB ∧ (gK σ379 (σ377.1) = some (.inr (3, gN σ379 (σ377.1))) ∧ (vp_in 1 (gN σ379 (σ377.1)) ∧ (∀ σ380 : CS, σ380 = wI σ379 (σ377.1) (Int32.toNatClampNeg 1) (vp_nar .char 104) → ((σ377.1) < CB ∧ (gK σ380 (σ377.1) = some (.inr (3, gN σ380 (σ377.1))) ∧ (vp_in 2 (gN σ380 (σ377.1)) ∧ (∀ σ381 : CS, σ381 = wI σ380 (σ377.1) (Int32.toNatClampNeg 2) (vp_nar .char 105) → ((σ377.1) < CB ∧ (gK σ381 (σ377.1) = some (.inr (3, gN σ381 (σ377.1))) ∧ (vp_in 3 (gN σ381 (σ377.1)) ∧ (∀ σ382 : CS, σ382 = wI σ381 (σ377.1) (Int32.toNatClampNeg 3) (vp_nar .char 110) → ((σ377.1) < CB ∧ (gK σ382 (σ377.1) = some (.inr (3, gN σ382 (σ377.1))) ∧ (vp_in 4 (gN σ382 (σ377.1)) ∧ (∀ σ383 : CS, σ383 = wI σ382 (σ377.1) (Int32.toNatClampNeg 4) (vp_nar .char 103) → (ob < CB ∧ (gK σ383 ob = some kO6c ∧ (∀ σ384 : CS, σ384 = wR σ383 ob 10 ((σ377.1) + 1) → (U_X6_init_58 mc ms K ob 3 (((0 + (Int32.toNatClampNeg 1600)) + (Int32.toNatClampNeg 6)) + (Int32.toNatClampNeg 5)) σ384)))))))))))))))))))))))))))))))))))))))))))))))

set_option maxHeartbeats 4000000 in
set_option maxRecDepth 100000 in
theorem um_X6_init (l : Launch) (D : va_G) (dA : Nat → ClassId) (ad : Nat → Nat) (n0 : Nat) (Hs : Heap) (hA : cAd ad n0 Hs.size) (mc ms : Nat) (σ : CS) (ob : Nat) (K : Unit → CS → Prop) (hT : U_X6_init mc ms σ ob K) : Met l yX6_init (ws_ yX6_init cX6_init 1 (none)) ({ frames := 1, cells := mc, slots := ms, locals := 12 }) (va_Pc [.ref (ad ob)] (cU D dA ad n0 Hs σ)) (xQ rvU K (cU D dA ad n0 Hs) (cA ad)) mc ms (cA ad) := by
  refine xm_v hA (by decide) rfl (Nat.le_of_ble_eq_true rfl) ?_
  intro p e s m args below meth c Q hC hN hret hI ls hl
  have hx := hC.1.1
  have hb := hC.1.2.1
  have hB : 0 ≤ mc ∧ 0 ≤ ms := ⟨Nat.zero_le _, Nat.zero_le _⟩
  have hl : lv_has ls 1 [(0, .ref (ad ob))] := hl
  have w_1736 : ∀ (cx : Nat) (zx : Nat) (σ : CS) (H : Heap) (locs : List Loc) (ls : Array Slot), U_X6_init_1736 mc ms K ob cx zx σ → xI D dA ad n0 Hs s.heap σ H locs → (cx ≤ mc ∧ zx ≤ ms) → lv_has ls 1 [] → W p l e ({ frames := 1, cells := mc, slots := ms, locals := 12 }) s m args below meth c H locs cx zx Q (F0 m 1736 ls []) := by
    intro cx zx σ H locs ls hT hI hB hl
    unfold U_X6_init_1736 at hT
    exact hret _ _ _ _ _ _ _ _ hT hI hB dX6_init_1736
  have w_1701 : ∀ (cx : Nat) (zx : Nat) (σ : CS) (H : Heap) (locs : List Loc) (ls : Array Slot), U_X6_init_1701 mc ms K ob cx zx σ → xI D dA ad n0 Hs s.heap σ H locs → (cx ≤ mc ∧ zx ≤ ms) → lv_has ls 1 [(0, .ref (ad ob))] → W p l e ({ frames := 1, cells := mc, slots := ms, locals := 12 }) s m args below meth c H locs cx zx Q (F0 m 1701 ls []) := by
    intro cx zx σ H locs ls hT hI hB hl
    unfold U_X6_init_1701 at hT
    refine lv_aload_n hx hb dX6_init_1701 rfl (lv_at hl 0 rfl) ?_
    refine lv_sipush (v := 1700) hx hb dX6_init_1702 (by decide) ?_
    have hB := hT.2.2.1
    refine xnewa0 hC hI hT dX6_init_1705 (fun σ1 H hT hI => ?_)
    obtain ⟨hic, hT⟩ := hT
    obtain ⟨hL, hT⟩ := hT
    refine xpF6c_91 (i := ob) (v := (σ.1) + 1) hC hI hN rfl hic hL hT q1791 (fun _ h => h) dX6_init_1707 (fun σ2 H locs hT hI => ?_)
    refine lv_aload_n hx hb dX6_init_1710 rfl (lv_at hl 0 rfl) ?_
    refine lv_sipush (v := 1700) hx hb dX6_init_1711 (by decide) ?_
    have hB := hT.2.2.1
    refine xnewa0 hC hI hT dX6_init_1714 (fun σ3 H hT hI => ?_)
    obtain ⟨hic, hT⟩ := hT
    obtain ⟨hL, hT⟩ := hT
    refine xpF6c_93 (i := ob) (v := (σ2.1) + 1) hC hI hN rfl hic hL hT q1793 (fun _ h => h) dX6_init_1716 (fun σ4 H locs hT hI => ?_)
    refine lv_aload_n hx hb dX6_init_1719 rfl (lv_at hl 0 rfl) ?_
    refine lv_sipush (v := 1700) hx hb dX6_init_1720 (by decide) ?_
    have hB := hT.2.2.1
    refine xnewa4 hC hI hT dX6_init_1723 (fun σ5 H hT hI => ?_)
    obtain ⟨hic, hT⟩ := hT
    obtain ⟨hL, hT⟩ := hT
    refine xpF6c_97 (i := ob) (v := (σ4.1) + 1) hC hI hN rfl hic hL hT q1797 (fun _ h => h) dX6_init_1725 (fun σ6 H locs hT hI => ?_)
    refine lv_aload_n hx hb dX6_init_1728 rfl (lv_at hl 0 rfl) ?_
    refine lv_bipush (v := 43) hx hb dX6_init_1729 (by decide) ?_
    have hB := hT.2.2.1
    refine xnewa0 hC hI hT dX6_init_1731 (fun σ7 H hT hI => ?_)
    obtain ⟨hic, hT⟩ := hT
    obtain ⟨hL, hT⟩ := hT
    refine xpF6c_101 (i := ob) (v := (σ6.1) + 1) hC hI hN rfl hic hL hT q1801 (fun _ h => h) dX6_init_1733 (fun σ8 H locs hT hI => ?_)
    exact w_1736 (cx + 1 + 1 + 1 + 1) ((((zx + (Int32.toNatClampNeg 1700)) + (Int32.toNatClampNeg 1700)) + (Int32.toNatClampNeg 1700)) + (Int32.toNatClampNeg 43)) σ8 _ _ _ hT hI hB (lv_sub hl [] rfl)
  have w_1576 : ∀ (cx : Nat) (zx : Nat) (σ : CS) (H : Heap) (locs : List Loc) (ls : Array Slot), U_X6_init_1576 mc ms K ob cx zx σ → xI D dA ad n0 Hs s.heap σ H locs → (cx ≤ mc ∧ zx ≤ ms) → lv_has ls 1 [(0, .ref (ad ob))] → W p l e ({ frames := 1, cells := mc, slots := ms, locals := 12 }) s m args below meth c H locs cx zx Q (F0 m 1576 ls []) := by
    intro cx zx σ H locs ls hT hI hB hl
    unfold U_X6_init_1576 at hT
    refine lv_aload_n hx hb dX6_init_1576 rfl (lv_at hl 0 rfl) ?_
    refine lv_iconst (v := 5) hx hb dX6_init_1577 (by decide) ?_
    have hB := hT.2.2.1
    refine xnewa3 hC hI hT dX6_init_1578 (fun σ9 H hT hI => ?_)
    refine lv_dup hx hb dX6_init_1580 rfl ?_
    refine lv_iconst (v := 0) hx hb dX6_init_1581 (by decide) ?_
    refine lv_bipush (v := 115) hx hb dX6_init_1582 (by decide) ?_
    obtain ⟨hic, hT⟩ := hT
    obtain ⟨hL, hT⟩ := hT
    refine x_cast (i := σ.1) hC hI hic hL hT dX6_init_1584 (fun σ10 H locs hT hI => ?_)
    refine lv_dup hx hb dX6_init_1585 rfl ?_
    refine lv_iconst (v := 1) hx hb dX6_init_1586 (by decide) ?_
    refine lv_bipush (v := 107) hx hb dX6_init_1587 (by decide) ?_
    obtain ⟨hic, hT⟩ := hT
    obtain ⟨hL, hT⟩ := hT
    refine x_cast (i := σ.1) hC hI hic hL hT dX6_init_1589 (fun σ11 H locs hT hI => ?_)
    refine lv_dup hx hb dX6_init_1590 rfl ?_
    refine lv_iconst (v := 2) hx hb dX6_init_1591 (by decide) ?_
    refine lv_bipush (v := 105) hx hb dX6_init_1592 (by decide) ?_
    obtain ⟨hic, hT⟩ := hT
    obtain ⟨hL, hT⟩ := hT
    refine x_cast (i := σ.1) hC hI hic hL hT dX6_init_1594 (fun σ12 H locs hT hI => ?_)
    refine lv_dup hx hb dX6_init_1595 rfl ?_
    refine lv_iconst (v := 3) hx hb dX6_init_1596 (by decide) ?_
    refine lv_bipush (v := 108) hx hb dX6_init_1597 (by decide) ?_
    obtain ⟨hic, hT⟩ := hT
    obtain ⟨hL, hT⟩ := hT
    refine x_cast (i := σ.1) hC hI hic hL hT dX6_init_1599 (fun σ13 H locs hT hI => ?_)
    refine lv_dup hx hb dX6_init_1600 rfl ?_
    refine lv_iconst (v := 4) hx hb dX6_init_1601 (by decide) ?_
    refine lv_bipush (v := 108) hx hb dX6_init_1602 (by decide) ?_
    obtain ⟨hic, hT⟩ := hT
    obtain ⟨hL, hT⟩ := hT
    refine x_cast (i := σ.1) hC hI hic hL hT dX6_init_1604 (fun σ14 H locs hT hI => ?_)
    obtain ⟨hic, hT⟩ := hT
    obtain ⟨hL, hT⟩ := hT
    refine xpF6c_87 (i := ob) (v := (σ.1) + 1) hC hI hN rfl hic hL hT q1787 (fun _ h => h) dX6_init_1605 (fun σ15 H locs hT hI => ?_)
    refine lv_aload_n hx hb dX6_init_1608 rfl (lv_at hl 0 rfl) ?_
    refine lv_bipush (v := 6) hx hb dX6_init_1609 (by decide) ?_
    have hB := hT.2.2.1
    refine xnewa3 hC hI hT dX6_init_1611 (fun σ16 H hT hI => ?_)
    refine lv_dup hx hb dX6_init_1613 rfl ?_
    refine lv_iconst (v := 0) hx hb dX6_init_1614 (by decide) ?_
    refine lv_bipush (v := 110) hx hb dX6_init_1615 (by decide) ?_
    obtain ⟨hic, hT⟩ := hT
    obtain ⟨hL, hT⟩ := hT
    refine x_cast (i := σ15.1) hC hI hic hL hT dX6_init_1617 (fun σ17 H locs hT hI => ?_)
    refine lv_dup hx hb dX6_init_1618 rfl ?_
    refine lv_iconst (v := 1) hx hb dX6_init_1619 (by decide) ?_
    refine lv_bipush (v := 117) hx hb dX6_init_1620 (by decide) ?_
    obtain ⟨hic, hT⟩ := hT
    obtain ⟨hL, hT⟩ := hT
    refine x_cast (i := σ15.1) hC hI hic hL hT dX6_init_1622 (fun σ18 H locs hT hI => ?_)
    refine lv_dup hx hb dX6_init_1623 rfl ?_
    refine lv_iconst (v := 2) hx hb dX6_init_1624 (by decide) ?_
    refine lv_bipush (v := 109) hx hb dX6_init_1625 (by decide) ?_
    obtain ⟨hic, hT⟩ := hT
    obtain ⟨hL, hT⟩ := hT
    refine x_cast (i := σ15.1) hC hI hic hL hT dX6_init_1627 (fun σ19 H locs hT hI => ?_)
    refine lv_dup hx hb dX6_init_1628 rfl ?_
    refine lv_iconst (v := 3) hx hb dX6_init_1629 (by decide) ?_
    refine lv_bipush (v := 98) hx hb dX6_init_1630 (by decide) ?_
    obtain ⟨hic, hT⟩ := hT
    obtain ⟨hL, hT⟩ := hT
    refine x_cast (i := σ15.1) hC hI hic hL hT dX6_init_1632 (fun σ20 H locs hT hI => ?_)
    refine lv_dup hx hb dX6_init_1633 rfl ?_
    refine lv_iconst (v := 4) hx hb dX6_init_1634 (by decide) ?_
    refine lv_bipush (v := 101) hx hb dX6_init_1635 (by decide) ?_
    obtain ⟨hic, hT⟩ := hT
    obtain ⟨hL, hT⟩ := hT
    refine x_cast (i := σ15.1) hC hI hic hL hT dX6_init_1637 (fun σ21 H locs hT hI => ?_)
    refine lv_dup hx hb dX6_init_1638 rfl ?_
    refine lv_iconst (v := 5) hx hb dX6_init_1639 (by decide) ?_
    refine lv_bipush (v := 114) hx hb dX6_init_1640 (by decide) ?_
    obtain ⟨hic, hT⟩ := hT
    obtain ⟨hL, hT⟩ := hT
    refine x_cast (i := σ15.1) hC hI hic hL hT dX6_init_1642 (fun σ22 H locs hT hI => ?_)
    obtain ⟨hic, hT⟩ := hT
    obtain ⟨hL, hT⟩ := hT
    refine xpF6c_88 (i := ob) (v := (σ15.1) + 1) hC hI hN rfl hic hL hT q1788 (fun _ h => h) dX6_init_1643 (fun σ23 H locs hT hI => ?_)
    refine lv_aload_n hx hb dX6_init_1646 rfl (lv_at hl 0 rfl) ?_
    refine lv_bipush (v := 6) hx hb dX6_init_1647 (by decide) ?_
    have hB := hT.2.2.1
    refine xnewa3 hC hI hT dX6_init_1649 (fun σ24 H hT hI => ?_)
    refine lv_dup hx hb dX6_init_1651 rfl ?_
    refine lv_iconst (v := 0) hx hb dX6_init_1652 (by decide) ?_
    refine lv_bipush (v := 102) hx hb dX6_init_1653 (by decide) ?_
    obtain ⟨hic, hT⟩ := hT
    obtain ⟨hL, hT⟩ := hT
    refine x_cast (i := σ23.1) hC hI hic hL hT dX6_init_1655 (fun σ25 H locs hT hI => ?_)
    refine lv_dup hx hb dX6_init_1656 rfl ?_
    refine lv_iconst (v := 1) hx hb dX6_init_1657 (by decide) ?_
    refine lv_bipush (v := 111) hx hb dX6_init_1658 (by decide) ?_
    obtain ⟨hic, hT⟩ := hT
    obtain ⟨hL, hT⟩ := hT
    refine x_cast (i := σ23.1) hC hI hic hL hT dX6_init_1660 (fun σ26 H locs hT hI => ?_)
    refine lv_dup hx hb dX6_init_1661 rfl ?_
    refine lv_iconst (v := 2) hx hb dX6_init_1662 (by decide) ?_
    refine lv_bipush (v := 114) hx hb dX6_init_1663 (by decide) ?_
    obtain ⟨hic, hT⟩ := hT
    obtain ⟨hL, hT⟩ := hT
    refine x_cast (i := σ23.1) hC hI hic hL hT dX6_init_1665 (fun σ27 H locs hT hI => ?_)
    refine lv_dup hx hb dX6_init_1666 rfl ?_
    refine lv_iconst (v := 3) hx hb dX6_init_1667 (by decide) ?_
    refine lv_bipush (v := 103) hx hb dX6_init_1668 (by decide) ?_
    obtain ⟨hic, hT⟩ := hT
    obtain ⟨hL, hT⟩ := hT
    refine x_cast (i := σ23.1) hC hI hic hL hT dX6_init_1670 (fun σ28 H locs hT hI => ?_)
    refine lv_dup hx hb dX6_init_1671 rfl ?_
    refine lv_iconst (v := 4) hx hb dX6_init_1672 (by decide) ?_
    refine lv_bipush (v := 101) hx hb dX6_init_1673 (by decide) ?_
    obtain ⟨hic, hT⟩ := hT
    obtain ⟨hL, hT⟩ := hT
    refine x_cast (i := σ23.1) hC hI hic hL hT dX6_init_1675 (fun σ29 H locs hT hI => ?_)
    refine lv_dup hx hb dX6_init_1676 rfl ?_
    refine lv_iconst (v := 5) hx hb dX6_init_1677 (by decide) ?_
    refine lv_bipush (v := 100) hx hb dX6_init_1678 (by decide) ?_
    obtain ⟨hic, hT⟩ := hT
    obtain ⟨hL, hT⟩ := hT
    refine x_cast (i := σ23.1) hC hI hic hL hT dX6_init_1680 (fun σ30 H locs hT hI => ?_)
    obtain ⟨hic, hT⟩ := hT
    obtain ⟨hL, hT⟩ := hT
    refine xpF6c_89 (i := ob) (v := (σ23.1) + 1) hC hI hN rfl hic hL hT q1789 (fun _ h => h) dX6_init_1681 (fun σ31 H locs hT hI => ?_)
    refine lv_aload_n hx hb dX6_init_1684 rfl (lv_at hl 0 rfl) ?_
    refine lv_iconst (v := 2) hx hb dX6_init_1685 (by decide) ?_
    have hB := hT.2.2.1
    refine xnewa3 hC hI hT dX6_init_1686 (fun σ32 H hT hI => ?_)
    refine lv_dup hx hb dX6_init_1688 rfl ?_
    refine lv_iconst (v := 0) hx hb dX6_init_1689 (by decide) ?_
    refine lv_bipush (v := 105) hx hb dX6_init_1690 (by decide) ?_
    obtain ⟨hic, hT⟩ := hT
    obtain ⟨hL, hT⟩ := hT
    refine x_cast (i := σ31.1) hC hI hic hL hT dX6_init_1692 (fun σ33 H locs hT hI => ?_)
    refine lv_dup hx hb dX6_init_1693 rfl ?_
    refine lv_iconst (v := 1) hx hb dX6_init_1694 (by decide) ?_
    refine lv_bipush (v := 115) hx hb dX6_init_1695 (by decide) ?_
    obtain ⟨hic, hT⟩ := hT
    obtain ⟨hL, hT⟩ := hT
    refine x_cast (i := σ31.1) hC hI hic hL hT dX6_init_1697 (fun σ34 H locs hT hI => ?_)
    obtain ⟨hic, hT⟩ := hT
    obtain ⟨hL, hT⟩ := hT
    refine xpF6c_90 (i := ob) (v := (σ31.1) + 1) hC hI hN rfl hic hL hT q1790 (fun _ h => h) dX6_init_1698 (fun σ35 H locs hT hI => ?_)
    exact w_1701 (cx + 1 + 1 + 1 + 1) ((((zx + (Int32.toNatClampNeg 5)) + (Int32.toNatClampNeg 6)) + (Int32.toNatClampNeg 6)) + (Int32.toNatClampNeg 2)) σ35 _ _ _ hT hI hB (lv_sub hl [0] rfl)
  have w_1457 : ∀ (cx : Nat) (zx : Nat) (σ : CS) (H : Heap) (locs : List Loc) (ls : Array Slot), U_X6_init_1457 mc ms K ob cx zx σ → xI D dA ad n0 Hs s.heap σ H locs → (cx ≤ mc ∧ zx ≤ ms) → lv_has ls 1 [(0, .ref (ad ob))] → W p l e ({ frames := 1, cells := mc, slots := ms, locals := 12 }) s m args below meth c H locs cx zx Q (F0 m 1457 ls []) := by
    intro cx zx σ H locs ls hT hI hB hl
    unfold U_X6_init_1457 at hT
    refine lv_aload_n hx hb dX6_init_1457 rfl (lv_at hl 0 rfl) ?_
    refine lv_bipush (v := 6) hx hb dX6_init_1458 (by decide) ?_
    have hB := hT.2.2.1
    refine xnewa3 hC hI hT dX6_init_1460 (fun σ36 H hT hI => ?_)
    refine lv_dup hx hb dX6_init_1462 rfl ?_
    refine lv_iconst (v := 0) hx hb dX6_init_1463 (by decide) ?_
    refine lv_bipush (v := 98) hx hb dX6_init_1464 (by decide) ?_
    obtain ⟨hic, hT⟩ := hT
    obtain ⟨hL, hT⟩ := hT
    refine x_cast (i := σ.1) hC hI hic hL hT dX6_init_1466 (fun σ37 H locs hT hI => ?_)
    refine lv_dup hx hb dX6_init_1467 rfl ?_
    refine lv_iconst (v := 1) hx hb dX6_init_1468 (by decide) ?_
    refine lv_bipush (v := 114) hx hb dX6_init_1469 (by decide) ?_
    obtain ⟨hic, hT⟩ := hT
    obtain ⟨hL, hT⟩ := hT
    refine x_cast (i := σ.1) hC hI hic hL hT dX6_init_1471 (fun σ38 H locs hT hI => ?_)
    refine lv_dup hx hb dX6_init_1472 rfl ?_
    refine lv_iconst (v := 2) hx hb dX6_init_1473 (by decide) ?_
    refine lv_bipush (v := 101) hx hb dX6_init_1474 (by decide) ?_
    obtain ⟨hic, hT⟩ := hT
    obtain ⟨hL, hT⟩ := hT
    refine x_cast (i := σ.1) hC hI hic hL hT dX6_init_1476 (fun σ39 H locs hT hI => ?_)
    refine lv_dup hx hb dX6_init_1477 rfl ?_
    refine lv_iconst (v := 3) hx hb dX6_init_1478 (by decide) ?_
    refine lv_bipush (v := 97) hx hb dX6_init_1479 (by decide) ?_
    obtain ⟨hic, hT⟩ := hT
    obtain ⟨hL, hT⟩ := hT
    refine x_cast (i := σ.1) hC hI hic hL hT dX6_init_1481 (fun σ40 H locs hT hI => ?_)
    refine lv_dup hx hb dX6_init_1482 rfl ?_
    refine lv_iconst (v := 4) hx hb dX6_init_1483 (by decide) ?_
    refine lv_bipush (v := 107) hx hb dX6_init_1484 (by decide) ?_
    obtain ⟨hic, hT⟩ := hT
    obtain ⟨hL, hT⟩ := hT
    refine x_cast (i := σ.1) hC hI hic hL hT dX6_init_1486 (fun σ41 H locs hT hI => ?_)
    refine lv_dup hx hb dX6_init_1487 rfl ?_
    refine lv_iconst (v := 5) hx hb dX6_init_1488 (by decide) ?_
    refine lv_bipush (v := 115) hx hb dX6_init_1489 (by decide) ?_
    obtain ⟨hic, hT⟩ := hT
    obtain ⟨hL, hT⟩ := hT
    refine x_cast (i := σ.1) hC hI hic hL hT dX6_init_1491 (fun σ42 H locs hT hI => ?_)
    obtain ⟨hic, hT⟩ := hT
    obtain ⟨hL, hT⟩ := hT
    refine xpF6c_83 (i := ob) (v := (σ.1) + 1) hC hI hN rfl hic hL hT q1783 (fun _ h => h) dX6_init_1492 (fun σ43 H locs hT hI => ?_)
    refine lv_aload_n hx hb dX6_init_1495 rfl (lv_at hl 0 rfl) ?_
    refine lv_iconst (v := 5) hx hb dX6_init_1496 (by decide) ?_
    have hB := hT.2.2.1
    refine xnewa3 hC hI hT dX6_init_1497 (fun σ44 H hT hI => ?_)
    refine lv_dup hx hb dX6_init_1499 rfl ?_
    refine lv_iconst (v := 0) hx hb dX6_init_1500 (by decide) ?_
    refine lv_bipush (v := 109) hx hb dX6_init_1501 (by decide) ?_
    obtain ⟨hic, hT⟩ := hT
    obtain ⟨hL, hT⟩ := hT
    refine x_cast (i := σ43.1) hC hI hic hL hT dX6_init_1503 (fun σ45 H locs hT hI => ?_)
    refine lv_dup hx hb dX6_init_1504 rfl ?_
    refine lv_iconst (v := 1) hx hb dX6_init_1505 (by decide) ?_
    refine lv_bipush (v := 101) hx hb dX6_init_1506 (by decide) ?_
    obtain ⟨hic, hT⟩ := hT
    obtain ⟨hL, hT⟩ := hT
    refine x_cast (i := σ43.1) hC hI hic hL hT dX6_init_1508 (fun σ46 H locs hT hI => ?_)
    refine lv_dup hx hb dX6_init_1509 rfl ?_
    refine lv_iconst (v := 2) hx hb dX6_init_1510 (by decide) ?_
    refine lv_bipush (v := 110) hx hb dX6_init_1511 (by decide) ?_
    obtain ⟨hic, hT⟩ := hT
    obtain ⟨hL, hT⟩ := hT
    refine x_cast (i := σ43.1) hC hI hic hL hT dX6_init_1513 (fun σ47 H locs hT hI => ?_)
    refine lv_dup hx hb dX6_init_1514 rfl ?_
    refine lv_iconst (v := 3) hx hb dX6_init_1515 (by decide) ?_
    refine lv_bipush (v := 100) hx hb dX6_init_1516 (by decide) ?_
    obtain ⟨hic, hT⟩ := hT
    obtain ⟨hL, hT⟩ := hT
    refine x_cast (i := σ43.1) hC hI hic hL hT dX6_init_1518 (fun σ48 H locs hT hI => ?_)
    refine lv_dup hx hb dX6_init_1519 rfl ?_
    refine lv_iconst (v := 4) hx hb dX6_init_1520 (by decide) ?_
    refine lv_bipush (v := 115) hx hb dX6_init_1521 (by decide) ?_
    obtain ⟨hic, hT⟩ := hT
    obtain ⟨hL, hT⟩ := hT
    refine x_cast (i := σ43.1) hC hI hic hL hT dX6_init_1523 (fun σ49 H locs hT hI => ?_)
    obtain ⟨hic, hT⟩ := hT
    obtain ⟨hL, hT⟩ := hT
    refine xpF6c_84 (i := ob) (v := (σ43.1) + 1) hC hI hN rfl hic hL hT q1784 (fun _ h => h) dX6_init_1524 (fun σ50 H locs hT hI => ?_)
    refine lv_aload_n hx hb dX6_init_1527 rfl (lv_at hl 0 rfl) ?_
    refine lv_iconst (v := 3) hx hb dX6_init_1528 (by decide) ?_
    have hB := hT.2.2.1
    refine xnewa3 hC hI hT dX6_init_1529 (fun σ51 H hT hI => ?_)
    refine lv_dup hx hb dX6_init_1531 rfl ?_
    refine lv_iconst (v := 0) hx hb dX6_init_1532 (by decide) ?_
    refine lv_bipush (v := 100) hx hb dX6_init_1533 (by decide) ?_
    obtain ⟨hic, hT⟩ := hT
    obtain ⟨hL, hT⟩ := hT
    refine x_cast (i := σ50.1) hC hI hic hL hT dX6_init_1535 (fun σ52 H locs hT hI => ?_)
    refine lv_dup hx hb dX6_init_1536 rfl ?_
    refine lv_iconst (v := 1) hx hb dX6_init_1537 (by decide) ?_
    refine lv_bipush (v := 97) hx hb dX6_init_1538 (by decide) ?_
    obtain ⟨hic, hT⟩ := hT
    obtain ⟨hL, hT⟩ := hT
    refine x_cast (i := σ50.1) hC hI hic hL hT dX6_init_1540 (fun σ53 H locs hT hI => ?_)
    refine lv_dup hx hb dX6_init_1541 rfl ?_
    refine lv_iconst (v := 2) hx hb dX6_init_1542 (by decide) ?_
    refine lv_bipush (v := 121) hx hb dX6_init_1543 (by decide) ?_
    obtain ⟨hic, hT⟩ := hT
    obtain ⟨hL, hT⟩ := hT
    refine x_cast (i := σ50.1) hC hI hic hL hT dX6_init_1545 (fun σ54 H locs hT hI => ?_)
    obtain ⟨hic, hT⟩ := hT
    obtain ⟨hL, hT⟩ := hT
    refine xpF6c_85 (i := ob) (v := (σ50.1) + 1) hC hI hN rfl hic hL hT q1785 (fun _ h => h) dX6_init_1546 (fun σ55 H locs hT hI => ?_)
    refine lv_aload_n hx hb dX6_init_1549 rfl (lv_at hl 0 rfl) ?_
    refine lv_iconst (v := 4) hx hb dX6_init_1550 (by decide) ?_
    have hB := hT.2.2.1
    refine xnewa3 hC hI hT dX6_init_1551 (fun σ56 H hT hI => ?_)
    refine lv_dup hx hb dX6_init_1553 rfl ?_
    refine lv_iconst (v := 0) hx hb dX6_init_1554 (by decide) ?_
    refine lv_bipush (v := 103) hx hb dX6_init_1555 (by decide) ?_
    obtain ⟨hic, hT⟩ := hT
    obtain ⟨hL, hT⟩ := hT
    refine x_cast (i := σ55.1) hC hI hic hL hT dX6_init_1557 (fun σ57 H locs hT hI => ?_)
    refine lv_dup hx hb dX6_init_1558 rfl ?_
    refine lv_iconst (v := 1) hx hb dX6_init_1559 (by decide) ?_
    refine lv_bipush (v := 108) hx hb dX6_init_1560 (by decide) ?_
    obtain ⟨hic, hT⟩ := hT
    obtain ⟨hL, hT⟩ := hT
    refine x_cast (i := σ55.1) hC hI hic hL hT dX6_init_1562 (fun σ58 H locs hT hI => ?_)
    refine lv_dup hx hb dX6_init_1563 rfl ?_
    refine lv_iconst (v := 2) hx hb dX6_init_1564 (by decide) ?_
    refine lv_bipush (v := 117) hx hb dX6_init_1565 (by decide) ?_
    obtain ⟨hic, hT⟩ := hT
    obtain ⟨hL, hT⟩ := hT
    refine x_cast (i := σ55.1) hC hI hic hL hT dX6_init_1567 (fun σ59 H locs hT hI => ?_)
    refine lv_dup hx hb dX6_init_1568 rfl ?_
    refine lv_iconst (v := 3) hx hb dX6_init_1569 (by decide) ?_
    refine lv_bipush (v := 101) hx hb dX6_init_1570 (by decide) ?_
    obtain ⟨hic, hT⟩ := hT
    obtain ⟨hL, hT⟩ := hT
    refine x_cast (i := σ55.1) hC hI hic hL hT dX6_init_1572 (fun σ60 H locs hT hI => ?_)
    obtain ⟨hic, hT⟩ := hT
    obtain ⟨hL, hT⟩ := hT
    refine xpF6c_86 (i := ob) (v := (σ55.1) + 1) hC hI hN rfl hic hL hT q1786 (fun _ h => h) dX6_init_1573 (fun σ61 H locs hT hI => ?_)
    exact w_1576 (cx + 1 + 1 + 1 + 1) ((((zx + (Int32.toNatClampNeg 6)) + (Int32.toNatClampNeg 5)) + (Int32.toNatClampNeg 3)) + (Int32.toNatClampNeg 4)) σ61 _ _ _ hT hI hB (lv_sub hl [0] rfl)
  have w_1349 : ∀ (cx : Nat) (zx : Nat) (σ : CS) (H : Heap) (locs : List Loc) (ls : Array Slot), U_X6_init_1349 mc ms K ob cx zx σ → xI D dA ad n0 Hs s.heap σ H locs → (cx ≤ mc ∧ zx ≤ ms) → lv_has ls 1 [(0, .ref (ad ob))] → W p l e ({ frames := 1, cells := mc, slots := ms, locals := 12 }) s m args below meth c H locs cx zx Q (F0 m 1349 ls []) := by
    intro cx zx σ H locs ls hT hI hB hl
    unfold U_X6_init_1349 at hT
    refine lv_aload_n hx hb dX6_init_1349 rfl (lv_at hl 0 rfl) ?_
    refine lv_iconst (v := 3) hx hb dX6_init_1350 (by decide) ?_
    have hB := hT.2.2.1
    refine xnewa3 hC hI hT dX6_init_1351 (fun σ62 H hT hI => ?_)
    refine lv_dup hx hb dX6_init_1353 rfl ?_
    refine lv_iconst (v := 0) hx hb dX6_init_1354 (by decide) ?_
    refine lv_bipush (v := 109) hx hb dX6_init_1355 (by decide) ?_
    obtain ⟨hic, hT⟩ := hT
    obtain ⟨hL, hT⟩ := hT
    refine x_cast (i := σ.1) hC hI hic hL hT dX6_init_1357 (fun σ63 H locs hT hI => ?_)
    refine lv_dup hx hb dX6_init_1358 rfl ?_
    refine lv_iconst (v := 1) hx hb dX6_init_1359 (by decide) ?_
    refine lv_bipush (v := 97) hx hb dX6_init_1360 (by decide) ?_
    obtain ⟨hic, hT⟩ := hT
    obtain ⟨hL, hT⟩ := hT
    refine x_cast (i := σ.1) hC hI hic hL hT dX6_init_1362 (fun σ64 H locs hT hI => ?_)
    refine lv_dup hx hb dX6_init_1363 rfl ?_
    refine lv_iconst (v := 2) hx hb dX6_init_1364 (by decide) ?_
    refine lv_bipush (v := 120) hx hb dX6_init_1365 (by decide) ?_
    obtain ⟨hic, hT⟩ := hT
    obtain ⟨hL, hT⟩ := hT
    refine x_cast (i := σ.1) hC hI hic hL hT dX6_init_1367 (fun σ65 H locs hT hI => ?_)
    obtain ⟨hic, hT⟩ := hT
    obtain ⟨hL, hT⟩ := hT
    refine xpF6c_79 (i := ob) (v := (σ.1) + 1) hC hI hN rfl hic hL hT q1779 (fun _ h => h) dX6_init_1368 (fun σ66 H locs hT hI => ?_)
    refine lv_aload_n hx hb dX6_init_1371 rfl (lv_at hl 0 rfl) ?_
    refine lv_iconst (v := 5) hx hb dX6_init_1372 (by decide) ?_
    have hB := hT.2.2.1
    refine xnewa3 hC hI hT dX6_init_1373 (fun σ67 H hT hI => ?_)
    refine lv_dup hx hb dX6_init_1375 rfl ?_
    refine lv_iconst (v := 0) hx hb dX6_init_1376 (by decide) ?_
    refine lv_bipush (v := 119) hx hb dX6_init_1377 (by decide) ?_
    obtain ⟨hic, hT⟩ := hT
    obtain ⟨hL, hT⟩ := hT
    refine x_cast (i := σ66.1) hC hI hic hL hT dX6_init_1379 (fun σ68 H locs hT hI => ?_)
    refine lv_dup hx hb dX6_init_1380 rfl ?_
    refine lv_iconst (v := 1) hx hb dX6_init_1381 (by decide) ?_
    refine lv_bipush (v := 111) hx hb dX6_init_1382 (by decide) ?_
    obtain ⟨hic, hT⟩ := hT
    obtain ⟨hL, hT⟩ := hT
    refine x_cast (i := σ66.1) hC hI hic hL hT dX6_init_1384 (fun σ69 H locs hT hI => ?_)
    refine lv_dup hx hb dX6_init_1385 rfl ?_
    refine lv_iconst (v := 2) hx hb dX6_init_1386 (by decide) ?_
    refine lv_bipush (v := 114) hx hb dX6_init_1387 (by decide) ?_
    obtain ⟨hic, hT⟩ := hT
    obtain ⟨hL, hT⟩ := hT
    refine x_cast (i := σ66.1) hC hI hic hL hT dX6_init_1389 (fun σ70 H locs hT hI => ?_)
    refine lv_dup hx hb dX6_init_1390 rfl ?_
    refine lv_iconst (v := 3) hx hb dX6_init_1391 (by decide) ?_
    refine lv_bipush (v := 116) hx hb dX6_init_1392 (by decide) ?_
    obtain ⟨hic, hT⟩ := hT
    obtain ⟨hL, hT⟩ := hT
    refine x_cast (i := σ66.1) hC hI hic hL hT dX6_init_1394 (fun σ71 H locs hT hI => ?_)
    refine lv_dup hx hb dX6_init_1395 rfl ?_
    refine lv_iconst (v := 4) hx hb dX6_init_1396 (by decide) ?_
    refine lv_bipush (v := 104) hx hb dX6_init_1397 (by decide) ?_
    obtain ⟨hic, hT⟩ := hT
    obtain ⟨hL, hT⟩ := hT
    refine x_cast (i := σ66.1) hC hI hic hL hT dX6_init_1399 (fun σ72 H locs hT hI => ?_)
    obtain ⟨hic, hT⟩ := hT
    obtain ⟨hL, hT⟩ := hT
    refine xpF6c_80 (i := ob) (v := (σ66.1) + 1) hC hI hN rfl hic hL hT q1780 (fun _ h => h) dX6_init_1400 (fun σ73 H locs hT hI => ?_)
    refine lv_aload_n hx hb dX6_init_1403 rfl (lv_at hl 0 rfl) ?_
    refine lv_iconst (v := 3) hx hb dX6_init_1404 (by decide) ?_
    have hB := hT.2.2.1
    refine xnewa3 hC hI hT dX6_init_1405 (fun σ74 H hT hI => ?_)
    refine lv_dup hx hb dX6_init_1407 rfl ?_
    refine lv_iconst (v := 0) hx hb dX6_init_1408 (by decide) ?_
    refine lv_bipush (v := 117) hx hb dX6_init_1409 (by decide) ?_
    obtain ⟨hic, hT⟩ := hT
    obtain ⟨hL, hT⟩ := hT
    refine x_cast (i := σ73.1) hC hI hic hL hT dX6_init_1411 (fun σ75 H locs hT hI => ?_)
    refine lv_dup hx hb dX6_init_1412 rfl ?_
    refine lv_iconst (v := 1) hx hb dX6_init_1413 (by decide) ?_
    refine lv_bipush (v := 115) hx hb dX6_init_1414 (by decide) ?_
    obtain ⟨hic, hT⟩ := hT
    obtain ⟨hL, hT⟩ := hT
    refine x_cast (i := σ73.1) hC hI hic hL hT dX6_init_1416 (fun σ76 H locs hT hI => ?_)
    refine lv_dup hx hb dX6_init_1417 rfl ?_
    refine lv_iconst (v := 2) hx hb dX6_init_1418 (by decide) ?_
    refine lv_bipush (v := 101) hx hb dX6_init_1419 (by decide) ?_
    obtain ⟨hic, hT⟩ := hT
    obtain ⟨hL, hT⟩ := hT
    refine x_cast (i := σ73.1) hC hI hic hL hT dX6_init_1421 (fun σ77 H locs hT hI => ?_)
    obtain ⟨hic, hT⟩ := hT
    obtain ⟨hL, hT⟩ := hT
    refine xpF6c_81 (i := ob) (v := (σ73.1) + 1) hC hI hN rfl hic hL hT q1781 (fun _ h => h) dX6_init_1422 (fun σ78 H locs hT hI => ?_)
    refine lv_aload_n hx hb dX6_init_1425 rfl (lv_at hl 0 rfl) ?_
    refine lv_iconst (v := 5) hx hb dX6_init_1426 (by decide) ?_
    have hB := hT.2.2.1
    refine xnewa3 hC hI hT dX6_init_1427 (fun σ79 H hT hI => ?_)
    refine lv_dup hx hb dX6_init_1429 rfl ?_
    refine lv_iconst (v := 0) hx hb dX6_init_1430 (by decide) ?_
    refine lv_bipush (v := 102) hx hb dX6_init_1431 (by decide) ?_
    obtain ⟨hic, hT⟩ := hT
    obtain ⟨hL, hT⟩ := hT
    refine x_cast (i := σ78.1) hC hI hic hL hT dX6_init_1433 (fun σ80 H locs hT hI => ?_)
    refine lv_dup hx hb dX6_init_1434 rfl ?_
    refine lv_iconst (v := 1) hx hb dX6_init_1435 (by decide) ?_
    refine lv_bipush (v := 114) hx hb dX6_init_1436 (by decide) ?_
    obtain ⟨hic, hT⟩ := hT
    obtain ⟨hL, hT⟩ := hT
    refine x_cast (i := σ78.1) hC hI hic hL hT dX6_init_1438 (fun σ81 H locs hT hI => ?_)
    refine lv_dup hx hb dX6_init_1439 rfl ?_
    refine lv_iconst (v := 2) hx hb dX6_init_1440 (by decide) ?_
    refine lv_bipush (v := 97) hx hb dX6_init_1441 (by decide) ?_
    obtain ⟨hic, hT⟩ := hT
    obtain ⟨hL, hT⟩ := hT
    refine x_cast (i := σ78.1) hC hI hic hL hT dX6_init_1443 (fun σ82 H locs hT hI => ?_)
    refine lv_dup hx hb dX6_init_1444 rfl ?_
    refine lv_iconst (v := 3) hx hb dX6_init_1445 (by decide) ?_
    refine lv_bipush (v := 105) hx hb dX6_init_1446 (by decide) ?_
    obtain ⟨hic, hT⟩ := hT
    obtain ⟨hL, hT⟩ := hT
    refine x_cast (i := σ78.1) hC hI hic hL hT dX6_init_1448 (fun σ83 H locs hT hI => ?_)
    refine lv_dup hx hb dX6_init_1449 rfl ?_
    refine lv_iconst (v := 4) hx hb dX6_init_1450 (by decide) ?_
    refine lv_bipush (v := 108) hx hb dX6_init_1451 (by decide) ?_
    obtain ⟨hic, hT⟩ := hT
    obtain ⟨hL, hT⟩ := hT
    refine x_cast (i := σ78.1) hC hI hic hL hT dX6_init_1453 (fun σ84 H locs hT hI => ?_)
    obtain ⟨hic, hT⟩ := hT
    obtain ⟨hL, hT⟩ := hT
    refine xpF6c_82 (i := ob) (v := (σ78.1) + 1) hC hI hN rfl hic hL hT q1782 (fun _ h => h) dX6_init_1454 (fun σ85 H locs hT hI => ?_)
    exact w_1457 (cx + 1 + 1 + 1 + 1) ((((zx + (Int32.toNatClampNeg 3)) + (Int32.toNatClampNeg 5)) + (Int32.toNatClampNeg 3)) + (Int32.toNatClampNeg 5)) σ85 _ _ _ hT hI hB (lv_sub hl [0] rfl)
  have w_1266 : ∀ (cx : Nat) (zx : Nat) (σ : CS) (H : Heap) (locs : List Loc) (ls : Array Slot), U_X6_init_1266 mc ms K ob cx zx σ → xI D dA ad n0 Hs s.heap σ H locs → (cx ≤ mc ∧ zx ≤ ms) → lv_has ls 1 [(0, .ref (ad ob))] → W p l e ({ frames := 1, cells := mc, slots := ms, locals := 12 }) s m args below meth c H locs cx zx Q (F0 m 1266 ls []) := by
    intro cx zx σ H locs ls hT hI hB hl
    unfold U_X6_init_1266 at hT
    refine lv_aload_n hx hb dX6_init_1266 rfl (lv_at hl 0 rfl) ?_
    refine lv_iconst (v := 3) hx hb dX6_init_1267 (by decide) ?_
    have hB := hT.2.2.1
    refine xnewa3 hC hI hT dX6_init_1268 (fun σ86 H hT hI => ?_)
    refine lv_dup hx hb dX6_init_1270 rfl ?_
    refine lv_iconst (v := 0) hx hb dX6_init_1271 (by decide) ?_
    refine lv_bipush (v := 97) hx hb dX6_init_1272 (by decide) ?_
    obtain ⟨hic, hT⟩ := hT
    obtain ⟨hL, hT⟩ := hT
    refine x_cast (i := σ.1) hC hI hic hL hT dX6_init_1274 (fun σ87 H locs hT hI => ?_)
    refine lv_dup hx hb dX6_init_1275 rfl ?_
    refine lv_iconst (v := 1) hx hb dX6_init_1276 (by decide) ?_
    refine lv_bipush (v := 110) hx hb dX6_init_1277 (by decide) ?_
    obtain ⟨hic, hT⟩ := hT
    obtain ⟨hL, hT⟩ := hT
    refine x_cast (i := σ.1) hC hI hic hL hT dX6_init_1279 (fun σ88 H locs hT hI => ?_)
    refine lv_dup hx hb dX6_init_1280 rfl ?_
    refine lv_iconst (v := 2) hx hb dX6_init_1281 (by decide) ?_
    refine lv_bipush (v := 100) hx hb dX6_init_1282 (by decide) ?_
    obtain ⟨hic, hT⟩ := hT
    obtain ⟨hL, hT⟩ := hT
    refine x_cast (i := σ.1) hC hI hic hL hT dX6_init_1284 (fun σ89 H locs hT hI => ?_)
    obtain ⟨hic, hT⟩ := hT
    obtain ⟨hL, hT⟩ := hT
    refine xpF6c_75 (i := ob) (v := (σ.1) + 1) hC hI hN rfl hic hL hT q1775 (fun _ h => h) dX6_init_1285 (fun σ90 H locs hT hI => ?_)
    refine lv_aload_n hx hb dX6_init_1288 rfl (lv_at hl 0 rfl) ?_
    refine lv_iconst (v := 2) hx hb dX6_init_1289 (by decide) ?_
    have hB := hT.2.2.1
    refine xnewa3 hC hI hT dX6_init_1290 (fun σ91 H hT hI => ?_)
    refine lv_dup hx hb dX6_init_1292 rfl ?_
    refine lv_iconst (v := 0) hx hb dX6_init_1293 (by decide) ?_
    refine lv_bipush (v := 111) hx hb dX6_init_1294 (by decide) ?_
    obtain ⟨hic, hT⟩ := hT
    obtain ⟨hL, hT⟩ := hT
    refine x_cast (i := σ90.1) hC hI hic hL hT dX6_init_1296 (fun σ92 H locs hT hI => ?_)
    refine lv_dup hx hb dX6_init_1297 rfl ?_
    refine lv_iconst (v := 1) hx hb dX6_init_1298 (by decide) ?_
    refine lv_bipush (v := 114) hx hb dX6_init_1299 (by decide) ?_
    obtain ⟨hic, hT⟩ := hT
    obtain ⟨hL, hT⟩ := hT
    refine x_cast (i := σ90.1) hC hI hic hL hT dX6_init_1301 (fun σ93 H locs hT hI => ?_)
    obtain ⟨hic, hT⟩ := hT
    obtain ⟨hL, hT⟩ := hT
    refine xpF6c_76 (i := ob) (v := (σ90.1) + 1) hC hI hN rfl hic hL hT q1776 (fun _ h => h) dX6_init_1302 (fun σ94 H locs hT hI => ?_)
    refine lv_aload_n hx hb dX6_init_1305 rfl (lv_at hl 0 rfl) ?_
    refine lv_iconst (v := 3) hx hb dX6_init_1306 (by decide) ?_
    have hB := hT.2.2.1
    refine xnewa3 hC hI hT dX6_init_1307 (fun σ95 H hT hI => ?_)
    refine lv_dup hx hb dX6_init_1309 rfl ?_
    refine lv_iconst (v := 0) hx hb dX6_init_1310 (by decide) ?_
    refine lv_bipush (v := 97) hx hb dX6_init_1311 (by decide) ?_
    obtain ⟨hic, hT⟩ := hT
    obtain ⟨hL, hT⟩ := hT
    refine x_cast (i := σ94.1) hC hI hic hL hT dX6_init_1313 (fun σ96 H locs hT hI => ?_)
    refine lv_dup hx hb dX6_init_1314 rfl ?_
    refine lv_iconst (v := 1) hx hb dX6_init_1315 (by decide) ?_
    refine lv_bipush (v := 108) hx hb dX6_init_1316 (by decide) ?_
    obtain ⟨hic, hT⟩ := hT
    obtain ⟨hL, hT⟩ := hT
    refine x_cast (i := σ94.1) hC hI hic hL hT dX6_init_1318 (fun σ97 H locs hT hI => ?_)
    refine lv_dup hx hb dX6_init_1319 rfl ?_
    refine lv_iconst (v := 2) hx hb dX6_init_1320 (by decide) ?_
    refine lv_bipush (v := 108) hx hb dX6_init_1321 (by decide) ?_
    obtain ⟨hic, hT⟩ := hT
    obtain ⟨hL, hT⟩ := hT
    refine x_cast (i := σ94.1) hC hI hic hL hT dX6_init_1323 (fun σ98 H locs hT hI => ?_)
    obtain ⟨hic, hT⟩ := hT
    obtain ⟨hL, hT⟩ := hT
    refine xpF6c_77 (i := ob) (v := (σ94.1) + 1) hC hI hN rfl hic hL hT q1777 (fun _ h => h) dX6_init_1324 (fun σ99 H locs hT hI => ?_)
    refine lv_aload_n hx hb dX6_init_1327 rfl (lv_at hl 0 rfl) ?_
    refine lv_iconst (v := 3) hx hb dX6_init_1328 (by decide) ?_
    have hB := hT.2.2.1
    refine xnewa3 hC hI hT dX6_init_1329 (fun σ100 H hT hI => ?_)
    refine lv_dup hx hb dX6_init_1331 rfl ?_
    refine lv_iconst (v := 0) hx hb dX6_init_1332 (by decide) ?_
    refine lv_bipush (v := 109) hx hb dX6_init_1333 (by decide) ?_
    obtain ⟨hic, hT⟩ := hT
    obtain ⟨hL, hT⟩ := hT
    refine x_cast (i := σ99.1) hC hI hic hL hT dX6_init_1335 (fun σ101 H locs hT hI => ?_)
    refine lv_dup hx hb dX6_init_1336 rfl ?_
    refine lv_iconst (v := 1) hx hb dX6_init_1337 (by decide) ?_
    refine lv_bipush (v := 105) hx hb dX6_init_1338 (by decide) ?_
    obtain ⟨hic, hT⟩ := hT
    obtain ⟨hL, hT⟩ := hT
    refine x_cast (i := σ99.1) hC hI hic hL hT dX6_init_1340 (fun σ102 H locs hT hI => ?_)
    refine lv_dup hx hb dX6_init_1341 rfl ?_
    refine lv_iconst (v := 2) hx hb dX6_init_1342 (by decide) ?_
    refine lv_bipush (v := 110) hx hb dX6_init_1343 (by decide) ?_
    obtain ⟨hic, hT⟩ := hT
    obtain ⟨hL, hT⟩ := hT
    refine x_cast (i := σ99.1) hC hI hic hL hT dX6_init_1345 (fun σ103 H locs hT hI => ?_)
    obtain ⟨hic, hT⟩ := hT
    obtain ⟨hL, hT⟩ := hT
    refine xpF6c_78 (i := ob) (v := (σ99.1) + 1) hC hI hN rfl hic hL hT q1778 (fun _ h => h) dX6_init_1346 (fun σ104 H locs hT hI => ?_)
    exact w_1349 (cx + 1 + 1 + 1 + 1) ((((zx + (Int32.toNatClampNeg 3)) + (Int32.toNatClampNeg 2)) + (Int32.toNatClampNeg 3)) + (Int32.toNatClampNeg 3)) σ104 _ _ _ hT hI hB (lv_sub hl [0] rfl)
  have w_1153 : ∀ (cx : Nat) (zx : Nat) (σ : CS) (H : Heap) (locs : List Loc) (ls : Array Slot), U_X6_init_1153 mc ms K ob cx zx σ → xI D dA ad n0 Hs s.heap σ H locs → (cx ≤ mc ∧ zx ≤ ms) → lv_has ls 1 [(0, .ref (ad ob))] → W p l e ({ frames := 1, cells := mc, slots := ms, locals := 12 }) s m args below meth c H locs cx zx Q (F0 m 1153 ls []) := by
    intro cx zx σ H locs ls hT hI hB hl
    unfold U_X6_init_1153 at hT
    refine lv_aload_n hx hb dX6_init_1153 rfl (lv_at hl 0 rfl) ?_
    refine lv_iconst (v := 5) hx hb dX6_init_1154 (by decide) ?_
    have hB := hT.2.2.1
    refine xnewa3 hC hI hT dX6_init_1155 (fun σ105 H hT hI => ?_)
    refine lv_dup hx hb dX6_init_1157 rfl ?_
    refine lv_iconst (v := 0) hx hb dX6_init_1158 (by decide) ?_
    refine lv_bipush (v := 116) hx hb dX6_init_1159 (by decide) ?_
    obtain ⟨hic, hT⟩ := hT
    obtain ⟨hL, hT⟩ := hT
    refine x_cast (i := σ.1) hC hI hic hL hT dX6_init_1161 (fun σ106 H locs hT hI => ?_)
    refine lv_dup hx hb dX6_init_1162 rfl ?_
    refine lv_iconst (v := 1) hx hb dX6_init_1163 (by decide) ?_
    refine lv_bipush (v := 111) hx hb dX6_init_1164 (by decide) ?_
    obtain ⟨hic, hT⟩ := hT
    obtain ⟨hL, hT⟩ := hT
    refine x_cast (i := σ.1) hC hI hic hL hT dX6_init_1166 (fun σ107 H locs hT hI => ?_)
    refine lv_dup hx hb dX6_init_1167 rfl ?_
    refine lv_iconst (v := 2) hx hb dX6_init_1168 (by decide) ?_
    refine lv_bipush (v := 116) hx hb dX6_init_1169 (by decide) ?_
    obtain ⟨hic, hT⟩ := hT
    obtain ⟨hL, hT⟩ := hT
    refine x_cast (i := σ.1) hC hI hic hL hT dX6_init_1171 (fun σ108 H locs hT hI => ?_)
    refine lv_dup hx hb dX6_init_1172 rfl ?_
    refine lv_iconst (v := 3) hx hb dX6_init_1173 (by decide) ?_
    refine lv_bipush (v := 97) hx hb dX6_init_1174 (by decide) ?_
    obtain ⟨hic, hT⟩ := hT
    obtain ⟨hL, hT⟩ := hT
    refine x_cast (i := σ.1) hC hI hic hL hT dX6_init_1176 (fun σ109 H locs hT hI => ?_)
    refine lv_dup hx hb dX6_init_1177 rfl ?_
    refine lv_iconst (v := 4) hx hb dX6_init_1178 (by decide) ?_
    refine lv_bipush (v := 108) hx hb dX6_init_1179 (by decide) ?_
    obtain ⟨hic, hT⟩ := hT
    obtain ⟨hL, hT⟩ := hT
    refine x_cast (i := σ.1) hC hI hic hL hT dX6_init_1181 (fun σ110 H locs hT hI => ?_)
    obtain ⟨hic, hT⟩ := hT
    obtain ⟨hL, hT⟩ := hT
    refine xpF6c_71 (i := ob) (v := (σ.1) + 1) hC hI hN rfl hic hL hT q1771 (fun _ h => h) dX6_init_1182 (fun σ111 H locs hT hI => ?_)
    refine lv_aload_n hx hb dX6_init_1185 rfl (lv_at hl 0 rfl) ?_
    refine lv_iconst (v := 4) hx hb dX6_init_1186 (by decide) ?_
    have hB := hT.2.2.1
    refine xnewa3 hC hI hT dX6_init_1187 (fun σ112 H hT hI => ?_)
    refine lv_dup hx hb dX6_init_1189 rfl ?_
    refine lv_iconst (v := 0) hx hb dX6_init_1190 (by decide) ?_
    refine lv_bipush (v := 109) hx hb dX6_init_1191 (by decide) ?_
    obtain ⟨hic, hT⟩ := hT
    obtain ⟨hL, hT⟩ := hT
    refine x_cast (i := σ111.1) hC hI hic hL hT dX6_init_1193 (fun σ113 H locs hT hI => ?_)
    refine lv_dup hx hb dX6_init_1194 rfl ?_
    refine lv_iconst (v := 1) hx hb dX6_init_1195 (by decide) ?_
    refine lv_bipush (v := 111) hx hb dX6_init_1196 (by decide) ?_
    obtain ⟨hic, hT⟩ := hT
    obtain ⟨hL, hT⟩ := hT
    refine x_cast (i := σ111.1) hC hI hic hL hT dX6_init_1198 (fun σ114 H locs hT hI => ?_)
    refine lv_dup hx hb dX6_init_1199 rfl ?_
    refine lv_iconst (v := 2) hx hb dX6_init_1200 (by decide) ?_
    refine lv_bipush (v := 115) hx hb dX6_init_1201 (by decide) ?_
    obtain ⟨hic, hT⟩ := hT
    obtain ⟨hL, hT⟩ := hT
    refine x_cast (i := σ111.1) hC hI hic hL hT dX6_init_1203 (fun σ115 H locs hT hI => ?_)
    refine lv_dup hx hb dX6_init_1204 rfl ?_
    refine lv_iconst (v := 3) hx hb dX6_init_1205 (by decide) ?_
    refine lv_bipush (v := 116) hx hb dX6_init_1206 (by decide) ?_
    obtain ⟨hic, hT⟩ := hT
    obtain ⟨hL, hT⟩ := hT
    refine x_cast (i := σ111.1) hC hI hic hL hT dX6_init_1208 (fun σ116 H locs hT hI => ?_)
    obtain ⟨hic, hT⟩ := hT
    obtain ⟨hL, hT⟩ := hT
    refine xpF6c_72 (i := ob) (v := (σ111.1) + 1) hC hI hN rfl hic hL hT q1772 (fun _ h => h) dX6_init_1209 (fun σ117 H locs hT hI => ?_)
    refine lv_aload_n hx hb dX6_init_1212 rfl (lv_at hl 0 rfl) ?_
    refine lv_iconst (v := 5) hx hb dX6_init_1213 (by decide) ?_
    have hB := hT.2.2.1
    refine xnewa3 hC hI hT dX6_init_1214 (fun σ118 H hT hI => ?_)
    refine lv_dup hx hb dX6_init_1216 rfl ?_
    refine lv_iconst (v := 0) hx hb dX6_init_1217 (by decide) ?_
    refine lv_bipush (v := 108) hx hb dX6_init_1218 (by decide) ?_
    obtain ⟨hic, hT⟩ := hT
    obtain ⟨hL, hT⟩ := hT
    refine x_cast (i := σ117.1) hC hI hic hL hT dX6_init_1220 (fun σ119 H locs hT hI => ?_)
    refine lv_dup hx hb dX6_init_1221 rfl ?_
    refine lv_iconst (v := 1) hx hb dX6_init_1222 (by decide) ?_
    refine lv_bipush (v := 101) hx hb dX6_init_1223 (by decide) ?_
    obtain ⟨hic, hT⟩ := hT
    obtain ⟨hL, hT⟩ := hT
    refine x_cast (i := σ117.1) hC hI hic hL hT dX6_init_1225 (fun σ120 H locs hT hI => ?_)
    refine lv_dup hx hb dX6_init_1226 rfl ?_
    refine lv_iconst (v := 2) hx hb dX6_init_1227 (by decide) ?_
    refine lv_bipush (v := 97) hx hb dX6_init_1228 (by decide) ?_
    obtain ⟨hic, hT⟩ := hT
    obtain ⟨hL, hT⟩ := hT
    refine x_cast (i := σ117.1) hC hI hic hL hT dX6_init_1230 (fun σ121 H locs hT hI => ?_)
    refine lv_dup hx hb dX6_init_1231 rfl ?_
    refine lv_iconst (v := 3) hx hb dX6_init_1232 (by decide) ?_
    refine lv_bipush (v := 115) hx hb dX6_init_1233 (by decide) ?_
    obtain ⟨hic, hT⟩ := hT
    obtain ⟨hL, hT⟩ := hT
    refine x_cast (i := σ117.1) hC hI hic hL hT dX6_init_1235 (fun σ122 H locs hT hI => ?_)
    refine lv_dup hx hb dX6_init_1236 rfl ?_
    refine lv_iconst (v := 4) hx hb dX6_init_1237 (by decide) ?_
    refine lv_bipush (v := 116) hx hb dX6_init_1238 (by decide) ?_
    obtain ⟨hic, hT⟩ := hT
    obtain ⟨hL, hT⟩ := hT
    refine x_cast (i := σ117.1) hC hI hic hL hT dX6_init_1240 (fun σ123 H locs hT hI => ?_)
    obtain ⟨hic, hT⟩ := hT
    obtain ⟨hL, hT⟩ := hT
    refine xpF6c_73 (i := ob) (v := (σ117.1) + 1) hC hI hN rfl hic hL hT q1773 (fun _ h => h) dX6_init_1241 (fun σ124 H locs hT hI => ?_)
    refine lv_aload_n hx hb dX6_init_1244 rfl (lv_at hl 0 rfl) ?_
    refine lv_iconst (v := 3) hx hb dX6_init_1245 (by decide) ?_
    have hB := hT.2.2.1
    refine xnewa3 hC hI hT dX6_init_1246 (fun σ125 H hT hI => ?_)
    refine lv_dup hx hb dX6_init_1248 rfl ?_
    refine lv_iconst (v := 0) hx hb dX6_init_1249 (by decide) ?_
    refine lv_bipush (v := 110) hx hb dX6_init_1250 (by decide) ?_
    obtain ⟨hic, hT⟩ := hT
    obtain ⟨hL, hT⟩ := hT
    refine x_cast (i := σ124.1) hC hI hic hL hT dX6_init_1252 (fun σ126 H locs hT hI => ?_)
    refine lv_dup hx hb dX6_init_1253 rfl ?_
    refine lv_iconst (v := 1) hx hb dX6_init_1254 (by decide) ?_
    refine lv_bipush (v := 111) hx hb dX6_init_1255 (by decide) ?_
    obtain ⟨hic, hT⟩ := hT
    obtain ⟨hL, hT⟩ := hT
    refine x_cast (i := σ124.1) hC hI hic hL hT dX6_init_1257 (fun σ127 H locs hT hI => ?_)
    refine lv_dup hx hb dX6_init_1258 rfl ?_
    refine lv_iconst (v := 2) hx hb dX6_init_1259 (by decide) ?_
    refine lv_bipush (v := 116) hx hb dX6_init_1260 (by decide) ?_
    obtain ⟨hic, hT⟩ := hT
    obtain ⟨hL, hT⟩ := hT
    refine x_cast (i := σ124.1) hC hI hic hL hT dX6_init_1262 (fun σ128 H locs hT hI => ?_)
    obtain ⟨hic, hT⟩ := hT
    obtain ⟨hL, hT⟩ := hT
    refine xpF6c_74 (i := ob) (v := (σ124.1) + 1) hC hI hN rfl hic hL hT q1774 (fun _ h => h) dX6_init_1263 (fun σ129 H locs hT hI => ?_)
    exact w_1266 (cx + 1 + 1 + 1 + 1) ((((zx + (Int32.toNatClampNeg 5)) + (Int32.toNatClampNeg 4)) + (Int32.toNatClampNeg 5)) + (Int32.toNatClampNeg 3)) σ129 _ _ _ hT hI hB (lv_sub hl [0] rfl)
  have w_1057 : ∀ (cx : Nat) (zx : Nat) (σ : CS) (H : Heap) (locs : List Loc) (ls : Array Slot), U_X6_init_1057 mc ms K ob cx zx σ → xI D dA ad n0 Hs s.heap σ H locs → (cx ≤ mc ∧ zx ≤ ms) → lv_has ls 1 [(0, .ref (ad ob))] → W p l e ({ frames := 1, cells := mc, slots := ms, locals := 12 }) s m args below meth c H locs cx zx Q (F0 m 1057 ls []) := by
    intro cx zx σ H locs ls hT hI hB hl
    unfold U_X6_init_1057 at hT
    refine lv_aload_n hx hb dX6_init_1057 rfl (lv_at hl 0 rfl) ?_
    refine lv_lconst (v := 1) hx hb dX6_init_1058 (by decide) ?_
    obtain ⟨hic, hT⟩ := hT
    obtain ⟨hL, hT⟩ := hT
    refine xp6c_67 (i := ob) (v := 1) hC hI hic hL hT q1767 (fun _ h => h) dX6_init_1059 (fun σ130 H locs hT hI => ?_)
    refine lv_aload_n hx hb dX6_init_1062 rfl (lv_at hl 0 rfl) ?_
    refine lv_iconst (v := 5) hx hb dX6_init_1063 (by decide) ?_
    have hB := hT.2.2.1
    refine xnewa3 hC hI hT dX6_init_1064 (fun σ131 H hT hI => ?_)
    refine lv_dup hx hb dX6_init_1066 rfl ?_
    refine lv_iconst (v := 0) hx hb dX6_init_1067 (by decide) ?_
    refine lv_bipush (v := 102) hx hb dX6_init_1068 (by decide) ?_
    obtain ⟨hic, hT⟩ := hT
    obtain ⟨hL, hT⟩ := hT
    refine x_cast (i := σ130.1) hC hI hic hL hT dX6_init_1070 (fun σ132 H locs hT hI => ?_)
    refine lv_dup hx hb dX6_init_1071 rfl ?_
    refine lv_iconst (v := 1) hx hb dX6_init_1072 (by decide) ?_
    refine lv_bipush (v := 105) hx hb dX6_init_1073 (by decide) ?_
    obtain ⟨hic, hT⟩ := hT
    obtain ⟨hL, hT⟩ := hT
    refine x_cast (i := σ130.1) hC hI hic hL hT dX6_init_1075 (fun σ133 H locs hT hI => ?_)
    refine lv_dup hx hb dX6_init_1076 rfl ?_
    refine lv_iconst (v := 2) hx hb dX6_init_1077 (by decide) ?_
    refine lv_bipush (v := 114) hx hb dX6_init_1078 (by decide) ?_
    obtain ⟨hic, hT⟩ := hT
    obtain ⟨hL, hT⟩ := hT
    refine x_cast (i := σ130.1) hC hI hic hL hT dX6_init_1080 (fun σ134 H locs hT hI => ?_)
    refine lv_dup hx hb dX6_init_1081 rfl ?_
    refine lv_iconst (v := 3) hx hb dX6_init_1082 (by decide) ?_
    refine lv_bipush (v := 115) hx hb dX6_init_1083 (by decide) ?_
    obtain ⟨hic, hT⟩ := hT
    obtain ⟨hL, hT⟩ := hT
    refine x_cast (i := σ130.1) hC hI hic hL hT dX6_init_1085 (fun σ135 H locs hT hI => ?_)
    refine lv_dup hx hb dX6_init_1086 rfl ?_
    refine lv_iconst (v := 4) hx hb dX6_init_1087 (by decide) ?_
    refine lv_bipush (v := 116) hx hb dX6_init_1088 (by decide) ?_
    obtain ⟨hic, hT⟩ := hT
    obtain ⟨hL, hT⟩ := hT
    refine x_cast (i := σ130.1) hC hI hic hL hT dX6_init_1090 (fun σ136 H locs hT hI => ?_)
    obtain ⟨hic, hT⟩ := hT
    obtain ⟨hL, hT⟩ := hT
    refine xpF6c_68 (i := ob) (v := (σ130.1) + 1) hC hI hN rfl hic hL hT q1768 (fun _ h => h) dX6_init_1091 (fun σ137 H locs hT hI => ?_)
    refine lv_aload_n hx hb dX6_init_1094 rfl (lv_at hl 0 rfl) ?_
    refine lv_iconst (v := 4) hx hb dX6_init_1095 (by decide) ?_
    have hB := hT.2.2.1
    refine xnewa3 hC hI hT dX6_init_1096 (fun σ138 H hT hI => ?_)
    refine lv_dup hx hb dX6_init_1098 rfl ?_
    refine lv_iconst (v := 0) hx hb dX6_init_1099 (by decide) ?_
    refine lv_bipush (v := 108) hx hb dX6_init_1100 (by decide) ?_
    obtain ⟨hic, hT⟩ := hT
    obtain ⟨hL, hT⟩ := hT
    refine x_cast (i := σ137.1) hC hI hic hL hT dX6_init_1102 (fun σ139 H locs hT hI => ?_)
    refine lv_dup hx hb dX6_init_1103 rfl ?_
    refine lv_iconst (v := 1) hx hb dX6_init_1104 (by decide) ?_
    refine lv_bipush (v := 97) hx hb dX6_init_1105 (by decide) ?_
    obtain ⟨hic, hT⟩ := hT
    obtain ⟨hL, hT⟩ := hT
    refine x_cast (i := σ137.1) hC hI hic hL hT dX6_init_1107 (fun σ140 H locs hT hI => ?_)
    refine lv_dup hx hb dX6_init_1108 rfl ?_
    refine lv_iconst (v := 2) hx hb dX6_init_1109 (by decide) ?_
    refine lv_bipush (v := 115) hx hb dX6_init_1110 (by decide) ?_
    obtain ⟨hic, hT⟩ := hT
    obtain ⟨hL, hT⟩ := hT
    refine x_cast (i := σ137.1) hC hI hic hL hT dX6_init_1112 (fun σ141 H locs hT hI => ?_)
    refine lv_dup hx hb dX6_init_1113 rfl ?_
    refine lv_iconst (v := 3) hx hb dX6_init_1114 (by decide) ?_
    refine lv_bipush (v := 116) hx hb dX6_init_1115 (by decide) ?_
    obtain ⟨hic, hT⟩ := hT
    obtain ⟨hL, hT⟩ := hT
    refine x_cast (i := σ137.1) hC hI hic hL hT dX6_init_1117 (fun σ142 H locs hT hI => ?_)
    obtain ⟨hic, hT⟩ := hT
    obtain ⟨hL, hT⟩ := hT
    refine xpF6c_69 (i := ob) (v := (σ137.1) + 1) hC hI hN rfl hic hL hT q1769 (fun _ h => h) dX6_init_1118 (fun σ143 H locs hT hI => ?_)
    refine lv_aload_n hx hb dX6_init_1121 rfl (lv_at hl 0 rfl) ?_
    refine lv_iconst (v := 5) hx hb dX6_init_1122 (by decide) ?_
    have hB := hT.2.2.1
    refine xnewa3 hC hI hT dX6_init_1123 (fun σ144 H hT hI => ?_)
    refine lv_dup hx hb dX6_init_1125 rfl ?_
    refine lv_iconst (v := 0) hx hb dX6_init_1126 (by decide) ?_
    refine lv_bipush (v := 111) hx hb dX6_init_1127 (by decide) ?_
    obtain ⟨hic, hT⟩ := hT
    obtain ⟨hL, hT⟩ := hT
    refine x_cast (i := σ143.1) hC hI hic hL hT dX6_init_1129 (fun σ145 H locs hT hI => ?_)
    refine lv_dup hx hb dX6_init_1130 rfl ?_
    refine lv_iconst (v := 1) hx hb dX6_init_1131 (by decide) ?_
    refine lv_bipush (v := 102) hx hb dX6_init_1132 (by decide) ?_
    obtain ⟨hic, hT⟩ := hT
    obtain ⟨hL, hT⟩ := hT
    refine x_cast (i := σ143.1) hC hI hic hL hT dX6_init_1134 (fun σ146 H locs hT hI => ?_)
    refine lv_dup hx hb dX6_init_1135 rfl ?_
    refine lv_iconst (v := 2) hx hb dX6_init_1136 (by decide) ?_
    refine lv_bipush (v := 116) hx hb dX6_init_1137 (by decide) ?_
    obtain ⟨hic, hT⟩ := hT
    obtain ⟨hL, hT⟩ := hT
    refine x_cast (i := σ143.1) hC hI hic hL hT dX6_init_1139 (fun σ147 H locs hT hI => ?_)
    refine lv_dup hx hb dX6_init_1140 rfl ?_
    refine lv_iconst (v := 3) hx hb dX6_init_1141 (by decide) ?_
    refine lv_bipush (v := 101) hx hb dX6_init_1142 (by decide) ?_
    obtain ⟨hic, hT⟩ := hT
    obtain ⟨hL, hT⟩ := hT
    refine x_cast (i := σ143.1) hC hI hic hL hT dX6_init_1144 (fun σ148 H locs hT hI => ?_)
    refine lv_dup hx hb dX6_init_1145 rfl ?_
    refine lv_iconst (v := 4) hx hb dX6_init_1146 (by decide) ?_
    refine lv_bipush (v := 110) hx hb dX6_init_1147 (by decide) ?_
    obtain ⟨hic, hT⟩ := hT
    obtain ⟨hL, hT⟩ := hT
    refine x_cast (i := σ143.1) hC hI hic hL hT dX6_init_1149 (fun σ149 H locs hT hI => ?_)
    obtain ⟨hic, hT⟩ := hT
    obtain ⟨hL, hT⟩ := hT
    refine xpF6c_70 (i := ob) (v := (σ143.1) + 1) hC hI hN rfl hic hL hT q1770 (fun _ h => h) dX6_init_1150 (fun σ150 H locs hT hI => ?_)
    exact w_1153 (cx + 1 + 1 + 1) (((zx + (Int32.toNatClampNeg 5)) + (Int32.toNatClampNeg 4)) + (Int32.toNatClampNeg 5)) σ150 _ _ _ hT hI hB (lv_sub hl [0] rfl)
  have w_1023 : ∀ (cx : Nat) (zx : Nat) (σ : CS) (H : Heap) (locs : List Loc) (ls : Array Slot), U_X6_init_1023 mc ms K ob cx zx σ → xI D dA ad n0 Hs s.heap σ H locs → (cx ≤ mc ∧ zx ≤ ms) → lv_has ls 1 [(0, .ref (ad ob))] → W p l e ({ frames := 1, cells := mc, slots := ms, locals := 12 }) s m args below meth c H locs cx zx Q (F0 m 1023 ls []) := by
    intro cx zx σ H locs ls hT hI hB hl
    unfold U_X6_init_1023 at hT
    refine lv_aload_n hx hb dX6_init_1023 rfl (lv_at hl 0 rfl) ?_
    refine lv_bipush (v := 6) hx hb dX6_init_1024 (by decide) ?_
    have hB := hT.2.2.1
    refine xnewa0 hC hI hT dX6_init_1026 (fun σ151 H hT hI => ?_)
    obtain ⟨hic, hT⟩ := hT
    obtain ⟨hL, hT⟩ := hT
    refine xpF6c_61 (i := ob) (v := (σ.1) + 1) hC hI hN rfl hic hL hT q1761 (fun _ h => h) dX6_init_1028 (fun σ152 H locs hT hI => ?_)
    refine lv_aload_n hx hb dX6_init_1031 rfl (lv_at hl 0 rfl) ?_
    refine lv_bipush (v := 6) hx hb dX6_init_1032 (by decide) ?_
    have hB := hT.2.2.1
    refine xnewa0 hC hI hT dX6_init_1034 (fun σ153 H hT hI => ?_)
    obtain ⟨hic, hT⟩ := hT
    obtain ⟨hL, hT⟩ := hT
    refine xpF6c_62 (i := ob) (v := (σ152.1) + 1) hC hI hN rfl hic hL hT q1762 (fun _ h => h) dX6_init_1036 (fun σ154 H locs hT hI => ?_)
    refine lv_aload_n hx hb dX6_init_1039 rfl (lv_at hl 0 rfl) ?_
    refine lv_sipush (v := 310) hx hb dX6_init_1040 (by decide) ?_
    have hB := hT.2.2.1
    refine xnewa2 hC hI hT dX6_init_1043 (fun σ155 H hT hI => ?_)
    obtain ⟨hic, hT⟩ := hT
    obtain ⟨hL, hT⟩ := hT
    refine xpF6c_63 (i := ob) (v := (σ154.1) + 1) hC hI hN rfl hic hL hT q1763 (fun _ h => h) dX6_init_1045 (fun σ156 H locs hT hI => ?_)
    refine lv_aload_n hx hb dX6_init_1048 rfl (lv_at hl 0 rfl) ?_
    refine lv_sipush (v := 3840) hx hb dX6_init_1049 (by decide) ?_
    have hB := hT.2.2.1
    refine xnewa0 hC hI hT dX6_init_1052 (fun σ157 H hT hI => ?_)
    obtain ⟨hic, hT⟩ := hT
    obtain ⟨hL, hT⟩ := hT
    refine xpF6c_64 (i := ob) (v := (σ156.1) + 1) hC hI hN rfl hic hL hT q1764 (fun _ h => h) dX6_init_1054 (fun σ158 H locs hT hI => ?_)
    exact w_1057 (cx + 1 + 1 + 1 + 1) ((((zx + (Int32.toNatClampNeg 6)) + (Int32.toNatClampNeg 6)) + (Int32.toNatClampNeg 310)) + (Int32.toNatClampNeg 3840)) σ158 _ _ _ hT hI hB (lv_sub hl [0] rfl)
  have w_995 : ∀ (cx : Nat) (zx : Nat) (σ : CS) (H : Heap) (locs : List Loc) (ls : Array Slot), U_X6_init_995 mc ms K ob cx zx σ → xI D dA ad n0 Hs s.heap σ H locs → (cx ≤ mc ∧ zx ≤ ms) → lv_has ls 1 [(0, .ref (ad ob))] → W p l e ({ frames := 1, cells := mc, slots := ms, locals := 12 }) s m args below meth c H locs cx zx Q (F0 m 995 ls []) := by
    intro cx zx σ H locs ls hT hI hB hl
    unfold U_X6_init_995 at hT
    refine lv_aload_n hx hb dX6_init_995 rfl (lv_at hl 0 rfl) ?_
    refine lv_iconst (v := -1) hx hb dX6_init_996 (by decide) ?_
    obtain ⟨hic, hT⟩ := hT
    obtain ⟨hL, hT⟩ := hT
    refine xp6c_53 (i := ob) (v := -1) hC hI hic hL hT q1753 (fun _ h => h) dX6_init_997 (fun σ159 H locs hT hI => ?_)
    refine lv_aload_n hx hb dX6_init_1000 rfl (lv_at hl 0 rfl) ?_
    refine lv_bipush (v := 40) hx hb dX6_init_1001 (by decide) ?_
    have hB := hT.2.2.1
    refine xnewa0 hC hI hT dX6_init_1003 (fun σ160 H hT hI => ?_)
    obtain ⟨hic, hT⟩ := hT
    obtain ⟨hL, hT⟩ := hT
    refine xpF6c_56 (i := ob) (v := (σ159.1) + 1) hC hI hN rfl hic hL hT q1756 (fun _ h => h) dX6_init_1005 (fun σ161 H locs hT hI => ?_)
    refine lv_aload_n hx hb dX6_init_1008 rfl (lv_at hl 0 rfl) ?_
    refine lv_bipush (v := 8) hx hb dX6_init_1009 (by decide) ?_
    have hB := hT.2.2.1
    refine xnewa2 hC hI hT dX6_init_1011 (fun σ162 H hT hI => ?_)
    obtain ⟨hic, hT⟩ := hT
    obtain ⟨hL, hT⟩ := hT
    refine xpF6c_59 (i := ob) (v := (σ161.1) + 1) hC hI hN rfl hic hL hT q1759 (fun _ h => h) dX6_init_1013 (fun σ163 H locs hT hI => ?_)
    refine lv_aload_n hx hb dX6_init_1016 rfl (lv_at hl 0 rfl) ?_
    refine lv_iconst (v := 4) hx hb dX6_init_1017 (by decide) ?_
    have hB := hT.2.2.1
    refine xnewa0 hC hI hT dX6_init_1018 (fun σ164 H hT hI => ?_)
    obtain ⟨hic, hT⟩ := hT
    obtain ⟨hL, hT⟩ := hT
    refine xpF6c_60 (i := ob) (v := (σ163.1) + 1) hC hI hN rfl hic hL hT q1760 (fun _ h => h) dX6_init_1020 (fun σ165 H locs hT hI => ?_)
    exact w_1023 (cx + 1 + 1 + 1) (((zx + (Int32.toNatClampNeg 40)) + (Int32.toNatClampNeg 8)) + (Int32.toNatClampNeg 4)) σ165 _ _ _ hT hI hB (lv_sub hl [0] rfl)
  have w_961 : ∀ (cx : Nat) (zx : Nat) (σ : CS) (H : Heap) (locs : List Loc) (ls : Array Slot), U_X6_init_961 mc ms K ob cx zx σ → xI D dA ad n0 Hs s.heap σ H locs → (cx ≤ mc ∧ zx ≤ ms) → lv_has ls 1 [(0, .ref (ad ob))] → W p l e ({ frames := 1, cells := mc, slots := ms, locals := 12 }) s m args below meth c H locs cx zx Q (F0 m 961 ls []) := by
    intro cx zx σ H locs ls hT hI hB hl
    unfold U_X6_init_961 at hT
    refine lv_aload_n hx hb dX6_init_961 rfl (lv_at hl 0 rfl) ?_
    refine lv_bipush (v := 20) hx hb dX6_init_962 (by decide) ?_
    have hB := hT.2.2.1
    refine xnewa0 hC hI hT dX6_init_964 (fun σ166 H hT hI => ?_)
    obtain ⟨hic, hT⟩ := hT
    obtain ⟨hL, hT⟩ := hT
    refine xpF6c_46 (i := ob) (v := (σ.1) + 1) hC hI hN rfl hic hL hT q1746 (fun _ h => h) dX6_init_966 (fun σ167 H locs hT hI => ?_)
    refine lv_aload_n hx hb dX6_init_969 rfl (lv_at hl 0 rfl) ?_
    refine lv_sipush (v := 3200) hx hb dX6_init_970 (by decide) ?_
    have hB := hT.2.2.1
    refine xnewa0 hC hI hT dX6_init_973 (fun σ168 H hT hI => ?_)
    obtain ⟨hic, hT⟩ := hT
    obtain ⟨hL, hT⟩ := hT
    refine xpF6c_47 (i := ob) (v := (σ167.1) + 1) hC hI hN rfl hic hL hT q1747 (fun _ h => h) dX6_init_975 (fun σ169 H locs hT hI => ?_)
    refine lv_aload_n hx hb dX6_init_978 rfl (lv_at hl 0 rfl) ?_
    refine lv_sipush (v := 192) hx hb dX6_init_979 (by decide) ?_
    have hB := hT.2.2.1
    refine xnewa0 hC hI hT dX6_init_982 (fun σ170 H hT hI => ?_)
    obtain ⟨hic, hT⟩ := hT
    obtain ⟨hL, hT⟩ := hT
    refine xpF6c_51 (i := ob) (v := (σ169.1) + 1) hC hI hN rfl hic hL hT q1751 (fun _ h => h) dX6_init_984 (fun σ171 H locs hT hI => ?_)
    refine lv_aload_n hx hb dX6_init_987 rfl (lv_at hl 0 rfl) ?_
    refine lv_bipush (v := 41) hx hb dX6_init_988 (by decide) ?_
    have hB := hT.2.2.1
    refine xnewa0 hC hI hT dX6_init_990 (fun σ172 H hT hI => ?_)
    obtain ⟨hic, hT⟩ := hT
    obtain ⟨hL, hT⟩ := hT
    refine xpF6c_52 (i := ob) (v := (σ171.1) + 1) hC hI hN rfl hic hL hT q1752 (fun _ h => h) dX6_init_992 (fun σ173 H locs hT hI => ?_)
    exact w_995 (cx + 1 + 1 + 1 + 1) ((((zx + (Int32.toNatClampNeg 20)) + (Int32.toNatClampNeg 3200)) + (Int32.toNatClampNeg 192)) + (Int32.toNatClampNeg 41)) σ173 _ _ _ hT hI hB (lv_sub hl [0] rfl)
  have w_835 : ∀ (cx : Nat) (zx : Nat) (σ : CS) (H : Heap) (locs : List Loc) (ls : Array Slot), U_X6_init_835 mc ms K ob cx zx σ → xI D dA ad n0 Hs s.heap σ H locs → (cx ≤ mc ∧ zx ≤ ms) → lv_has ls 1 [(0, .ref (ad ob))] → W p l e ({ frames := 1, cells := mc, slots := ms, locals := 12 }) s m args below meth c H locs cx zx Q (F0 m 835 ls []) := by
    intro cx zx σ H locs ls hT hI hB hl
    unfold U_X6_init_835 at hT
    refine lv_aload_n hx hb dX6_init_835 rfl (lv_at hl 0 rfl) ?_
    refine lv_bipush (v := 48) hx hb dX6_init_836 (by decide) ?_
    have hB := hT.2.2.1
    refine xnewa4 hC hI hT dX6_init_838 (fun σ174 H hT hI => ?_)
    obtain ⟨hic, hT⟩ := hT
    obtain ⟨hL, hT⟩ := hT
    refine xpF6c_40 (i := ob) (v := (σ.1) + 1) hC hI hN rfl hic hL hT q1740 (fun _ h => h) dX6_init_840 (fun σ175 H locs hT hI => ?_)
    refine lv_aload_n hx hb dX6_init_843 rfl (lv_at hl 0 rfl) ?_
    refine lv_bipush (v := 48) hx hb dX6_init_844 (by decide) ?_
    have hB := hT.2.2.1
    refine xnewa0 hC hI hT dX6_init_846 (fun σ176 H hT hI => ?_)
    obtain ⟨hic, hT⟩ := hT
    obtain ⟨hL, hT⟩ := hT
    refine xpF6c_41 (i := ob) (v := (σ175.1) + 1) hC hI hN rfl hic hL hT q1741 (fun _ h => h) dX6_init_848 (fun σ177 H locs hT hI => ?_)
    refine lv_aload_n hx hb dX6_init_851 rfl (lv_at hl 0 rfl) ?_
    refine lv_bipush (v := 16) hx hb dX6_init_852 (by decide) ?_
    have hB := hT.2.2.1
    refine xnewa0 hC hI hT dX6_init_854 (fun σ178 H hT hI => ?_)
    obtain ⟨hic, hT⟩ := hT
    obtain ⟨hL, hT⟩ := hT
    refine xpF6c_42 (i := ob) (v := (σ177.1) + 1) hC hI hN rfl hic hL hT q1742 (fun _ h => h) dX6_init_856 (fun σ179 H locs hT hI => ?_)
    refine lv_aload_n hx hb dX6_init_859 rfl (lv_at hl 0 rfl) ?_
    refine lv_bipush (v := 20) hx hb dX6_init_860 (by decide) ?_
    have hB := hT.2.2.1
    refine xnewa0 hC hI hT dX6_init_862 (fun σ180 H hT hI => ?_)
    refine lv_dup hx hb dX6_init_864 rfl ?_
    refine lv_iconst (v := 0) hx hb dX6_init_865 (by decide) ?_
    refine lv_iconst (v := -1) hx hb dX6_init_866 (by decide) ?_
    obtain ⟨hic, hT⟩ := hT
    obtain ⟨hL, hT⟩ := hT
    refine x_iast (i := σ179.1) hC hI hic hL hT dX6_init_867 (fun σ181 H locs hT hI => ?_)
    refine lv_dup hx hb dX6_init_868 rfl ?_
    refine lv_iconst (v := 1) hx hb dX6_init_869 (by decide) ?_
    refine lv_iconst (v := -1) hx hb dX6_init_870 (by decide) ?_
    obtain ⟨hic, hT⟩ := hT
    obtain ⟨hL, hT⟩ := hT
    refine x_iast (i := σ179.1) hC hI hic hL hT dX6_init_871 (fun σ182 H locs hT hI => ?_)
    refine lv_dup hx hb dX6_init_872 rfl ?_
    refine lv_iconst (v := 2) hx hb dX6_init_873 (by decide) ?_
    refine lv_iconst (v := -1) hx hb dX6_init_874 (by decide) ?_
    obtain ⟨hic, hT⟩ := hT
    obtain ⟨hL, hT⟩ := hT
    refine x_iast (i := σ179.1) hC hI hic hL hT dX6_init_875 (fun σ183 H locs hT hI => ?_)
    refine lv_dup hx hb dX6_init_876 rfl ?_
    refine lv_iconst (v := 3) hx hb dX6_init_877 (by decide) ?_
    refine lv_iconst (v := -1) hx hb dX6_init_878 (by decide) ?_
    obtain ⟨hic, hT⟩ := hT
    obtain ⟨hL, hT⟩ := hT
    refine x_iast (i := σ179.1) hC hI hic hL hT dX6_init_879 (fun σ184 H locs hT hI => ?_)
    refine lv_dup hx hb dX6_init_880 rfl ?_
    refine lv_iconst (v := 4) hx hb dX6_init_881 (by decide) ?_
    refine lv_iconst (v := -1) hx hb dX6_init_882 (by decide) ?_
    obtain ⟨hic, hT⟩ := hT
    obtain ⟨hL, hT⟩ := hT
    refine x_iast (i := σ179.1) hC hI hic hL hT dX6_init_883 (fun σ185 H locs hT hI => ?_)
    refine lv_dup hx hb dX6_init_884 rfl ?_
    refine lv_iconst (v := 5) hx hb dX6_init_885 (by decide) ?_
    refine lv_iconst (v := -1) hx hb dX6_init_886 (by decide) ?_
    obtain ⟨hic, hT⟩ := hT
    obtain ⟨hL, hT⟩ := hT
    refine x_iast (i := σ179.1) hC hI hic hL hT dX6_init_887 (fun σ186 H locs hT hI => ?_)
    refine lv_dup hx hb dX6_init_888 rfl ?_
    refine lv_bipush (v := 6) hx hb dX6_init_889 (by decide) ?_
    refine lv_iconst (v := -1) hx hb dX6_init_891 (by decide) ?_
    obtain ⟨hic, hT⟩ := hT
    obtain ⟨hL, hT⟩ := hT
    refine x_iast (i := σ179.1) hC hI hic hL hT dX6_init_892 (fun σ187 H locs hT hI => ?_)
    refine lv_dup hx hb dX6_init_893 rfl ?_
    refine lv_bipush (v := 7) hx hb dX6_init_894 (by decide) ?_
    refine lv_iconst (v := -1) hx hb dX6_init_896 (by decide) ?_
    obtain ⟨hic, hT⟩ := hT
    obtain ⟨hL, hT⟩ := hT
    refine x_iast (i := σ179.1) hC hI hic hL hT dX6_init_897 (fun σ188 H locs hT hI => ?_)
    refine lv_dup hx hb dX6_init_898 rfl ?_
    refine lv_bipush (v := 8) hx hb dX6_init_899 (by decide) ?_
    refine lv_iconst (v := -1) hx hb dX6_init_901 (by decide) ?_
    obtain ⟨hic, hT⟩ := hT
    obtain ⟨hL, hT⟩ := hT
    refine x_iast (i := σ179.1) hC hI hic hL hT dX6_init_902 (fun σ189 H locs hT hI => ?_)
    refine lv_dup hx hb dX6_init_903 rfl ?_
    refine lv_bipush (v := 9) hx hb dX6_init_904 (by decide) ?_
    refine lv_iconst (v := -1) hx hb dX6_init_906 (by decide) ?_
    obtain ⟨hic, hT⟩ := hT
    obtain ⟨hL, hT⟩ := hT
    refine x_iast (i := σ179.1) hC hI hic hL hT dX6_init_907 (fun σ190 H locs hT hI => ?_)
    refine lv_dup hx hb dX6_init_908 rfl ?_
    refine lv_bipush (v := 10) hx hb dX6_init_909 (by decide) ?_
    refine lv_iconst (v := -1) hx hb dX6_init_911 (by decide) ?_
    obtain ⟨hic, hT⟩ := hT
    obtain ⟨hL, hT⟩ := hT
    refine x_iast (i := σ179.1) hC hI hic hL hT dX6_init_912 (fun σ191 H locs hT hI => ?_)
    refine lv_dup hx hb dX6_init_913 rfl ?_
    refine lv_bipush (v := 11) hx hb dX6_init_914 (by decide) ?_
    refine lv_iconst (v := -1) hx hb dX6_init_916 (by decide) ?_
    obtain ⟨hic, hT⟩ := hT
    obtain ⟨hL, hT⟩ := hT
    refine x_iast (i := σ179.1) hC hI hic hL hT dX6_init_917 (fun σ192 H locs hT hI => ?_)
    refine lv_dup hx hb dX6_init_918 rfl ?_
    refine lv_bipush (v := 12) hx hb dX6_init_919 (by decide) ?_
    refine lv_iconst (v := -1) hx hb dX6_init_921 (by decide) ?_
    obtain ⟨hic, hT⟩ := hT
    obtain ⟨hL, hT⟩ := hT
    refine x_iast (i := σ179.1) hC hI hic hL hT dX6_init_922 (fun σ193 H locs hT hI => ?_)
    refine lv_dup hx hb dX6_init_923 rfl ?_
    refine lv_bipush (v := 13) hx hb dX6_init_924 (by decide) ?_
    refine lv_iconst (v := -1) hx hb dX6_init_926 (by decide) ?_
    obtain ⟨hic, hT⟩ := hT
    obtain ⟨hL, hT⟩ := hT
    refine x_iast (i := σ179.1) hC hI hic hL hT dX6_init_927 (fun σ194 H locs hT hI => ?_)
    refine lv_dup hx hb dX6_init_928 rfl ?_
    refine lv_bipush (v := 14) hx hb dX6_init_929 (by decide) ?_
    refine lv_iconst (v := -1) hx hb dX6_init_931 (by decide) ?_
    obtain ⟨hic, hT⟩ := hT
    obtain ⟨hL, hT⟩ := hT
    refine x_iast (i := σ179.1) hC hI hic hL hT dX6_init_932 (fun σ195 H locs hT hI => ?_)
    refine lv_dup hx hb dX6_init_933 rfl ?_
    refine lv_bipush (v := 15) hx hb dX6_init_934 (by decide) ?_
    refine lv_iconst (v := -1) hx hb dX6_init_936 (by decide) ?_
    obtain ⟨hic, hT⟩ := hT
    obtain ⟨hL, hT⟩ := hT
    refine x_iast (i := σ179.1) hC hI hic hL hT dX6_init_937 (fun σ196 H locs hT hI => ?_)
    refine lv_dup hx hb dX6_init_938 rfl ?_
    refine lv_bipush (v := 16) hx hb dX6_init_939 (by decide) ?_
    refine lv_iconst (v := -1) hx hb dX6_init_941 (by decide) ?_
    obtain ⟨hic, hT⟩ := hT
    obtain ⟨hL, hT⟩ := hT
    refine x_iast (i := σ179.1) hC hI hic hL hT dX6_init_942 (fun σ197 H locs hT hI => ?_)
    refine lv_dup hx hb dX6_init_943 rfl ?_
    refine lv_bipush (v := 17) hx hb dX6_init_944 (by decide) ?_
    refine lv_iconst (v := -1) hx hb dX6_init_946 (by decide) ?_
    obtain ⟨hic, hT⟩ := hT
    obtain ⟨hL, hT⟩ := hT
    refine x_iast (i := σ179.1) hC hI hic hL hT dX6_init_947 (fun σ198 H locs hT hI => ?_)
    refine lv_dup hx hb dX6_init_948 rfl ?_
    refine lv_bipush (v := 18) hx hb dX6_init_949 (by decide) ?_
    refine lv_iconst (v := -1) hx hb dX6_init_951 (by decide) ?_
    obtain ⟨hic, hT⟩ := hT
    obtain ⟨hL, hT⟩ := hT
    refine x_iast (i := σ179.1) hC hI hic hL hT dX6_init_952 (fun σ199 H locs hT hI => ?_)
    refine lv_dup hx hb dX6_init_953 rfl ?_
    refine lv_bipush (v := 19) hx hb dX6_init_954 (by decide) ?_
    refine lv_iconst (v := -1) hx hb dX6_init_956 (by decide) ?_
    obtain ⟨hic, hT⟩ := hT
    obtain ⟨hL, hT⟩ := hT
    refine x_iast (i := σ179.1) hC hI hic hL hT dX6_init_957 (fun σ200 H locs hT hI => ?_)
    obtain ⟨hic, hT⟩ := hT
    obtain ⟨hL, hT⟩ := hT
    refine xpF6c_45 (i := ob) (v := (σ179.1) + 1) hC hI hN rfl hic hL hT q1745 (fun _ h => h) dX6_init_958 (fun σ201 H locs hT hI => ?_)
    exact w_961 (cx + 1 + 1 + 1 + 1) ((((zx + (Int32.toNatClampNeg 48)) + (Int32.toNatClampNeg 48)) + (Int32.toNatClampNeg 16)) + (Int32.toNatClampNeg 20)) σ201 _ _ _ hT hI hB (lv_sub hl [0] rfl)
  have w_761 : ∀ (cx : Nat) (zx : Nat) (σ : CS) (H : Heap) (locs : List Loc) (ls : Array Slot), U_X6_init_761 mc ms K ob cx zx σ → xI D dA ad n0 Hs s.heap σ H locs → (cx ≤ mc ∧ zx ≤ ms) → lv_has ls 1 [(0, .ref (ad ob))] → W p l e ({ frames := 1, cells := mc, slots := ms, locals := 12 }) s m args below meth c H locs cx zx Q (F0 m 761 ls []) := by
    intro cx zx σ H locs ls hT hI hB hl
    unfold U_X6_init_761 at hT
    refine lv_aload_n hx hb dX6_init_761 rfl (lv_at hl 0 rfl) ?_
    refine lv_iconst (v := 3) hx hb dX6_init_762 (by decide) ?_
    have hB := hT.2.2.1
    refine xnewa3 hC hI hT dX6_init_763 (fun σ202 H hT hI => ?_)
    refine lv_dup hx hb dX6_init_765 rfl ?_
    refine lv_iconst (v := 0) hx hb dX6_init_766 (by decide) ?_
    refine lv_bipush (v := 97) hx hb dX6_init_767 (by decide) ?_
    obtain ⟨hic, hT⟩ := hT
    obtain ⟨hL, hT⟩ := hT
    refine x_cast (i := σ.1) hC hI hic hL hT dX6_init_769 (fun σ203 H locs hT hI => ?_)
    refine lv_dup hx hb dX6_init_770 rfl ?_
    refine lv_iconst (v := 1) hx hb dX6_init_771 (by decide) ?_
    refine lv_bipush (v := 108) hx hb dX6_init_772 (by decide) ?_
    obtain ⟨hic, hT⟩ := hT
    obtain ⟨hL, hT⟩ := hT
    refine x_cast (i := σ.1) hC hI hic hL hT dX6_init_774 (fun σ204 H locs hT hI => ?_)
    refine lv_dup hx hb dX6_init_775 rfl ?_
    refine lv_iconst (v := 2) hx hb dX6_init_776 (by decide) ?_
    refine lv_bipush (v := 108) hx hb dX6_init_777 (by decide) ?_
    obtain ⟨hic, hT⟩ := hT
    obtain ⟨hL, hT⟩ := hT
    refine x_cast (i := σ.1) hC hI hic hL hT dX6_init_779 (fun σ205 H locs hT hI => ?_)
    obtain ⟨hic, hT⟩ := hT
    obtain ⟨hL, hT⟩ := hT
    refine xpF6c_35 (i := ob) (v := (σ.1) + 1) hC hI hN rfl hic hL hT q1735 (fun _ h => h) dX6_init_780 (fun σ206 H locs hT hI => ?_)
    refine lv_aload_n hx hb dX6_init_783 rfl (lv_at hl 0 rfl) ?_
    refine lv_iconst (v := 3) hx hb dX6_init_784 (by decide) ?_
    have hB := hT.2.2.1
    refine xnewa3 hC hI hT dX6_init_785 (fun σ207 H hT hI => ?_)
    refine lv_dup hx hb dX6_init_787 rfl ?_
    refine lv_iconst (v := 0) hx hb dX6_init_788 (by decide) ?_
    refine lv_bipush (v := 109) hx hb dX6_init_789 (by decide) ?_
    obtain ⟨hic, hT⟩ := hT
    obtain ⟨hL, hT⟩ := hT
    refine x_cast (i := σ206.1) hC hI hic hL hT dX6_init_791 (fun σ208 H locs hT hI => ?_)
    refine lv_dup hx hb dX6_init_792 rfl ?_
    refine lv_iconst (v := 1) hx hb dX6_init_793 (by decide) ?_
    refine lv_bipush (v := 105) hx hb dX6_init_794 (by decide) ?_
    obtain ⟨hic, hT⟩ := hT
    obtain ⟨hL, hT⟩ := hT
    refine x_cast (i := σ206.1) hC hI hic hL hT dX6_init_796 (fun σ209 H locs hT hI => ?_)
    refine lv_dup hx hb dX6_init_797 rfl ?_
    refine lv_iconst (v := 2) hx hb dX6_init_798 (by decide) ?_
    refine lv_bipush (v := 110) hx hb dX6_init_799 (by decide) ?_
    obtain ⟨hic, hT⟩ := hT
    obtain ⟨hL, hT⟩ := hT
    refine x_cast (i := σ206.1) hC hI hic hL hT dX6_init_801 (fun σ210 H locs hT hI => ?_)
    obtain ⟨hic, hT⟩ := hT
    obtain ⟨hL, hT⟩ := hT
    refine xpF6c_36 (i := ob) (v := (σ206.1) + 1) hC hI hN rfl hic hL hT q1736 (fun _ h => h) dX6_init_802 (fun σ211 H locs hT hI => ?_)
    refine lv_aload_n hx hb dX6_init_805 rfl (lv_at hl 0 rfl) ?_
    refine lv_iconst (v := 3) hx hb dX6_init_806 (by decide) ?_
    have hB := hT.2.2.1
    refine xnewa3 hC hI hT dX6_init_807 (fun σ212 H hT hI => ?_)
    refine lv_dup hx hb dX6_init_809 rfl ?_
    refine lv_iconst (v := 0) hx hb dX6_init_810 (by decide) ?_
    refine lv_bipush (v := 109) hx hb dX6_init_811 (by decide) ?_
    obtain ⟨hic, hT⟩ := hT
    obtain ⟨hL, hT⟩ := hT
    refine x_cast (i := σ211.1) hC hI hic hL hT dX6_init_813 (fun σ213 H locs hT hI => ?_)
    refine lv_dup hx hb dX6_init_814 rfl ?_
    refine lv_iconst (v := 1) hx hb dX6_init_815 (by decide) ?_
    refine lv_bipush (v := 97) hx hb dX6_init_816 (by decide) ?_
    obtain ⟨hic, hT⟩ := hT
    obtain ⟨hL, hT⟩ := hT
    refine x_cast (i := σ211.1) hC hI hic hL hT dX6_init_818 (fun σ214 H locs hT hI => ?_)
    refine lv_dup hx hb dX6_init_819 rfl ?_
    refine lv_iconst (v := 2) hx hb dX6_init_820 (by decide) ?_
    refine lv_bipush (v := 120) hx hb dX6_init_821 (by decide) ?_
    obtain ⟨hic, hT⟩ := hT
    obtain ⟨hL, hT⟩ := hT
    refine x_cast (i := σ211.1) hC hI hic hL hT dX6_init_823 (fun σ215 H locs hT hI => ?_)
    obtain ⟨hic, hT⟩ := hT
    obtain ⟨hL, hT⟩ := hT
    refine xpF6c_37 (i := ob) (v := (σ211.1) + 1) hC hI hN rfl hic hL hT q1737 (fun _ h => h) dX6_init_824 (fun σ216 H locs hT hI => ?_)
    refine lv_aload_n hx hb dX6_init_827 rfl (lv_at hl 0 rfl) ?_
    refine lv_bipush (v := 6) hx hb dX6_init_828 (by decide) ?_
    have hB := hT.2.2.1
    refine xnewa0 hC hI hT dX6_init_830 (fun σ217 H hT hI => ?_)
    obtain ⟨hic, hT⟩ := hT
    obtain ⟨hL, hT⟩ := hT
    refine xpF6c_39 (i := ob) (v := (σ216.1) + 1) hC hI hN rfl hic hL hT q1739 (fun _ h => h) dX6_init_832 (fun σ218 H locs hT hI => ?_)
    exact w_835 (cx + 1 + 1 + 1 + 1) ((((zx + (Int32.toNatClampNeg 3)) + (Int32.toNatClampNeg 3)) + (Int32.toNatClampNeg 3)) + (Int32.toNatClampNeg 6)) σ218 _ _ _ hT hI hB (lv_sub hl [0] rfl)
  have w_673 : ∀ (cx : Nat) (zx : Nat) (σ : CS) (H : Heap) (locs : List Loc) (ls : Array Slot), U_X6_init_673 mc ms K ob cx zx σ → xI D dA ad n0 Hs s.heap σ H locs → (cx ≤ mc ∧ zx ≤ ms) → lv_has ls 1 [(0, .ref (ad ob))] → W p l e ({ frames := 1, cells := mc, slots := ms, locals := 12 }) s m args below meth c H locs cx zx Q (F0 m 673 ls []) := by
    intro cx zx σ H locs ls hT hI hB hl
    unfold U_X6_init_673 at hT
    refine lv_aload_n hx hb dX6_init_673 rfl (lv_at hl 0 rfl) ?_
    refine lv_iconst (v := 4) hx hb dX6_init_674 (by decide) ?_
    have hB := hT.2.2.1
    refine xnewa3 hC hI hT dX6_init_675 (fun σ219 H hT hI => ?_)
    refine lv_dup hx hb dX6_init_677 rfl ?_
    refine lv_iconst (v := 0) hx hb dX6_init_678 (by decide) ?_
    refine lv_bipush (v := 108) hx hb dX6_init_679 (by decide) ?_
    obtain ⟨hic, hT⟩ := hT
    obtain ⟨hL, hT⟩ := hT
    refine x_cast (i := σ.1) hC hI hic hL hT dX6_init_681 (fun σ220 H locs hT hI => ?_)
    refine lv_dup hx hb dX6_init_682 rfl ?_
    refine lv_iconst (v := 1) hx hb dX6_init_683 (by decide) ?_
    refine lv_bipush (v := 97) hx hb dX6_init_684 (by decide) ?_
    obtain ⟨hic, hT⟩ := hT
    obtain ⟨hL, hT⟩ := hT
    refine x_cast (i := σ.1) hC hI hic hL hT dX6_init_686 (fun σ221 H locs hT hI => ?_)
    refine lv_dup hx hb dX6_init_687 rfl ?_
    refine lv_iconst (v := 2) hx hb dX6_init_688 (by decide) ?_
    refine lv_bipush (v := 115) hx hb dX6_init_689 (by decide) ?_
    obtain ⟨hic, hT⟩ := hT
    obtain ⟨hL, hT⟩ := hT
    refine x_cast (i := σ.1) hC hI hic hL hT dX6_init_691 (fun σ222 H locs hT hI => ?_)
    refine lv_dup hx hb dX6_init_692 rfl ?_
    refine lv_iconst (v := 3) hx hb dX6_init_693 (by decide) ?_
    refine lv_bipush (v := 116) hx hb dX6_init_694 (by decide) ?_
    obtain ⟨hic, hT⟩ := hT
    obtain ⟨hL, hT⟩ := hT
    refine x_cast (i := σ.1) hC hI hic hL hT dX6_init_696 (fun σ223 H locs hT hI => ?_)
    obtain ⟨hic, hT⟩ := hT
    obtain ⟨hL, hT⟩ := hT
    refine xpF6c_31 (i := ob) (v := (σ.1) + 1) hC hI hN rfl hic hL hT q1731 (fun _ h => h) dX6_init_697 (fun σ224 H locs hT hI => ?_)
    refine lv_aload_n hx hb dX6_init_700 rfl (lv_at hl 0 rfl) ?_
    refine lv_iconst (v := 2) hx hb dX6_init_701 (by decide) ?_
    have hB := hT.2.2.1
    refine xnewa3 hC hI hT dX6_init_702 (fun σ225 H hT hI => ?_)
    refine lv_dup hx hb dX6_init_704 rfl ?_
    refine lv_iconst (v := 0) hx hb dX6_init_705 (by decide) ?_
    refine lv_bipush (v := 111) hx hb dX6_init_706 (by decide) ?_
    obtain ⟨hic, hT⟩ := hT
    obtain ⟨hL, hT⟩ := hT
    refine x_cast (i := σ224.1) hC hI hic hL hT dX6_init_708 (fun σ226 H locs hT hI => ?_)
    refine lv_dup hx hb dX6_init_709 rfl ?_
    refine lv_iconst (v := 1) hx hb dX6_init_710 (by decide) ?_
    refine lv_bipush (v := 114) hx hb dX6_init_711 (by decide) ?_
    obtain ⟨hic, hT⟩ := hT
    obtain ⟨hL, hT⟩ := hT
    refine x_cast (i := σ224.1) hC hI hic hL hT dX6_init_713 (fun σ227 H locs hT hI => ?_)
    obtain ⟨hic, hT⟩ := hT
    obtain ⟨hL, hT⟩ := hT
    refine xpF6c_32 (i := ob) (v := (σ224.1) + 1) hC hI hN rfl hic hL hT q1732 (fun _ h => h) dX6_init_714 (fun σ228 H locs hT hI => ?_)
    refine lv_aload_n hx hb dX6_init_717 rfl (lv_at hl 0 rfl) ?_
    refine lv_iconst (v := 3) hx hb dX6_init_718 (by decide) ?_
    have hB := hT.2.2.1
    refine xnewa3 hC hI hT dX6_init_719 (fun σ229 H hT hI => ?_)
    refine lv_dup hx hb dX6_init_721 rfl ?_
    refine lv_iconst (v := 0) hx hb dX6_init_722 (by decide) ?_
    refine lv_bipush (v := 97) hx hb dX6_init_723 (by decide) ?_
    obtain ⟨hic, hT⟩ := hT
    obtain ⟨hL, hT⟩ := hT
    refine x_cast (i := σ228.1) hC hI hic hL hT dX6_init_725 (fun σ230 H locs hT hI => ?_)
    refine lv_dup hx hb dX6_init_726 rfl ?_
    refine lv_iconst (v := 1) hx hb dX6_init_727 (by decide) ?_
    refine lv_bipush (v := 110) hx hb dX6_init_728 (by decide) ?_
    obtain ⟨hic, hT⟩ := hT
    obtain ⟨hL, hT⟩ := hT
    refine x_cast (i := σ228.1) hC hI hic hL hT dX6_init_730 (fun σ231 H locs hT hI => ?_)
    refine lv_dup hx hb dX6_init_731 rfl ?_
    refine lv_iconst (v := 2) hx hb dX6_init_732 (by decide) ?_
    refine lv_bipush (v := 100) hx hb dX6_init_733 (by decide) ?_
    obtain ⟨hic, hT⟩ := hT
    obtain ⟨hL, hT⟩ := hT
    refine x_cast (i := σ228.1) hC hI hic hL hT dX6_init_735 (fun σ232 H locs hT hI => ?_)
    obtain ⟨hic, hT⟩ := hT
    obtain ⟨hL, hT⟩ := hT
    refine xpF6c_33 (i := ob) (v := (σ228.1) + 1) hC hI hN rfl hic hL hT q1733 (fun _ h => h) dX6_init_736 (fun σ233 H locs hT hI => ?_)
    refine lv_aload_n hx hb dX6_init_739 rfl (lv_at hl 0 rfl) ?_
    refine lv_iconst (v := 3) hx hb dX6_init_740 (by decide) ?_
    have hB := hT.2.2.1
    refine xnewa3 hC hI hT dX6_init_741 (fun σ234 H hT hI => ?_)
    refine lv_dup hx hb dX6_init_743 rfl ?_
    refine lv_iconst (v := 0) hx hb dX6_init_744 (by decide) ?_
    refine lv_bipush (v := 110) hx hb dX6_init_745 (by decide) ?_
    obtain ⟨hic, hT⟩ := hT
    obtain ⟨hL, hT⟩ := hT
    refine x_cast (i := σ233.1) hC hI hic hL hT dX6_init_747 (fun σ235 H locs hT hI => ?_)
    refine lv_dup hx hb dX6_init_748 rfl ?_
    refine lv_iconst (v := 1) hx hb dX6_init_749 (by decide) ?_
    refine lv_bipush (v := 111) hx hb dX6_init_750 (by decide) ?_
    obtain ⟨hic, hT⟩ := hT
    obtain ⟨hL, hT⟩ := hT
    refine x_cast (i := σ233.1) hC hI hic hL hT dX6_init_752 (fun σ236 H locs hT hI => ?_)
    refine lv_dup hx hb dX6_init_753 rfl ?_
    refine lv_iconst (v := 2) hx hb dX6_init_754 (by decide) ?_
    refine lv_bipush (v := 116) hx hb dX6_init_755 (by decide) ?_
    obtain ⟨hic, hT⟩ := hT
    obtain ⟨hL, hT⟩ := hT
    refine x_cast (i := σ233.1) hC hI hic hL hT dX6_init_757 (fun σ237 H locs hT hI => ?_)
    obtain ⟨hic, hT⟩ := hT
    obtain ⟨hL, hT⟩ := hT
    refine xpF6c_34 (i := ob) (v := (σ233.1) + 1) hC hI hN rfl hic hL hT q1734 (fun _ h => h) dX6_init_758 (fun σ238 H locs hT hI => ?_)
    exact w_761 (cx + 1 + 1 + 1 + 1) ((((zx + (Int32.toNatClampNeg 4)) + (Int32.toNatClampNeg 2)) + (Int32.toNatClampNeg 3)) + (Int32.toNatClampNeg 3)) σ238 _ _ _ hT hI hB (lv_sub hl [0] rfl)
  have w_548 : ∀ (cx : Nat) (zx : Nat) (σ : CS) (H : Heap) (locs : List Loc) (ls : Array Slot), U_X6_init_548 mc ms K ob cx zx σ → xI D dA ad n0 Hs s.heap σ H locs → (cx ≤ mc ∧ zx ≤ ms) → lv_has ls 1 [(0, .ref (ad ob))] → W p l e ({ frames := 1, cells := mc, slots := ms, locals := 12 }) s m args below meth c H locs cx zx Q (F0 m 548 ls []) := by
    intro cx zx σ H locs ls hT hI hB hl
    unfold U_X6_init_548 at hT
    refine lv_aload_n hx hb dX6_init_548 rfl (lv_at hl 0 rfl) ?_
    refine lv_iconst (v := 3) hx hb dX6_init_549 (by decide) ?_
    have hB := hT.2.2.1
    refine xnewa3 hC hI hT dX6_init_550 (fun σ239 H hT hI => ?_)
    refine lv_dup hx hb dX6_init_552 rfl ?_
    refine lv_iconst (v := 0) hx hb dX6_init_553 (by decide) ?_
    refine lv_bipush (v := 100) hx hb dX6_init_554 (by decide) ?_
    obtain ⟨hic, hT⟩ := hT
    obtain ⟨hL, hT⟩ := hT
    refine x_cast (i := σ.1) hC hI hic hL hT dX6_init_556 (fun σ240 H locs hT hI => ?_)
    refine lv_dup hx hb dX6_init_557 rfl ?_
    refine lv_iconst (v := 1) hx hb dX6_init_558 (by decide) ?_
    refine lv_bipush (v := 97) hx hb dX6_init_559 (by decide) ?_
    obtain ⟨hic, hT⟩ := hT
    obtain ⟨hL, hT⟩ := hT
    refine x_cast (i := σ.1) hC hI hic hL hT dX6_init_561 (fun σ241 H locs hT hI => ?_)
    refine lv_dup hx hb dX6_init_562 rfl ?_
    refine lv_iconst (v := 2) hx hb dX6_init_563 (by decide) ?_
    refine lv_bipush (v := 121) hx hb dX6_init_564 (by decide) ?_
    obtain ⟨hic, hT⟩ := hT
    obtain ⟨hL, hT⟩ := hT
    refine x_cast (i := σ.1) hC hI hic hL hT dX6_init_566 (fun σ242 H locs hT hI => ?_)
    obtain ⟨hic, hT⟩ := hT
    obtain ⟨hL, hT⟩ := hT
    refine xpF6c_27 (i := ob) (v := (σ.1) + 1) hC hI hN rfl hic hL hT q1727 (fun _ h => h) dX6_init_567 (fun σ243 H locs hT hI => ?_)
    refine lv_aload_n hx hb dX6_init_570 rfl (lv_at hl 0 rfl) ?_
    refine lv_iconst (v := 4) hx hb dX6_init_571 (by decide) ?_
    have hB := hT.2.2.1
    refine xnewa3 hC hI hT dX6_init_572 (fun σ244 H hT hI => ?_)
    refine lv_dup hx hb dX6_init_574 rfl ?_
    refine lv_iconst (v := 0) hx hb dX6_init_575 (by decide) ?_
    refine lv_bipush (v := 103) hx hb dX6_init_576 (by decide) ?_
    obtain ⟨hic, hT⟩ := hT
    obtain ⟨hL, hT⟩ := hT
    refine x_cast (i := σ243.1) hC hI hic hL hT dX6_init_578 (fun σ245 H locs hT hI => ?_)
    refine lv_dup hx hb dX6_init_579 rfl ?_
    refine lv_iconst (v := 1) hx hb dX6_init_580 (by decide) ?_
    refine lv_bipush (v := 108) hx hb dX6_init_581 (by decide) ?_
    obtain ⟨hic, hT⟩ := hT
    obtain ⟨hL, hT⟩ := hT
    refine x_cast (i := σ243.1) hC hI hic hL hT dX6_init_583 (fun σ246 H locs hT hI => ?_)
    refine lv_dup hx hb dX6_init_584 rfl ?_
    refine lv_iconst (v := 2) hx hb dX6_init_585 (by decide) ?_
    refine lv_bipush (v := 117) hx hb dX6_init_586 (by decide) ?_
    obtain ⟨hic, hT⟩ := hT
    obtain ⟨hL, hT⟩ := hT
    refine x_cast (i := σ243.1) hC hI hic hL hT dX6_init_588 (fun σ247 H locs hT hI => ?_)
    refine lv_dup hx hb dX6_init_589 rfl ?_
    refine lv_iconst (v := 3) hx hb dX6_init_590 (by decide) ?_
    refine lv_bipush (v := 101) hx hb dX6_init_591 (by decide) ?_
    obtain ⟨hic, hT⟩ := hT
    obtain ⟨hL, hT⟩ := hT
    refine x_cast (i := σ243.1) hC hI hic hL hT dX6_init_593 (fun σ248 H locs hT hI => ?_)
    obtain ⟨hic, hT⟩ := hT
    obtain ⟨hL, hT⟩ := hT
    refine xpF6c_28 (i := ob) (v := (σ243.1) + 1) hC hI hN rfl hic hL hT q1728 (fun _ h => h) dX6_init_594 (fun σ249 H locs hT hI => ?_)
    refine lv_aload_n hx hb dX6_init_597 rfl (lv_at hl 0 rfl) ?_
    refine lv_bipush (v := 6) hx hb dX6_init_598 (by decide) ?_
    have hB := hT.2.2.1
    refine xnewa3 hC hI hT dX6_init_600 (fun σ250 H hT hI => ?_)
    refine lv_dup hx hb dX6_init_602 rfl ?_
    refine lv_iconst (v := 0) hx hb dX6_init_603 (by decide) ?_
    refine lv_bipush (v := 110) hx hb dX6_init_604 (by decide) ?_
    obtain ⟨hic, hT⟩ := hT
    obtain ⟨hL, hT⟩ := hT
    refine x_cast (i := σ249.1) hC hI hic hL hT dX6_init_606 (fun σ251 H locs hT hI => ?_)
    refine lv_dup hx hb dX6_init_607 rfl ?_
    refine lv_iconst (v := 1) hx hb dX6_init_608 (by decide) ?_
    refine lv_bipush (v := 117) hx hb dX6_init_609 (by decide) ?_
    obtain ⟨hic, hT⟩ := hT
    obtain ⟨hL, hT⟩ := hT
    refine x_cast (i := σ249.1) hC hI hic hL hT dX6_init_611 (fun σ252 H locs hT hI => ?_)
    refine lv_dup hx hb dX6_init_612 rfl ?_
    refine lv_iconst (v := 2) hx hb dX6_init_613 (by decide) ?_
    refine lv_bipush (v := 109) hx hb dX6_init_614 (by decide) ?_
    obtain ⟨hic, hT⟩ := hT
    obtain ⟨hL, hT⟩ := hT
    refine x_cast (i := σ249.1) hC hI hic hL hT dX6_init_616 (fun σ253 H locs hT hI => ?_)
    refine lv_dup hx hb dX6_init_617 rfl ?_
    refine lv_iconst (v := 3) hx hb dX6_init_618 (by decide) ?_
    refine lv_bipush (v := 98) hx hb dX6_init_619 (by decide) ?_
    obtain ⟨hic, hT⟩ := hT
    obtain ⟨hL, hT⟩ := hT
    refine x_cast (i := σ249.1) hC hI hic hL hT dX6_init_621 (fun σ254 H locs hT hI => ?_)
    refine lv_dup hx hb dX6_init_622 rfl ?_
    refine lv_iconst (v := 4) hx hb dX6_init_623 (by decide) ?_
    refine lv_bipush (v := 101) hx hb dX6_init_624 (by decide) ?_
    obtain ⟨hic, hT⟩ := hT
    obtain ⟨hL, hT⟩ := hT
    refine x_cast (i := σ249.1) hC hI hic hL hT dX6_init_626 (fun σ255 H locs hT hI => ?_)
    refine lv_dup hx hb dX6_init_627 rfl ?_
    refine lv_iconst (v := 5) hx hb dX6_init_628 (by decide) ?_
    refine lv_bipush (v := 114) hx hb dX6_init_629 (by decide) ?_
    obtain ⟨hic, hT⟩ := hT
    obtain ⟨hL, hT⟩ := hT
    refine x_cast (i := σ249.1) hC hI hic hL hT dX6_init_631 (fun σ256 H locs hT hI => ?_)
    obtain ⟨hic, hT⟩ := hT
    obtain ⟨hL, hT⟩ := hT
    refine xpF6c_29 (i := ob) (v := (σ249.1) + 1) hC hI hN rfl hic hL hT q1729 (fun _ h => h) dX6_init_632 (fun σ257 H locs hT hI => ?_)
    refine lv_aload_n hx hb dX6_init_635 rfl (lv_at hl 0 rfl) ?_
    refine lv_bipush (v := 6) hx hb dX6_init_636 (by decide) ?_
    have hB := hT.2.2.1
    refine xnewa3 hC hI hT dX6_init_638 (fun σ258 H hT hI => ?_)
    refine lv_dup hx hb dX6_init_640 rfl ?_
    refine lv_iconst (v := 0) hx hb dX6_init_641 (by decide) ?_
    refine lv_bipush (v := 102) hx hb dX6_init_642 (by decide) ?_
    obtain ⟨hic, hT⟩ := hT
    obtain ⟨hL, hT⟩ := hT
    refine x_cast (i := σ257.1) hC hI hic hL hT dX6_init_644 (fun σ259 H locs hT hI => ?_)
    refine lv_dup hx hb dX6_init_645 rfl ?_
    refine lv_iconst (v := 1) hx hb dX6_init_646 (by decide) ?_
    refine lv_bipush (v := 111) hx hb dX6_init_647 (by decide) ?_
    obtain ⟨hic, hT⟩ := hT
    obtain ⟨hL, hT⟩ := hT
    refine x_cast (i := σ257.1) hC hI hic hL hT dX6_init_649 (fun σ260 H locs hT hI => ?_)
    refine lv_dup hx hb dX6_init_650 rfl ?_
    refine lv_iconst (v := 2) hx hb dX6_init_651 (by decide) ?_
    refine lv_bipush (v := 114) hx hb dX6_init_652 (by decide) ?_
    obtain ⟨hic, hT⟩ := hT
    obtain ⟨hL, hT⟩ := hT
    refine x_cast (i := σ257.1) hC hI hic hL hT dX6_init_654 (fun σ261 H locs hT hI => ?_)
    refine lv_dup hx hb dX6_init_655 rfl ?_
    refine lv_iconst (v := 3) hx hb dX6_init_656 (by decide) ?_
    refine lv_bipush (v := 103) hx hb dX6_init_657 (by decide) ?_
    obtain ⟨hic, hT⟩ := hT
    obtain ⟨hL, hT⟩ := hT
    refine x_cast (i := σ257.1) hC hI hic hL hT dX6_init_659 (fun σ262 H locs hT hI => ?_)
    refine lv_dup hx hb dX6_init_660 rfl ?_
    refine lv_iconst (v := 4) hx hb dX6_init_661 (by decide) ?_
    refine lv_bipush (v := 101) hx hb dX6_init_662 (by decide) ?_
    obtain ⟨hic, hT⟩ := hT
    obtain ⟨hL, hT⟩ := hT
    refine x_cast (i := σ257.1) hC hI hic hL hT dX6_init_664 (fun σ263 H locs hT hI => ?_)
    refine lv_dup hx hb dX6_init_665 rfl ?_
    refine lv_iconst (v := 5) hx hb dX6_init_666 (by decide) ?_
    refine lv_bipush (v := 100) hx hb dX6_init_667 (by decide) ?_
    obtain ⟨hic, hT⟩ := hT
    obtain ⟨hL, hT⟩ := hT
    refine x_cast (i := σ257.1) hC hI hic hL hT dX6_init_669 (fun σ264 H locs hT hI => ?_)
    obtain ⟨hic, hT⟩ := hT
    obtain ⟨hL, hT⟩ := hT
    refine xpF6c_30 (i := ob) (v := (σ257.1) + 1) hC hI hN rfl hic hL hT q1730 (fun _ h => h) dX6_init_670 (fun σ265 H locs hT hI => ?_)
    exact w_673 (cx + 1 + 1 + 1 + 1) ((((zx + (Int32.toNatClampNeg 3)) + (Int32.toNatClampNeg 4)) + (Int32.toNatClampNeg 6)) + (Int32.toNatClampNeg 6)) σ265 _ _ _ hT hI hB (lv_sub hl [0] rfl)
  have w_424 : ∀ (cx : Nat) (zx : Nat) (σ : CS) (H : Heap) (locs : List Loc) (ls : Array Slot), U_X6_init_424 mc ms K ob cx zx σ → xI D dA ad n0 Hs s.heap σ H locs → (cx ≤ mc ∧ zx ≤ ms) → lv_has ls 1 [(0, .ref (ad ob))] → W p l e ({ frames := 1, cells := mc, slots := ms, locals := 12 }) s m args below meth c H locs cx zx Q (F0 m 424 ls []) := by
    intro cx zx σ H locs ls hT hI hB hl
    unfold U_X6_init_424 at hT
    refine lv_aload_n hx hb dX6_init_424 rfl (lv_at hl 0 rfl) ?_
    refine lv_iconst (v := 5) hx hb dX6_init_425 (by decide) ?_
    have hB := hT.2.2.1
    refine xnewa3 hC hI hT dX6_init_426 (fun σ266 H hT hI => ?_)
    refine lv_dup hx hb dX6_init_428 rfl ?_
    refine lv_iconst (v := 0) hx hb dX6_init_429 (by decide) ?_
    refine lv_bipush (v := 102) hx hb dX6_init_430 (by decide) ?_
    obtain ⟨hic, hT⟩ := hT
    obtain ⟨hL, hT⟩ := hT
    refine x_cast (i := σ.1) hC hI hic hL hT dX6_init_432 (fun σ267 H locs hT hI => ?_)
    refine lv_dup hx hb dX6_init_433 rfl ?_
    refine lv_iconst (v := 1) hx hb dX6_init_434 (by decide) ?_
    refine lv_bipush (v := 105) hx hb dX6_init_435 (by decide) ?_
    obtain ⟨hic, hT⟩ := hT
    obtain ⟨hL, hT⟩ := hT
    refine x_cast (i := σ.1) hC hI hic hL hT dX6_init_437 (fun σ268 H locs hT hI => ?_)
    refine lv_dup hx hb dX6_init_438 rfl ?_
    refine lv_iconst (v := 2) hx hb dX6_init_439 (by decide) ?_
    refine lv_bipush (v := 114) hx hb dX6_init_440 (by decide) ?_
    obtain ⟨hic, hT⟩ := hT
    obtain ⟨hL, hT⟩ := hT
    refine x_cast (i := σ.1) hC hI hic hL hT dX6_init_442 (fun σ269 H locs hT hI => ?_)
    refine lv_dup hx hb dX6_init_443 rfl ?_
    refine lv_iconst (v := 3) hx hb dX6_init_444 (by decide) ?_
    refine lv_bipush (v := 115) hx hb dX6_init_445 (by decide) ?_
    obtain ⟨hic, hT⟩ := hT
    obtain ⟨hL, hT⟩ := hT
    refine x_cast (i := σ.1) hC hI hic hL hT dX6_init_447 (fun σ270 H locs hT hI => ?_)
    refine lv_dup hx hb dX6_init_448 rfl ?_
    refine lv_iconst (v := 4) hx hb dX6_init_449 (by decide) ?_
    refine lv_bipush (v := 116) hx hb dX6_init_450 (by decide) ?_
    obtain ⟨hic, hT⟩ := hT
    obtain ⟨hL, hT⟩ := hT
    refine x_cast (i := σ.1) hC hI hic hL hT dX6_init_452 (fun σ271 H locs hT hI => ?_)
    obtain ⟨hic, hT⟩ := hT
    obtain ⟨hL, hT⟩ := hT
    refine xpF6c_23 (i := ob) (v := (σ.1) + 1) hC hI hN rfl hic hL hT q1723 (fun _ h => h) dX6_init_453 (fun σ272 H locs hT hI => ?_)
    refine lv_aload_n hx hb dX6_init_456 rfl (lv_at hl 0 rfl) ?_
    refine lv_iconst (v := 3) hx hb dX6_init_457 (by decide) ?_
    have hB := hT.2.2.1
    refine xnewa3 hC hI hT dX6_init_458 (fun σ273 H hT hI => ?_)
    refine lv_dup hx hb dX6_init_460 rfl ?_
    refine lv_iconst (v := 0) hx hb dX6_init_461 (by decide) ?_
    refine lv_bipush (v := 99) hx hb dX6_init_462 (by decide) ?_
    obtain ⟨hic, hT⟩ := hT
    obtain ⟨hL, hT⟩ := hT
    refine x_cast (i := σ272.1) hC hI hic hL hT dX6_init_464 (fun σ274 H locs hT hI => ?_)
    refine lv_dup hx hb dX6_init_465 rfl ?_
    refine lv_iconst (v := 1) hx hb dX6_init_466 (by decide) ?_
    refine lv_bipush (v := 97) hx hb dX6_init_467 (by decide) ?_
    obtain ⟨hic, hT⟩ := hT
    obtain ⟨hL, hT⟩ := hT
    refine x_cast (i := σ272.1) hC hI hic hL hT dX6_init_469 (fun σ275 H locs hT hI => ?_)
    refine lv_dup hx hb dX6_init_470 rfl ?_
    refine lv_iconst (v := 2) hx hb dX6_init_471 (by decide) ?_
    refine lv_bipush (v := 116) hx hb dX6_init_472 (by decide) ?_
    obtain ⟨hic, hT⟩ := hT
    obtain ⟨hL, hT⟩ := hT
    refine x_cast (i := σ272.1) hC hI hic hL hT dX6_init_474 (fun σ276 H locs hT hI => ?_)
    obtain ⟨hic, hT⟩ := hT
    obtain ⟨hL, hT⟩ := hT
    refine xpF6c_24 (i := ob) (v := (σ272.1) + 1) hC hI hN rfl hic hL hT q1724 (fun _ h => h) dX6_init_475 (fun σ277 H locs hT hI => ?_)
    refine lv_aload_n hx hb dX6_init_478 rfl (lv_at hl 0 rfl) ?_
    refine lv_bipush (v := 6) hx hb dX6_init_479 (by decide) ?_
    have hB := hT.2.2.1
    refine xnewa3 hC hI hT dX6_init_481 (fun σ278 H hT hI => ?_)
    refine lv_dup hx hb dX6_init_483 rfl ?_
    refine lv_iconst (v := 0) hx hb dX6_init_484 (by decide) ?_
    refine lv_bipush (v := 98) hx hb dX6_init_485 (by decide) ?_
    obtain ⟨hic, hT⟩ := hT
    obtain ⟨hL, hT⟩ := hT
    refine x_cast (i := σ277.1) hC hI hic hL hT dX6_init_487 (fun σ279 H locs hT hI => ?_)
    refine lv_dup hx hb dX6_init_488 rfl ?_
    refine lv_iconst (v := 1) hx hb dX6_init_489 (by decide) ?_
    refine lv_bipush (v := 114) hx hb dX6_init_490 (by decide) ?_
    obtain ⟨hic, hT⟩ := hT
    obtain ⟨hL, hT⟩ := hT
    refine x_cast (i := σ277.1) hC hI hic hL hT dX6_init_492 (fun σ280 H locs hT hI => ?_)
    refine lv_dup hx hb dX6_init_493 rfl ?_
    refine lv_iconst (v := 2) hx hb dX6_init_494 (by decide) ?_
    refine lv_bipush (v := 101) hx hb dX6_init_495 (by decide) ?_
    obtain ⟨hic, hT⟩ := hT
    obtain ⟨hL, hT⟩ := hT
    refine x_cast (i := σ277.1) hC hI hic hL hT dX6_init_497 (fun σ281 H locs hT hI => ?_)
    refine lv_dup hx hb dX6_init_498 rfl ?_
    refine lv_iconst (v := 3) hx hb dX6_init_499 (by decide) ?_
    refine lv_bipush (v := 97) hx hb dX6_init_500 (by decide) ?_
    obtain ⟨hic, hT⟩ := hT
    obtain ⟨hL, hT⟩ := hT
    refine x_cast (i := σ277.1) hC hI hic hL hT dX6_init_502 (fun σ282 H locs hT hI => ?_)
    refine lv_dup hx hb dX6_init_503 rfl ?_
    refine lv_iconst (v := 4) hx hb dX6_init_504 (by decide) ?_
    refine lv_bipush (v := 107) hx hb dX6_init_505 (by decide) ?_
    obtain ⟨hic, hT⟩ := hT
    obtain ⟨hL, hT⟩ := hT
    refine x_cast (i := σ277.1) hC hI hic hL hT dX6_init_507 (fun σ283 H locs hT hI => ?_)
    refine lv_dup hx hb dX6_init_508 rfl ?_
    refine lv_iconst (v := 5) hx hb dX6_init_509 (by decide) ?_
    refine lv_bipush (v := 115) hx hb dX6_init_510 (by decide) ?_
    obtain ⟨hic, hT⟩ := hT
    obtain ⟨hL, hT⟩ := hT
    refine x_cast (i := σ277.1) hC hI hic hL hT dX6_init_512 (fun σ284 H locs hT hI => ?_)
    obtain ⟨hic, hT⟩ := hT
    obtain ⟨hL, hT⟩ := hT
    refine xpF6c_25 (i := ob) (v := (σ277.1) + 1) hC hI hN rfl hic hL hT q1725 (fun _ h => h) dX6_init_513 (fun σ285 H locs hT hI => ?_)
    refine lv_aload_n hx hb dX6_init_516 rfl (lv_at hl 0 rfl) ?_
    refine lv_iconst (v := 5) hx hb dX6_init_517 (by decide) ?_
    have hB := hT.2.2.1
    refine xnewa3 hC hI hT dX6_init_518 (fun σ286 H hT hI => ?_)
    refine lv_dup hx hb dX6_init_520 rfl ?_
    refine lv_iconst (v := 0) hx hb dX6_init_521 (by decide) ?_
    refine lv_bipush (v := 109) hx hb dX6_init_522 (by decide) ?_
    obtain ⟨hic, hT⟩ := hT
    obtain ⟨hL, hT⟩ := hT
    refine x_cast (i := σ285.1) hC hI hic hL hT dX6_init_524 (fun σ287 H locs hT hI => ?_)
    refine lv_dup hx hb dX6_init_525 rfl ?_
    refine lv_iconst (v := 1) hx hb dX6_init_526 (by decide) ?_
    refine lv_bipush (v := 101) hx hb dX6_init_527 (by decide) ?_
    obtain ⟨hic, hT⟩ := hT
    obtain ⟨hL, hT⟩ := hT
    refine x_cast (i := σ285.1) hC hI hic hL hT dX6_init_529 (fun σ288 H locs hT hI => ?_)
    refine lv_dup hx hb dX6_init_530 rfl ?_
    refine lv_iconst (v := 2) hx hb dX6_init_531 (by decide) ?_
    refine lv_bipush (v := 110) hx hb dX6_init_532 (by decide) ?_
    obtain ⟨hic, hT⟩ := hT
    obtain ⟨hL, hT⟩ := hT
    refine x_cast (i := σ285.1) hC hI hic hL hT dX6_init_534 (fun σ289 H locs hT hI => ?_)
    refine lv_dup hx hb dX6_init_535 rfl ?_
    refine lv_iconst (v := 3) hx hb dX6_init_536 (by decide) ?_
    refine lv_bipush (v := 100) hx hb dX6_init_537 (by decide) ?_
    obtain ⟨hic, hT⟩ := hT
    obtain ⟨hL, hT⟩ := hT
    refine x_cast (i := σ285.1) hC hI hic hL hT dX6_init_539 (fun σ290 H locs hT hI => ?_)
    refine lv_dup hx hb dX6_init_540 rfl ?_
    refine lv_iconst (v := 4) hx hb dX6_init_541 (by decide) ?_
    refine lv_bipush (v := 115) hx hb dX6_init_542 (by decide) ?_
    obtain ⟨hic, hT⟩ := hT
    obtain ⟨hL, hT⟩ := hT
    refine x_cast (i := σ285.1) hC hI hic hL hT dX6_init_544 (fun σ291 H locs hT hI => ?_)
    obtain ⟨hic, hT⟩ := hT
    obtain ⟨hL, hT⟩ := hT
    refine xpF6c_26 (i := ob) (v := (σ285.1) + 1) hC hI hN rfl hic hL hT q1726 (fun _ h => h) dX6_init_545 (fun σ292 H locs hT hI => ?_)
    exact w_548 (cx + 1 + 1 + 1 + 1) ((((zx + (Int32.toNatClampNeg 5)) + (Int32.toNatClampNeg 3)) + (Int32.toNatClampNeg 6)) + (Int32.toNatClampNeg 5)) σ292 _ _ _ hT hI hB (lv_sub hl [0] rfl)
  have w_295 : ∀ (cx : Nat) (zx : Nat) (σ : CS) (H : Heap) (locs : List Loc) (ls : Array Slot), U_X6_init_295 mc ms K ob cx zx σ → xI D dA ad n0 Hs s.heap σ H locs → (cx ≤ mc ∧ zx ≤ ms) → lv_has ls 1 [(0, .ref (ad ob))] → W p l e ({ frames := 1, cells := mc, slots := ms, locals := 12 }) s m args below meth c H locs cx zx Q (F0 m 295 ls []) := by
    intro cx zx σ H locs ls hT hI hB hl
    unfold U_X6_init_295 at hT
    refine lv_aload_n hx hb dX6_init_295 rfl (lv_at hl 0 rfl) ?_
    refine lv_bipush (v := 6) hx hb dX6_init_296 (by decide) ?_
    have hB := hT.2.2.1
    refine xnewa3 hC hI hT dX6_init_298 (fun σ293 H hT hI => ?_)
    refine lv_dup hx hb dX6_init_300 rfl ?_
    refine lv_iconst (v := 0) hx hb dX6_init_301 (by decide) ?_
    refine lv_bipush (v := 115) hx hb dX6_init_302 (by decide) ?_
    obtain ⟨hic, hT⟩ := hT
    obtain ⟨hL, hT⟩ := hT
    refine x_cast (i := σ.1) hC hI hic hL hT dX6_init_304 (fun σ294 H locs hT hI => ?_)
    refine lv_dup hx hb dX6_init_305 rfl ?_
    refine lv_iconst (v := 1) hx hb dX6_init_306 (by decide) ?_
    refine lv_bipush (v := 116) hx hb dX6_init_307 (by decide) ?_
    obtain ⟨hic, hT⟩ := hT
    obtain ⟨hL, hT⟩ := hT
    refine x_cast (i := σ.1) hC hI hic hL hT dX6_init_309 (fun σ295 H locs hT hI => ?_)
    refine lv_dup hx hb dX6_init_310 rfl ?_
    refine lv_iconst (v := 2) hx hb dX6_init_311 (by decide) ?_
    refine lv_bipush (v := 97) hx hb dX6_init_312 (by decide) ?_
    obtain ⟨hic, hT⟩ := hT
    obtain ⟨hL, hT⟩ := hT
    refine x_cast (i := σ.1) hC hI hic hL hT dX6_init_314 (fun σ296 H locs hT hI => ?_)
    refine lv_dup hx hb dX6_init_315 rfl ?_
    refine lv_iconst (v := 3) hx hb dX6_init_316 (by decide) ?_
    refine lv_bipush (v := 110) hx hb dX6_init_317 (by decide) ?_
    obtain ⟨hic, hT⟩ := hT
    obtain ⟨hL, hT⟩ := hT
    refine x_cast (i := σ.1) hC hI hic hL hT dX6_init_319 (fun σ297 H locs hT hI => ?_)
    refine lv_dup hx hb dX6_init_320 rfl ?_
    refine lv_iconst (v := 4) hx hb dX6_init_321 (by decide) ?_
    refine lv_bipush (v := 100) hx hb dX6_init_322 (by decide) ?_
    obtain ⟨hic, hT⟩ := hT
    obtain ⟨hL, hT⟩ := hT
    refine x_cast (i := σ.1) hC hI hic hL hT dX6_init_324 (fun σ298 H locs hT hI => ?_)
    refine lv_dup hx hb dX6_init_325 rfl ?_
    refine lv_iconst (v := 5) hx hb dX6_init_326 (by decide) ?_
    refine lv_bipush (v := 115) hx hb dX6_init_327 (by decide) ?_
    obtain ⟨hic, hT⟩ := hT
    obtain ⟨hL, hT⟩ := hT
    refine x_cast (i := σ.1) hC hI hic hL hT dX6_init_329 (fun σ299 H locs hT hI => ?_)
    obtain ⟨hic, hT⟩ := hT
    obtain ⟨hL, hT⟩ := hT
    refine xpF6c_19 (i := ob) (v := (σ.1) + 1) hC hI hN rfl hic hL hT q1719 (fun _ h => h) dX6_init_330 (fun σ300 H locs hT hI => ?_)
    refine lv_aload_n hx hb dX6_init_333 rfl (lv_at hl 0 rfl) ?_
    refine lv_iconst (v := 5) hx hb dX6_init_334 (by decide) ?_
    have hB := hT.2.2.1
    refine xnewa3 hC hI hT dX6_init_335 (fun σ301 H hT hI => ?_)
    refine lv_dup hx hb dX6_init_337 rfl ?_
    refine lv_iconst (v := 0) hx hb dX6_init_338 (by decide) ?_
    refine lv_bipush (v := 102) hx hb dX6_init_339 (by decide) ?_
    obtain ⟨hic, hT⟩ := hT
    obtain ⟨hL, hT⟩ := hT
    refine x_cast (i := σ300.1) hC hI hic hL hT dX6_init_341 (fun σ302 H locs hT hI => ?_)
    refine lv_dup hx hb dX6_init_342 rfl ?_
    refine lv_iconst (v := 1) hx hb dX6_init_343 (by decide) ?_
    refine lv_bipush (v := 97) hx hb dX6_init_344 (by decide) ?_
    obtain ⟨hic, hT⟩ := hT
    obtain ⟨hL, hT⟩ := hT
    refine x_cast (i := σ300.1) hC hI hic hL hT dX6_init_346 (fun σ303 H locs hT hI => ?_)
    refine lv_dup hx hb dX6_init_347 rfl ?_
    refine lv_iconst (v := 2) hx hb dX6_init_348 (by decide) ?_
    refine lv_bipush (v := 108) hx hb dX6_init_349 (by decide) ?_
    obtain ⟨hic, hT⟩ := hT
    obtain ⟨hL, hT⟩ := hT
    refine x_cast (i := σ300.1) hC hI hic hL hT dX6_init_351 (fun σ304 H locs hT hI => ?_)
    refine lv_dup hx hb dX6_init_352 rfl ?_
    refine lv_iconst (v := 3) hx hb dX6_init_353 (by decide) ?_
    refine lv_bipush (v := 108) hx hb dX6_init_354 (by decide) ?_
    obtain ⟨hic, hT⟩ := hT
    obtain ⟨hL, hT⟩ := hT
    refine x_cast (i := σ300.1) hC hI hic hL hT dX6_init_356 (fun σ305 H locs hT hI => ?_)
    refine lv_dup hx hb dX6_init_357 rfl ?_
    refine lv_iconst (v := 4) hx hb dX6_init_358 (by decide) ?_
    refine lv_bipush (v := 115) hx hb dX6_init_359 (by decide) ?_
    obtain ⟨hic, hT⟩ := hT
    obtain ⟨hL, hT⟩ := hT
    refine x_cast (i := σ300.1) hC hI hic hL hT dX6_init_361 (fun σ306 H locs hT hI => ?_)
    obtain ⟨hic, hT⟩ := hT
    obtain ⟨hL, hT⟩ := hT
    refine xpF6c_20 (i := ob) (v := (σ300.1) + 1) hC hI hN rfl hic hL hT q1720 (fun _ h => h) dX6_init_362 (fun σ307 H locs hT hI => ?_)
    refine lv_aload_n hx hb dX6_init_365 rfl (lv_at hl 0 rfl) ?_
    refine lv_iconst (v := 5) hx hb dX6_init_366 (by decide) ?_
    have hB := hT.2.2.1
    refine xnewa3 hC hI hT dX6_init_367 (fun σ308 H hT hI => ?_)
    refine lv_dup hx hb dX6_init_369 rfl ?_
    refine lv_iconst (v := 0) hx hb dX6_init_370 (by decide) ?_
    refine lv_bipush (v := 116) hx hb dX6_init_371 (by decide) ?_
    obtain ⟨hic, hT⟩ := hT
    obtain ⟨hL, hT⟩ := hT
    refine x_cast (i := σ307.1) hC hI hic hL hT dX6_init_373 (fun σ309 H locs hT hI => ?_)
    refine lv_dup hx hb dX6_init_374 rfl ?_
    refine lv_iconst (v := 1) hx hb dX6_init_375 (by decide) ?_
    refine lv_bipush (v := 97) hx hb dX6_init_376 (by decide) ?_
    obtain ⟨hic, hT⟩ := hT
    obtain ⟨hL, hT⟩ := hT
    refine x_cast (i := σ307.1) hC hI hic hL hT dX6_init_378 (fun σ310 H locs hT hI => ?_)
    refine lv_dup hx hb dX6_init_379 rfl ?_
    refine lv_iconst (v := 2) hx hb dX6_init_380 (by decide) ?_
    refine lv_bipush (v := 107) hx hb dX6_init_381 (by decide) ?_
    obtain ⟨hic, hT⟩ := hT
    obtain ⟨hL, hT⟩ := hT
    refine x_cast (i := σ307.1) hC hI hic hL hT dX6_init_383 (fun σ311 H locs hT hI => ?_)
    refine lv_dup hx hb dX6_init_384 rfl ?_
    refine lv_iconst (v := 3) hx hb dX6_init_385 (by decide) ?_
    refine lv_bipush (v := 101) hx hb dX6_init_386 (by decide) ?_
    obtain ⟨hic, hT⟩ := hT
    obtain ⟨hL, hT⟩ := hT
    refine x_cast (i := σ307.1) hC hI hic hL hT dX6_init_388 (fun σ312 H locs hT hI => ?_)
    refine lv_dup hx hb dX6_init_389 rfl ?_
    refine lv_iconst (v := 4) hx hb dX6_init_390 (by decide) ?_
    refine lv_bipush (v := 115) hx hb dX6_init_391 (by decide) ?_
    obtain ⟨hic, hT⟩ := hT
    obtain ⟨hL, hT⟩ := hT
    refine x_cast (i := σ307.1) hC hI hic hL hT dX6_init_393 (fun σ313 H locs hT hI => ?_)
    obtain ⟨hic, hT⟩ := hT
    obtain ⟨hL, hT⟩ := hT
    refine xpF6c_21 (i := ob) (v := (σ307.1) + 1) hC hI hN rfl hic hL hT q1721 (fun _ h => h) dX6_init_394 (fun σ314 H locs hT hI => ?_)
    refine lv_aload_n hx hb dX6_init_397 rfl (lv_at hl 0 rfl) ?_
    refine lv_iconst (v := 4) hx hb dX6_init_398 (by decide) ?_
    have hB := hT.2.2.1
    refine xnewa3 hC hI hT dX6_init_399 (fun σ315 H hT hI => ?_)
    refine lv_dup hx hb dX6_init_401 rfl ?_
    refine lv_iconst (v := 0) hx hb dX6_init_402 (by decide) ?_
    refine lv_bipush (v := 102) hx hb dX6_init_403 (by decide) ?_
    obtain ⟨hic, hT⟩ := hT
    obtain ⟨hL, hT⟩ := hT
    refine x_cast (i := σ314.1) hC hI hic hL hT dX6_init_405 (fun σ316 H locs hT hI => ?_)
    refine lv_dup hx hb dX6_init_406 rfl ?_
    refine lv_iconst (v := 1) hx hb dX6_init_407 (by decide) ?_
    refine lv_bipush (v := 105) hx hb dX6_init_408 (by decide) ?_
    obtain ⟨hic, hT⟩ := hT
    obtain ⟨hL, hT⟩ := hT
    refine x_cast (i := σ314.1) hC hI hic hL hT dX6_init_410 (fun σ317 H locs hT hI => ?_)
    refine lv_dup hx hb dX6_init_411 rfl ?_
    refine lv_iconst (v := 2) hx hb dX6_init_412 (by decide) ?_
    refine lv_bipush (v := 110) hx hb dX6_init_413 (by decide) ?_
    obtain ⟨hic, hT⟩ := hT
    obtain ⟨hL, hT⟩ := hT
    refine x_cast (i := σ314.1) hC hI hic hL hT dX6_init_415 (fun σ318 H locs hT hI => ?_)
    refine lv_dup hx hb dX6_init_416 rfl ?_
    refine lv_iconst (v := 3) hx hb dX6_init_417 (by decide) ?_
    refine lv_bipush (v := 101) hx hb dX6_init_418 (by decide) ?_
    obtain ⟨hic, hT⟩ := hT
    obtain ⟨hL, hT⟩ := hT
    refine x_cast (i := σ314.1) hC hI hic hL hT dX6_init_420 (fun σ319 H locs hT hI => ?_)
    obtain ⟨hic, hT⟩ := hT
    obtain ⟨hL, hT⟩ := hT
    refine xpF6c_22 (i := ob) (v := (σ314.1) + 1) hC hI hN rfl hic hL hT q1722 (fun _ h => h) dX6_init_421 (fun σ320 H locs hT hI => ?_)
    exact w_424 (cx + 1 + 1 + 1 + 1) ((((zx + (Int32.toNatClampNeg 6)) + (Int32.toNatClampNeg 5)) + (Int32.toNatClampNeg 5)) + (Int32.toNatClampNeg 4)) σ320 _ _ _ hT hI hB (lv_sub hl [0] rfl)
  have w_182 : ∀ (cx : Nat) (zx : Nat) (σ : CS) (H : Heap) (locs : List Loc) (ls : Array Slot), U_X6_init_182 mc ms K ob cx zx σ → xI D dA ad n0 Hs s.heap σ H locs → (cx ≤ mc ∧ zx ≤ ms) → lv_has ls 1 [(0, .ref (ad ob))] → W p l e ({ frames := 1, cells := mc, slots := ms, locals := 12 }) s m args below meth c H locs cx zx Q (F0 m 182 ls []) := by
    intro cx zx σ H locs ls hT hI hB hl
    unfold U_X6_init_182 at hT
    refine lv_aload_n hx hb dX6_init_182 rfl (lv_at hl 0 rfl) ?_
    refine lv_iconst (v := 5) hx hb dX6_init_183 (by decide) ?_
    have hB := hT.2.2.1
    refine xnewa3 hC hI hT dX6_init_184 (fun σ321 H hT hI => ?_)
    refine lv_dup hx hb dX6_init_186 rfl ?_
    refine lv_iconst (v := 0) hx hb dX6_init_187 (by decide) ?_
    refine lv_bipush (v := 115) hx hb dX6_init_188 (by decide) ?_
    obtain ⟨hic, hT⟩ := hT
    obtain ⟨hL, hT⟩ := hT
    refine x_cast (i := σ.1) hC hI hic hL hT dX6_init_190 (fun σ322 H locs hT hI => ?_)
    refine lv_dup hx hb dX6_init_191 rfl ?_
    refine lv_iconst (v := 1) hx hb dX6_init_192 (by decide) ?_
    refine lv_bipush (v := 107) hx hb dX6_init_193 (by decide) ?_
    obtain ⟨hic, hT⟩ := hT
    obtain ⟨hL, hT⟩ := hT
    refine x_cast (i := σ.1) hC hI hic hL hT dX6_init_195 (fun σ323 H locs hT hI => ?_)
    refine lv_dup hx hb dX6_init_196 rfl ?_
    refine lv_iconst (v := 2) hx hb dX6_init_197 (by decide) ?_
    refine lv_bipush (v := 105) hx hb dX6_init_198 (by decide) ?_
    obtain ⟨hic, hT⟩ := hT
    obtain ⟨hL, hT⟩ := hT
    refine x_cast (i := σ.1) hC hI hic hL hT dX6_init_200 (fun σ324 H locs hT hI => ?_)
    refine lv_dup hx hb dX6_init_201 rfl ?_
    refine lv_iconst (v := 3) hx hb dX6_init_202 (by decide) ?_
    refine lv_bipush (v := 108) hx hb dX6_init_203 (by decide) ?_
    obtain ⟨hic, hT⟩ := hT
    obtain ⟨hL, hT⟩ := hT
    refine x_cast (i := σ.1) hC hI hic hL hT dX6_init_205 (fun σ325 H locs hT hI => ?_)
    refine lv_dup hx hb dX6_init_206 rfl ?_
    refine lv_iconst (v := 4) hx hb dX6_init_207 (by decide) ?_
    refine lv_bipush (v := 108) hx hb dX6_init_208 (by decide) ?_
    obtain ⟨hic, hT⟩ := hT
    obtain ⟨hL, hT⟩ := hT
    refine x_cast (i := σ.1) hC hI hic hL hT dX6_init_210 (fun σ326 H locs hT hI => ?_)
    obtain ⟨hic, hT⟩ := hT
    obtain ⟨hL, hT⟩ := hT
    refine xpF6c_15 (i := ob) (v := (σ.1) + 1) hC hI hN rfl hic hL hT q1715 (fun _ h => h) dX6_init_211 (fun σ327 H locs hT hI => ?_)
    refine lv_aload_n hx hb dX6_init_214 rfl (lv_at hl 0 rfl) ?_
    refine lv_iconst (v := 5) hx hb dX6_init_215 (by decide) ?_
    have hB := hT.2.2.1
    refine xnewa3 hC hI hT dX6_init_216 (fun σ328 H hT hI => ?_)
    refine lv_dup hx hb dX6_init_218 rfl ?_
    refine lv_iconst (v := 0) hx hb dX6_init_219 (by decide) ?_
    refine lv_bipush (v := 104) hx hb dX6_init_220 (by decide) ?_
    obtain ⟨hic, hT⟩ := hT
    obtain ⟨hL, hT⟩ := hT
    refine x_cast (i := σ327.1) hC hI hic hL hT dX6_init_222 (fun σ329 H locs hT hI => ?_)
    refine lv_dup hx hb dX6_init_223 rfl ?_
    refine lv_iconst (v := 1) hx hb dX6_init_224 (by decide) ?_
    refine lv_bipush (v := 111) hx hb dX6_init_225 (by decide) ?_
    obtain ⟨hic, hT⟩ := hT
    obtain ⟨hL, hT⟩ := hT
    refine x_cast (i := σ327.1) hC hI hic hL hT dX6_init_227 (fun σ330 H locs hT hI => ?_)
    refine lv_dup hx hb dX6_init_228 rfl ?_
    refine lv_iconst (v := 2) hx hb dX6_init_229 (by decide) ?_
    refine lv_bipush (v := 117) hx hb dX6_init_230 (by decide) ?_
    obtain ⟨hic, hT⟩ := hT
    obtain ⟨hL, hT⟩ := hT
    refine x_cast (i := σ327.1) hC hI hic hL hT dX6_init_232 (fun σ331 H locs hT hI => ?_)
    refine lv_dup hx hb dX6_init_233 rfl ?_
    refine lv_iconst (v := 3) hx hb dX6_init_234 (by decide) ?_
    refine lv_bipush (v := 114) hx hb dX6_init_235 (by decide) ?_
    obtain ⟨hic, hT⟩ := hT
    obtain ⟨hL, hT⟩ := hT
    refine x_cast (i := σ327.1) hC hI hic hL hT dX6_init_237 (fun σ332 H locs hT hI => ?_)
    refine lv_dup hx hb dX6_init_238 rfl ?_
    refine lv_iconst (v := 4) hx hb dX6_init_239 (by decide) ?_
    refine lv_bipush (v := 115) hx hb dX6_init_240 (by decide) ?_
    obtain ⟨hic, hT⟩ := hT
    obtain ⟨hL, hT⟩ := hT
    refine x_cast (i := σ327.1) hC hI hic hL hT dX6_init_242 (fun σ333 H locs hT hI => ?_)
    obtain ⟨hic, hT⟩ := hT
    obtain ⟨hL, hT⟩ := hT
    refine xpF6c_16 (i := ob) (v := (σ327.1) + 1) hC hI hN rfl hic hL hT q1716 (fun _ h => h) dX6_init_243 (fun σ334 H locs hT hI => ?_)
    refine lv_aload_n hx hb dX6_init_246 rfl (lv_at hl 0 rfl) ?_
    refine lv_iconst (v := 5) hx hb dX6_init_247 (by decide) ?_
    have hB := hT.2.2.1
    refine xnewa3 hC hI hT dX6_init_248 (fun σ335 H hT hI => ?_)
    refine lv_dup hx hb dX6_init_250 rfl ?_
    refine lv_iconst (v := 0) hx hb dX6_init_251 (by decide) ?_
    refine lv_bipush (v := 116) hx hb dX6_init_252 (by decide) ?_
    obtain ⟨hic, hT⟩ := hT
    obtain ⟨hL, hT⟩ := hT
    refine x_cast (i := σ334.1) hC hI hic hL hT dX6_init_254 (fun σ336 H locs hT hI => ?_)
    refine lv_dup hx hb dX6_init_255 rfl ?_
    refine lv_iconst (v := 1) hx hb dX6_init_256 (by decide) ?_
    refine lv_bipush (v := 114) hx hb dX6_init_257 (by decide) ?_
    obtain ⟨hic, hT⟩ := hT
    obtain ⟨hL, hT⟩ := hT
    refine x_cast (i := σ334.1) hC hI hic hL hT dX6_init_259 (fun σ337 H locs hT hI => ?_)
    refine lv_dup hx hb dX6_init_260 rfl ?_
    refine lv_iconst (v := 2) hx hb dX6_init_261 (by decide) ?_
    refine lv_bipush (v := 105) hx hb dX6_init_262 (by decide) ?_
    obtain ⟨hic, hT⟩ := hT
    obtain ⟨hL, hT⟩ := hT
    refine x_cast (i := σ334.1) hC hI hic hL hT dX6_init_264 (fun σ338 H locs hT hI => ?_)
    refine lv_dup hx hb dX6_init_265 rfl ?_
    refine lv_iconst (v := 3) hx hb dX6_init_266 (by decide) ?_
    refine lv_bipush (v := 97) hx hb dX6_init_267 (by decide) ?_
    obtain ⟨hic, hT⟩ := hT
    obtain ⟨hL, hT⟩ := hT
    refine x_cast (i := σ334.1) hC hI hic hL hT dX6_init_269 (fun σ339 H locs hT hI => ?_)
    refine lv_dup hx hb dX6_init_270 rfl ?_
    refine lv_iconst (v := 4) hx hb dX6_init_271 (by decide) ?_
    refine lv_bipush (v := 108) hx hb dX6_init_272 (by decide) ?_
    obtain ⟨hic, hT⟩ := hT
    obtain ⟨hL, hT⟩ := hT
    refine x_cast (i := σ334.1) hC hI hic hL hT dX6_init_274 (fun σ340 H locs hT hI => ?_)
    obtain ⟨hic, hT⟩ := hT
    obtain ⟨hL, hT⟩ := hT
    refine xpF6c_17 (i := ob) (v := (σ334.1) + 1) hC hI hN rfl hic hL hT q1717 (fun _ h => h) dX6_init_275 (fun σ341 H locs hT hI => ?_)
    refine lv_aload_n hx hb dX6_init_278 rfl (lv_at hl 0 rfl) ?_
    refine lv_iconst (v := 2) hx hb dX6_init_279 (by decide) ?_
    have hB := hT.2.2.1
    refine xnewa3 hC hI hT dX6_init_280 (fun σ342 H hT hI => ?_)
    refine lv_dup hx hb dX6_init_282 rfl ?_
    refine lv_iconst (v := 0) hx hb dX6_init_283 (by decide) ?_
    refine lv_bipush (v := 105) hx hb dX6_init_284 (by decide) ?_
    obtain ⟨hic, hT⟩ := hT
    obtain ⟨hL, hT⟩ := hT
    refine x_cast (i := σ341.1) hC hI hic hL hT dX6_init_286 (fun σ343 H locs hT hI => ?_)
    refine lv_dup hx hb dX6_init_287 rfl ?_
    refine lv_iconst (v := 1) hx hb dX6_init_288 (by decide) ?_
    refine lv_bipush (v := 115) hx hb dX6_init_289 (by decide) ?_
    obtain ⟨hic, hT⟩ := hT
    obtain ⟨hL, hT⟩ := hT
    refine x_cast (i := σ341.1) hC hI hic hL hT dX6_init_291 (fun σ344 H locs hT hI => ?_)
    obtain ⟨hic, hT⟩ := hT
    obtain ⟨hL, hT⟩ := hT
    refine xpF6c_18 (i := ob) (v := (σ341.1) + 1) hC hI hN rfl hic hL hT q1718 (fun _ h => h) dX6_init_292 (fun σ345 H locs hT hI => ?_)
    exact w_295 (cx + 1 + 1 + 1 + 1) ((((zx + (Int32.toNatClampNeg 5)) + (Int32.toNatClampNeg 5)) + (Int32.toNatClampNeg 5)) + (Int32.toNatClampNeg 2)) σ345 _ _ _ hT hI hB (lv_sub hl [0] rfl)
  have w_58 : ∀ (cx : Nat) (zx : Nat) (σ : CS) (H : Heap) (locs : List Loc) (ls : Array Slot), U_X6_init_58 mc ms K ob cx zx σ → xI D dA ad n0 Hs s.heap σ H locs → (cx ≤ mc ∧ zx ≤ ms) → lv_has ls 1 [(0, .ref (ad ob))] → W p l e ({ frames := 1, cells := mc, slots := ms, locals := 12 }) s m args below meth c H locs cx zx Q (F0 m 58 ls []) := by
    intro cx zx σ H locs ls hT hI hB hl
    unfold U_X6_init_58 at hT
    refine lv_aload_n hx hb dX6_init_58 rfl (lv_at hl 0 rfl) ?_
    refine lv_iconst (v := 5) hx hb dX6_init_59 (by decide) ?_
    have hB := hT.2.2.1
    refine xnewa3 hC hI hT dX6_init_60 (fun σ346 H hT hI => ?_)
    refine lv_dup hx hb dX6_init_62 rfl ?_
    refine lv_iconst (v := 0) hx hb dX6_init_63 (by decide) ?_
    refine lv_bipush (v := 119) hx hb dX6_init_64 (by decide) ?_
    obtain ⟨hic, hT⟩ := hT
    obtain ⟨hL, hT⟩ := hT
    refine x_cast (i := σ.1) hC hI hic hL hT dX6_init_66 (fun σ347 H locs hT hI => ?_)
    refine lv_dup hx hb dX6_init_67 rfl ?_
    refine lv_iconst (v := 1) hx hb dX6_init_68 (by decide) ?_
    refine lv_bipush (v := 111) hx hb dX6_init_69 (by decide) ?_
    obtain ⟨hic, hT⟩ := hT
    obtain ⟨hL, hT⟩ := hT
    refine x_cast (i := σ.1) hC hI hic hL hT dX6_init_71 (fun σ348 H locs hT hI => ?_)
    refine lv_dup hx hb dX6_init_72 rfl ?_
    refine lv_iconst (v := 2) hx hb dX6_init_73 (by decide) ?_
    refine lv_bipush (v := 114) hx hb dX6_init_74 (by decide) ?_
    obtain ⟨hic, hT⟩ := hT
    obtain ⟨hL, hT⟩ := hT
    refine x_cast (i := σ.1) hC hI hic hL hT dX6_init_76 (fun σ349 H locs hT hI => ?_)
    refine lv_dup hx hb dX6_init_77 rfl ?_
    refine lv_iconst (v := 3) hx hb dX6_init_78 (by decide) ?_
    refine lv_bipush (v := 116) hx hb dX6_init_79 (by decide) ?_
    obtain ⟨hic, hT⟩ := hT
    obtain ⟨hL, hT⟩ := hT
    refine x_cast (i := σ.1) hC hI hic hL hT dX6_init_81 (fun σ350 H locs hT hI => ?_)
    refine lv_dup hx hb dX6_init_82 rfl ?_
    refine lv_iconst (v := 4) hx hb dX6_init_83 (by decide) ?_
    refine lv_bipush (v := 104) hx hb dX6_init_84 (by decide) ?_
    obtain ⟨hic, hT⟩ := hT
    obtain ⟨hL, hT⟩ := hT
    refine x_cast (i := σ.1) hC hI hic hL hT dX6_init_86 (fun σ351 H locs hT hI => ?_)
    obtain ⟨hic, hT⟩ := hT
    obtain ⟨hL, hT⟩ := hT
    refine xpF6c_11 (i := ob) (v := (σ.1) + 1) hC hI hN rfl hic hL hT q1711 (fun _ h => h) dX6_init_87 (fun σ352 H locs hT hI => ?_)
    refine lv_aload_n hx hb dX6_init_90 rfl (lv_at hl 0 rfl) ?_
    refine lv_iconst (v := 3) hx hb dX6_init_91 (by decide) ?_
    have hB := hT.2.2.1
    refine xnewa3 hC hI hT dX6_init_92 (fun σ353 H hT hI => ?_)
    refine lv_dup hx hb dX6_init_94 rfl ?_
    refine lv_iconst (v := 0) hx hb dX6_init_95 (by decide) ?_
    refine lv_bipush (v := 117) hx hb dX6_init_96 (by decide) ?_
    obtain ⟨hic, hT⟩ := hT
    obtain ⟨hL, hT⟩ := hT
    refine x_cast (i := σ352.1) hC hI hic hL hT dX6_init_98 (fun σ354 H locs hT hI => ?_)
    refine lv_dup hx hb dX6_init_99 rfl ?_
    refine lv_iconst (v := 1) hx hb dX6_init_100 (by decide) ?_
    refine lv_bipush (v := 115) hx hb dX6_init_101 (by decide) ?_
    obtain ⟨hic, hT⟩ := hT
    obtain ⟨hL, hT⟩ := hT
    refine x_cast (i := σ352.1) hC hI hic hL hT dX6_init_103 (fun σ355 H locs hT hI => ?_)
    refine lv_dup hx hb dX6_init_104 rfl ?_
    refine lv_iconst (v := 2) hx hb dX6_init_105 (by decide) ?_
    refine lv_bipush (v := 101) hx hb dX6_init_106 (by decide) ?_
    obtain ⟨hic, hT⟩ := hT
    obtain ⟨hL, hT⟩ := hT
    refine x_cast (i := σ352.1) hC hI hic hL hT dX6_init_108 (fun σ356 H locs hT hI => ?_)
    obtain ⟨hic, hT⟩ := hT
    obtain ⟨hL, hT⟩ := hT
    refine xpF6c_12 (i := ob) (v := (σ352.1) + 1) hC hI hN rfl hic hL hT q1712 (fun _ h => h) dX6_init_109 (fun σ357 H locs hT hI => ?_)
    refine lv_aload_n hx hb dX6_init_112 rfl (lv_at hl 0 rfl) ?_
    refine lv_iconst (v := 5) hx hb dX6_init_113 (by decide) ?_
    have hB := hT.2.2.1
    refine xnewa3 hC hI hT dX6_init_114 (fun σ358 H hT hI => ?_)
    refine lv_dup hx hb dX6_init_116 rfl ?_
    refine lv_iconst (v := 0) hx hb dX6_init_117 (by decide) ?_
    refine lv_bipush (v := 102) hx hb dX6_init_118 (by decide) ?_
    obtain ⟨hic, hT⟩ := hT
    obtain ⟨hL, hT⟩ := hT
    refine x_cast (i := σ357.1) hC hI hic hL hT dX6_init_120 (fun σ359 H locs hT hI => ?_)
    refine lv_dup hx hb dX6_init_121 rfl ?_
    refine lv_iconst (v := 1) hx hb dX6_init_122 (by decide) ?_
    refine lv_bipush (v := 114) hx hb dX6_init_123 (by decide) ?_
    obtain ⟨hic, hT⟩ := hT
    obtain ⟨hL, hT⟩ := hT
    refine x_cast (i := σ357.1) hC hI hic hL hT dX6_init_125 (fun σ360 H locs hT hI => ?_)
    refine lv_dup hx hb dX6_init_126 rfl ?_
    refine lv_iconst (v := 2) hx hb dX6_init_127 (by decide) ?_
    refine lv_bipush (v := 97) hx hb dX6_init_128 (by decide) ?_
    obtain ⟨hic, hT⟩ := hT
    obtain ⟨hL, hT⟩ := hT
    refine x_cast (i := σ357.1) hC hI hic hL hT dX6_init_130 (fun σ361 H locs hT hI => ?_)
    refine lv_dup hx hb dX6_init_131 rfl ?_
    refine lv_iconst (v := 3) hx hb dX6_init_132 (by decide) ?_
    refine lv_bipush (v := 105) hx hb dX6_init_133 (by decide) ?_
    obtain ⟨hic, hT⟩ := hT
    obtain ⟨hL, hT⟩ := hT
    refine x_cast (i := σ357.1) hC hI hic hL hT dX6_init_135 (fun σ362 H locs hT hI => ?_)
    refine lv_dup hx hb dX6_init_136 rfl ?_
    refine lv_iconst (v := 4) hx hb dX6_init_137 (by decide) ?_
    refine lv_bipush (v := 108) hx hb dX6_init_138 (by decide) ?_
    obtain ⟨hic, hT⟩ := hT
    obtain ⟨hL, hT⟩ := hT
    refine x_cast (i := σ357.1) hC hI hic hL hT dX6_init_140 (fun σ363 H locs hT hI => ?_)
    obtain ⟨hic, hT⟩ := hT
    obtain ⟨hL, hT⟩ := hT
    refine xpF6c_13 (i := ob) (v := (σ357.1) + 1) hC hI hN rfl hic hL hT q1713 (fun _ h => h) dX6_init_141 (fun σ364 H locs hT hI => ?_)
    refine lv_aload_n hx hb dX6_init_144 rfl (lv_at hl 0 rfl) ?_
    refine lv_bipush (v := 6) hx hb dX6_init_145 (by decide) ?_
    have hB := hT.2.2.1
    refine xnewa3 hC hI hT dX6_init_147 (fun σ365 H hT hI => ?_)
    refine lv_dup hx hb dX6_init_149 rfl ?_
    refine lv_iconst (v := 0) hx hb dX6_init_150 (by decide) ?_
    refine lv_bipush (v := 109) hx hb dX6_init_151 (by decide) ?_
    obtain ⟨hic, hT⟩ := hT
    obtain ⟨hL, hT⟩ := hT
    refine x_cast (i := σ364.1) hC hI hic hL hT dX6_init_153 (fun σ366 H locs hT hI => ?_)
    refine lv_dup hx hb dX6_init_154 rfl ?_
    refine lv_iconst (v := 1) hx hb dX6_init_155 (by decide) ?_
    refine lv_bipush (v := 101) hx hb dX6_init_156 (by decide) ?_
    obtain ⟨hic, hT⟩ := hT
    obtain ⟨hL, hT⟩ := hT
    refine x_cast (i := σ364.1) hC hI hic hL hT dX6_init_158 (fun σ367 H locs hT hI => ?_)
    refine lv_dup hx hb dX6_init_159 rfl ?_
    refine lv_iconst (v := 2) hx hb dX6_init_160 (by decide) ?_
    refine lv_bipush (v := 110) hx hb dX6_init_161 (by decide) ?_
    obtain ⟨hic, hT⟩ := hT
    obtain ⟨hL, hT⟩ := hT
    refine x_cast (i := σ364.1) hC hI hic hL hT dX6_init_163 (fun σ368 H locs hT hI => ?_)
    refine lv_dup hx hb dX6_init_164 rfl ?_
    refine lv_iconst (v := 3) hx hb dX6_init_165 (by decide) ?_
    refine lv_bipush (v := 100) hx hb dX6_init_166 (by decide) ?_
    obtain ⟨hic, hT⟩ := hT
    obtain ⟨hL, hT⟩ := hT
    refine x_cast (i := σ364.1) hC hI hic hL hT dX6_init_168 (fun σ369 H locs hT hI => ?_)
    refine lv_dup hx hb dX6_init_169 rfl ?_
    refine lv_iconst (v := 4) hx hb dX6_init_170 (by decide) ?_
    refine lv_bipush (v := 101) hx hb dX6_init_171 (by decide) ?_
    obtain ⟨hic, hT⟩ := hT
    obtain ⟨hL, hT⟩ := hT
    refine x_cast (i := σ364.1) hC hI hic hL hT dX6_init_173 (fun σ370 H locs hT hI => ?_)
    refine lv_dup hx hb dX6_init_174 rfl ?_
    refine lv_iconst (v := 5) hx hb dX6_init_175 (by decide) ?_
    refine lv_bipush (v := 114) hx hb dX6_init_176 (by decide) ?_
    obtain ⟨hic, hT⟩ := hT
    obtain ⟨hL, hT⟩ := hT
    refine x_cast (i := σ364.1) hC hI hic hL hT dX6_init_178 (fun σ371 H locs hT hI => ?_)
    obtain ⟨hic, hT⟩ := hT
    obtain ⟨hL, hT⟩ := hT
    refine xpF6c_14 (i := ob) (v := (σ364.1) + 1) hC hI hN rfl hic hL hT q1714 (fun _ h => h) dX6_init_179 (fun σ372 H locs hT hI => ?_)
    exact w_182 (cx + 1 + 1 + 1 + 1) ((((zx + (Int32.toNatClampNeg 5)) + (Int32.toNatClampNeg 3)) + (Int32.toNatClampNeg 5)) + (Int32.toNatClampNeg 6)) σ372 _ _ _ hT hI hB (lv_sub hl [0] rfl)
  unfold U_X6_init at hT
  refine lv_aload_n hx hb dX6_init_0 rfl (lv_at hl 0 rfl) ?_
  refine W.objInit hx hb hC.1.2.2.2.1 (hC.1.2.2.2.2 _ q1699) (hC.1.2.2.2.2 _ q205) (hC.1.2.2.2.2 _ q206) rfl (by rw [hC.1.2.2.1]; exact hl.1) rfl dX6_init_1 (Nat.le_of_ble_eq_true rfl) (Nat.le_of_ble_eq_true rfl) ?_
  refine W.eq (g2 := F0 m 4 ls []) rfl ?_
  refine lv_aload_n hx hb dX6_init_4 rfl (lv_at hl 0 rfl) ?_
  refine lv_sipush (v := 1600) hx hb dX6_init_5 (by decide) ?_
  have hB := hT.2.2.1
  refine xnewa0 hC hI hT dX6_init_8 (fun σ373 H hT hI => ?_)
  obtain ⟨hic, hT⟩ := hT
  obtain ⟨hL, hT⟩ := hT
  refine xpF6c_0 (i := ob) (v := (σ.1) + 1) hC hI hN rfl hic hL hT q1700 (fun _ h => h) dX6_init_10 (fun σ374 H locs hT hI => ?_)
  refine lv_aload_n hx hb dX6_init_13 rfl (lv_at hl 0 rfl) ?_
  refine lv_iconst (v := -1) hx hb dX6_init_14 (by decide) ?_
  obtain ⟨hic, hT⟩ := hT
  obtain ⟨hL, hT⟩ := hT
  refine xp6c_8 (i := ob) (v := -1) hC hI hic hL hT q1708 (fun _ h => h) dX6_init_15 (fun σ375 H locs hT hI => ?_)
  refine lv_aload_n hx hb dX6_init_18 rfl (lv_at hl 0 rfl) ?_
  refine lv_bipush (v := 6) hx hb dX6_init_19 (by decide) ?_
  have hB := hT.2.2.1
  refine xnewa0 hC hI hT dX6_init_21 (fun σ376 H hT hI => ?_)
  obtain ⟨hic, hT⟩ := hT
  obtain ⟨hL, hT⟩ := hT
  refine xpF6c_9 (i := ob) (v := (σ375.1) + 1) hC hI hN rfl hic hL hT q1709 (fun _ h => h) dX6_init_23 (fun σ377 H locs hT hI => ?_)
  refine lv_aload_n hx hb dX6_init_26 rfl (lv_at hl 0 rfl) ?_
  refine lv_iconst (v := 5) hx hb dX6_init_27 (by decide) ?_
  have hB := hT.2.2.1
  refine xnewa3 hC hI hT dX6_init_28 (fun σ378 H hT hI => ?_)
  refine lv_dup hx hb dX6_init_30 rfl ?_
  refine lv_iconst (v := 0) hx hb dX6_init_31 (by decide) ?_
  refine lv_bipush (v := 116) hx hb dX6_init_32 (by decide) ?_
  obtain ⟨hic, hT⟩ := hT
  obtain ⟨hL, hT⟩ := hT
  refine x_cast (i := σ377.1) hC hI hic hL hT dX6_init_34 (fun σ379 H locs hT hI => ?_)
  refine lv_dup hx hb dX6_init_35 rfl ?_
  refine lv_iconst (v := 1) hx hb dX6_init_36 (by decide) ?_
  refine lv_bipush (v := 104) hx hb dX6_init_37 (by decide) ?_
  obtain ⟨hic, hT⟩ := hT
  obtain ⟨hL, hT⟩ := hT
  refine x_cast (i := σ377.1) hC hI hic hL hT dX6_init_39 (fun σ380 H locs hT hI => ?_)
  refine lv_dup hx hb dX6_init_40 rfl ?_
  refine lv_iconst (v := 2) hx hb dX6_init_41 (by decide) ?_
  refine lv_bipush (v := 105) hx hb dX6_init_42 (by decide) ?_
  obtain ⟨hic, hT⟩ := hT
  obtain ⟨hL, hT⟩ := hT
  refine x_cast (i := σ377.1) hC hI hic hL hT dX6_init_44 (fun σ381 H locs hT hI => ?_)
  refine lv_dup hx hb dX6_init_45 rfl ?_
  refine lv_iconst (v := 3) hx hb dX6_init_46 (by decide) ?_
  refine lv_bipush (v := 110) hx hb dX6_init_47 (by decide) ?_
  obtain ⟨hic, hT⟩ := hT
  obtain ⟨hL, hT⟩ := hT
  refine x_cast (i := σ377.1) hC hI hic hL hT dX6_init_49 (fun σ382 H locs hT hI => ?_)
  refine lv_dup hx hb dX6_init_50 rfl ?_
  refine lv_iconst (v := 4) hx hb dX6_init_51 (by decide) ?_
  refine lv_bipush (v := 103) hx hb dX6_init_52 (by decide) ?_
  obtain ⟨hic, hT⟩ := hT
  obtain ⟨hL, hT⟩ := hT
  refine x_cast (i := σ377.1) hC hI hic hL hT dX6_init_54 (fun σ383 H locs hT hI => ?_)
  obtain ⟨hic, hT⟩ := hT
  obtain ⟨hL, hT⟩ := hT
  refine xpF6c_10 (i := ob) (v := (σ377.1) + 1) hC hI hN rfl hic hL hT q1710 (fun _ h => h) dX6_init_55 (fun σ384 H locs hT hI => ?_)
  exact w_58 3 (((0 + (Int32.toNatClampNeg 1600)) + (Int32.toNatClampNeg 6)) + (Int32.toNatClampNeg 5)) σ384 _ _ _ hT hI hB (lv_sub hl [0] rfl)
