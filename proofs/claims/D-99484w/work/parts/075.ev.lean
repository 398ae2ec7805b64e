/-- evaluation, so many calls deep -/
def U_ev : Nat → PTV × PTT
  | 0 => (fun _ _ _ _ => False, fun _ _ _ _ => False)
  | n + 1 => (fun σ ob mo K => (gK σ ob = some kO13 ∧ U_X16_at (U_ev n).1 (U_ev n).2 σ ob mo K) ∨ (gK σ ob = some kO14 ∧ U_X17_at (U_ev n).1 (U_ev n).2 σ ob mo K) ∨ (gK σ ob = some kO15 ∧ U_X18_at σ ob mo K) ∨ (gK σ ob = some kO16 ∧ U_X19_at σ ob mo K) ∨ (gK σ ob = some kO17 ∧ U_X20_at (U_ev n).1 (U_ev n).2 σ ob mo K), fun σ ob mo K => (gK σ ob = some kO10 ∧ U_X12_holds (U_ev n).1 (U_ev n).2 σ ob mo K) ∨ (gK σ ob = some kO11 ∧ U_X13_holds (U_ev n).1 (U_ev n).2 σ ob mo K) ∨ (gK σ ob = some kO12 ∧ U_X14_holds σ ob mo K) ∨ (gK σ ob = some kO18 ∧ U_X21_holds (U_ev n).1 (U_ev n).2 σ ob mo K))
theorem ev_VT (l : Launch) (D : va_G) (dA : Nat → ClassId) (ad : Nat → Nat) (Hs : Heap) (hA : cAd ad 1296 Hs.size) (n : Nat) : MetV l D dA ad Hs (9 * n) (185 * n) (U_ev n).1 ∧ MetT l D dA ad Hs (9 * n) (185 * n) (U_ev n).2 := by
  induction n with
  | zero => exact ⟨fun _ _ _ _ _ h => h.elim, fun _ _ _ _ _ h => h.elim⟩
  | succ n ih =>
    constructor
    · intro σ ob mo K hm hT
      rcases hT with ⟨h, hT⟩ | ⟨h, hT⟩ | ⟨h, hT⟩ | ⟨h, hT⟩ | ⟨h, hT⟩
      · exact ⟨yX16_at, cX16_at, 5, 13, _, _, _, _, _, h, rfl, um_X16_at l D dA ad Hs hA (9 * n) (185 * n) _ _ ih.1 ih.2 σ ob mo hm K hT, by decide, q1334, q1335, q189, q1336, rfl, rfl, by dsimp only; omega, by dsimp only; omega⟩
      · exact ⟨yX17_at, cX17_at, 6, 14, _, _, _, _, _, h, rfl, um_X17_at l D dA ad Hs hA (9 * n) (185 * n) _ _ ih.1 ih.2 σ ob mo hm K hT, by decide, q1381, q1346, q192, q1347, rfl, rfl, by dsimp only; omega, by dsimp only; omega⟩
      · exact ⟨yX18_at, cX18_at, 2, 15, _, _, _, _, _, h, rfl, um_X18_at l D dA ad Hs hA σ ob mo hm K hT, by decide, q1379, q1341, q193, q1342, rfl, rfl, by dsimp only; omega, by dsimp only; omega⟩
      · exact ⟨yX19_at, cX19_at, 2, 16, _, _, _, _, _, h, rfl, um_X19_at l D dA ad Hs hA σ ob mo hm K hT, by decide, q1320, q1321, q194, q1322, rfl, rfl, by dsimp only; omega, by dsimp only; omega⟩
      · exact ⟨yX20_at, cX20_at, 2, 17, _, _, _, _, _, h, rfl, um_X20_at l D dA ad Hs hA (9 * n) (185 * n) _ _ ih.1 ih.2 σ ob mo hm K hT, by decide, q1380, q1343, q195, q1344, rfl, rfl, by dsimp only; omega, by dsimp only; omega⟩
    · intro σ ob mo K hm hT
      rcases hT with ⟨h, hT⟩ | ⟨h, hT⟩ | ⟨h, hT⟩ | ⟨h, hT⟩
      · exact ⟨yX12_holds, cX12_holds, 3, 10, _, _, _, _, _, h, rfl, um_X12_holds l D dA ad Hs hA (9 * n) (185 * n) _ _ ih.1 ih.2 σ ob mo hm K hT, by decide, q1303, q1304, q185, q1305, rfl, rfl, by dsimp only; omega, by dsimp only; omega⟩
      · exact ⟨yX13_holds, cX13_holds, 2, 11, _, _, _, _, _, h, rfl, um_X13_holds l D dA ad Hs hA (9 * n) (185 * n) _ _ ih.1 ih.2 σ ob mo hm K hT, by decide, q1382, q1312, q186, q1313, rfl, rfl, by dsimp only; omega, by dsimp only; omega⟩
      · exact ⟨yX14_holds, cX14_holds, 2, 12, _, _, _, _, _, h, rfl, um_X14_holds l D dA ad Hs hA σ ob mo hm K hT, by decide, q1300, q1301, q187, q1302, rfl, rfl, by dsimp only; omega, by dsimp only; omega⟩
      · exact ⟨yX21_holds, cX21_holds, 6, 18, _, _, _, _, _, h, rfl, um_X21_holds l D dA ad Hs hA (9 * n) (185 * n) _ _ ih.1 ih.2 σ ob mo hm K hT, by decide, q1383, q1315, q196, q1316, rfl, rfl, by dsimp only; omega, by dsimp only; omega⟩
theorem ev_V (l : Launch) (D : va_G) (dA : Nat → ClassId) (ad : Nat → Nat) (Hs : Heap) (hA : cAd ad 1296 Hs.size) (n : Nat) : MetV l D dA ad Hs (9 * n) (185 * n) (U_ev n).1 := (ev_VT l D dA ad Hs hA n).1
theorem ev_T (l : Launch) (D : va_G) (dA : Nat → ClassId) (ad : Nat → Nat) (Hs : Heap) (hA : cAd ad 1296 Hs.size) (n : Nat) : MetT l D dA ad Hs (9 * n) (185 * n) (U_ev n).2 := (ev_VT l D dA ad Hs hA n).2
