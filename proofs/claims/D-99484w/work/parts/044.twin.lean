/-! THE MODEL AS A REGION (printed by gen/twinbase.py): field k of the object (id 0); its arrays, id k + 1. -/
def TX14 : u_T := fun _ => ("", "", "", false)
/-- of a Fault only its own two fields are looked at -/
abbrev vwCl : List vw_C := [(RX0, TX0, 20), (RX1, TX1, 10), (RX2, TX2, 8), (RX3, TX3, 8), (RX4, TX4, 1), (RX5, TX5, 13), (RX6, TX6, 103), (RX8, TX8, 4), (RX9, TX9, 3), (RX10, TX10, 2), (RX12, TX12, 2), (RX13, TX13, 1), (RX14, TX14, 0), (RX16, TX16, 2), (RX17, TX17, 3), (RX18, TX18, 1), (RX19, TX19, 1), (RX20, TX20, 3), (RX21, TX21, 3), (RX22, TX22, 5), (RJ2, TJ2, 3), (RJ6, TJ6, 4), (RJ15, TJ15, 4)]
def twKs : Nat → Nat × Nat := fun k => match k with
  | 0 => (2, 1)
  | 1 => (0, 0)
  | 2 => (0, 0)
  | 3 => (0, 0)
  | 4 => (0, 0)
  | 5 => (0, 0)
  | 6 => (0, 0)
  | 7 => (0, 0)
  | 8 => (0, 0)
  | 9 => (2, 10)
  | 10 => (2, 11)
  | 11 => (2, 12)
  | 12 => (2, 13)
  | 13 => (2, 14)
  | 14 => (2, 15)
  | 15 => (2, 16)
  | 16 => (2, 17)
  | 17 => (2, 18)
  | 18 => (2, 19)
  | 19 => (2, 20)
  | 20 => (2, 21)
  | 21 => (2, 22)
  | 22 => (2, 23)
  | 23 => (2, 24)
  | 24 => (2, 25)
  | 25 => (2, 26)
  | 26 => (2, 27)
  | 27 => (2, 28)
  | 28 => (2, 29)
  | 29 => (2, 30)
  | 30 => (2, 31)
  | 31 => (2, 32)
  | 32 => (2, 33)
  | 33 => (2, 34)
  | 34 => (2, 35)
  | 35 => (2, 36)
  | 36 => (2, 37)
  | 37 => (2, 38)
  | 38 => (0, 0)
  | 39 => (2, 40)
  | 40 => (2, 41)
  | 41 => (2, 42)
  | 42 => (2, 43)
  | 43 => (0, 0)
  | 44 => (0, 0)
  | 45 => (2, 46)
  | 46 => (2, 47)
  | 47 => (2, 48)
  | 48 => (0, 0)
  | 49 => (0, 0)
  | 50 => (0, 0)
  | 51 => (2, 52)
  | 52 => (2, 53)
  | 53 => (0, 0)
  | 54 => (0, 0)
  | 55 => (0, 0)
  | 56 => (2, 57)
  | 57 => (0, 0)
  | 58 => (0, 0)
  | 59 => (2, 60)
  | 60 => (2, 61)
  | 61 => (2, 62)
  | 62 => (2, 63)
  | 63 => (2, 64)
  | 64 => (2, 65)
  | 65 => (0, 0)
  | 66 => (0, 0)
  | 67 => (1, 0)
  | 68 => (2, 69)
  | 69 => (2, 70)
  | 70 => (2, 71)
  | 71 => (2, 72)
  | 72 => (2, 73)
  | 73 => (2, 74)
  | 74 => (2, 75)
  | 75 => (2, 76)
  | 76 => (2, 77)
  | 77 => (2, 78)
  | 78 => (2, 79)
  | 79 => (2, 80)
  | 80 => (2, 81)
  | 81 => (2, 82)
  | 82 => (2, 83)
  | 83 => (2, 84)
  | 84 => (2, 85)
  | 85 => (2, 86)
  | 86 => (2, 87)
  | 87 => (2, 88)
  | 88 => (2, 89)
  | 89 => (2, 90)
  | 90 => (2, 91)
  | 91 => (2, 92)
  | 92 => (0, 0)
  | 93 => (2, 94)
  | 94 => (0, 0)
  | 95 => (0, 0)
  | 96 => (0, 0)
  | 97 => (2, 98)
  | 98 => (0, 0)
  | 99 => (1, 0)
  | 100 => (0, 0)
  | 101 => (2, 102)
  | 102 => (0, 0)
  | _ => (0, 0)
def twL : rgL := fun id => match id with
  | 0 => some (.inl (6, 103, twKs))
  | 1 => some (.inr (0, 1600))
  | 10 => some (.inr (0, 6))
  | 11 => some (.inr (3, 5))
  | 12 => some (.inr (3, 5))
  | 13 => some (.inr (3, 3))
  | 14 => some (.inr (3, 5))
  | 15 => some (.inr (3, 6))
  | 16 => some (.inr (3, 5))
  | 17 => some (.inr (3, 5))
  | 18 => some (.inr (3, 5))
  | 19 => some (.inr (3, 2))
  | 20 => some (.inr (3, 6))
  | 21 => some (.inr (3, 5))
  | 22 => some (.inr (3, 5))
  | 23 => some (.inr (3, 4))
  | 24 => some (.inr (3, 5))
  | 25 => some (.inr (3, 3))
  | 26 => some (.inr (3, 6))
  | 27 => some (.inr (3, 5))
  | 28 => some (.inr (3, 3))
  | 29 => some (.inr (3, 4))
  | 30 => some (.inr (3, 6))
  | 31 => some (.inr (3, 6))
  | 32 => some (.inr (3, 4))
  | 33 => some (.inr (3, 2))
  | 34 => some (.inr (3, 3))
  | 35 => some (.inr (3, 3))
  | 36 => some (.inr (3, 3))
  | 37 => some (.inr (3, 3))
  | 38 => some (.inr (3, 3))
  | 40 => some (.inr (0, 6))
  | 41 => some (.inr (4, 48))
  | 42 => some (.inr (0, 48))
  | 43 => some (.inr (0, 16))
  | 46 => some (.inr (0, 20))
  | 47 => some (.inr (0, 20))
  | 48 => some (.inr (0, 3200))
  | 52 => some (.inr (0, 192))
  | 53 => some (.inr (0, 41))
  | 57 => some (.inr (0, 40))
  | 60 => some (.inr (2, 8))
  | 61 => some (.inr (0, 4))
  | 62 => some (.inr (0, 6))
  | 63 => some (.inr (0, 6))
  | 64 => some (.inr (2, 310))
  | 65 => some (.inr (0, 3840))
  | 69 => some (.inr (3, 5))
  | 70 => some (.inr (3, 4))
  | 71 => some (.inr (3, 5))
  | 72 => some (.inr (3, 5))
  | 73 => some (.inr (3, 4))
  | 74 => some (.inr (3, 5))
  | 75 => some (.inr (3, 3))
  | 76 => some (.inr (3, 3))
  | 77 => some (.inr (3, 2))
  | 78 => some (.inr (3, 3))
  | 79 => some (.inr (3, 3))
  | 80 => some (.inr (3, 3))
  | 81 => some (.inr (3, 5))
  | 82 => some (.inr (3, 3))
  | 83 => some (.inr (3, 5))
  | 84 => some (.inr (3, 6))
  | 85 => some (.inr (3, 5))
  | 86 => some (.inr (3, 3))
  | 87 => some (.inr (3, 4))
  | 88 => some (.inr (3, 5))
  | 89 => some (.inr (3, 6))
  | 90 => some (.inr (3, 6))
  | 91 => some (.inr (3, 2))
  | 92 => some (.inr (0, 1700))
  | 94 => some (.inr (0, 1700))
  | 98 => some (.inr (4, 1700))
  | 102 => some (.inr (0, 43))
  | _ => none
theorem tl_0 : twL 0 = some (.inl (6, 103, twKs)) := rfl
theorem tl_1 : twL 1 = some (.inr (0, 1600)) := rfl
theorem tl_10 : twL 10 = some (.inr (0, 6)) := rfl
theorem tl_11 : twL 11 = some (.inr (3, 5)) := rfl
theorem tl_12 : twL 12 = some (.inr (3, 5)) := rfl
theorem tl_13 : twL 13 = some (.inr (3, 3)) := rfl
theorem tl_14 : twL 14 = some (.inr (3, 5)) := rfl
theorem tl_15 : twL 15 = some (.inr (3, 6)) := rfl
theorem tl_16 : twL 16 = some (.inr (3, 5)) := rfl
theorem tl_17 : twL 17 = some (.inr (3, 5)) := rfl
theorem tl_18 : twL 18 = some (.inr (3, 5)) := rfl
theorem tl_19 : twL 19 = some (.inr (3, 2)) := rfl
theorem tl_20 : twL 20 = some (.inr (3, 6)) := rfl
theorem tl_21 : twL 21 = some (.inr (3, 5)) := rfl
theorem tl_22 : twL 22 = some (.inr (3, 5)) := rfl
theorem tl_23 : twL 23 = some (.inr (3, 4)) := rfl
theorem tl_24 : twL 24 = some (.inr (3, 5)) := rfl
theorem tl_25 : twL 25 = some (.inr (3, 3)) := rfl
theorem tl_26 : twL 26 = some (.inr (3, 6)) := rfl
theorem tl_27 : twL 27 = some (.inr (3, 5)) := rfl
theorem tl_28 : twL 28 = some (.inr (3, 3)) := rfl
theorem tl_29 : twL 29 = some (.inr (3, 4)) := rfl
theorem tl_30 : twL 30 = some (.inr (3, 6)) := rfl
theorem tl_31 : twL 31 = some (.inr (3, 6)) := rfl
theorem tl_32 : twL 32 = some (.inr (3, 4)) := rfl
theorem tl_33 : twL 33 = some (.inr (3, 2)) := rfl
theorem tl_34 : twL 34 = some (.inr (3, 3)) := rfl
theorem tl_35 : twL 35 = some (.inr (3, 3)) := rfl
theorem tl_36 : twL 36 = some (.inr (3, 3)) := rfl
theorem tl_37 : twL 37 = some (.inr (3, 3)) := rfl
theorem tl_38 : twL 38 = some (.inr (3, 3)) := rfl
theorem tl_40 : twL 40 = some (.inr (0, 6)) := rfl
theorem tl_41 : twL 41 = some (.inr (4, 48)) := rfl
theorem tl_42 : twL 42 = some (.inr (0, 48)) := rfl
theorem tl_43 : twL 43 = some (.inr (0, 16)) := rfl
theorem tl_46 : twL 46 = some (.inr (0, 20)) := rfl
theorem tl_47 : twL 47 = some (.inr (0, 20)) := rfl
theorem tl_48 : twL 48 = some (.inr (0, 3200)) := rfl
theorem tl_52 : twL 52 = some (.inr (0, 192)) := rfl
theorem tl_53 : twL 53 = some (.inr (0, 41)) := rfl
theorem tl_57 : twL 57 = some (.inr (0, 40)) := rfl
theorem tl_60 : twL 60 = some (.inr (2, 8)) := rfl
theorem tl_61 : twL 61 = some (.inr (0, 4)) := rfl
theorem tl_62 : twL 62 = some (.inr (0, 6)) := rfl
theorem tl_63 : twL 63 = some (.inr (0, 6)) := rfl
theorem tl_64 : twL 64 = some (.inr (2, 310)) := rfl
theorem tl_65 : twL 65 = some (.inr (0, 3840)) := rfl
theorem tl_69 : twL 69 = some (.inr (3, 5)) := rfl
theorem tl_70 : twL 70 = some (.inr (3, 4)) := rfl
theorem tl_71 : twL 71 = some (.inr (3, 5)) := rfl
theorem tl_72 : twL 72 = some (.inr (3, 5)) := rfl
theorem tl_73 : twL 73 = some (.inr (3, 4)) := rfl
theorem tl_74 : twL 74 = some (.inr (3, 5)) := rfl
theorem tl_75 : twL 75 = some (.inr (3, 3)) := rfl
theorem tl_76 : twL 76 = some (.inr (3, 3)) := rfl
theorem tl_77 : twL 77 = some (.inr (3, 2)) := rfl
theorem tl_78 : twL 78 = some (.inr (3, 3)) := rfl
theorem tl_79 : twL 79 = some (.inr (3, 3)) := rfl
theorem tl_80 : twL 80 = some (.inr (3, 3)) := rfl
theorem tl_81 : twL 81 = some (.inr (3, 5)) := rfl
theorem tl_82 : twL 82 = some (.inr (3, 3)) := rfl
theorem tl_83 : twL 83 = some (.inr (3, 5)) := rfl
theorem tl_84 : twL 84 = some (.inr (3, 6)) := rfl
theorem tl_85 : twL 85 = some (.inr (3, 5)) := rfl
theorem tl_86 : twL 86 = some (.inr (3, 3)) := rfl
theorem tl_87 : twL 87 = some (.inr (3, 4)) := rfl
theorem tl_88 : twL 88 = some (.inr (3, 5)) := rfl
theorem tl_89 : twL 89 = some (.inr (3, 6)) := rfl
theorem tl_90 : twL 90 = some (.inr (3, 6)) := rfl
theorem tl_91 : twL 91 = some (.inr (3, 2)) := rfl
theorem tl_92 : twL 92 = some (.inr (0, 1700)) := rfl
theorem tl_94 : twL 94 = some (.inr (0, 1700)) := rfl
theorem tl_98 : twL 98 = some (.inr (4, 1700)) := rfl
theorem tl_102 : twL 102 = some (.inr (0, 43)) := rfl
/-- what stays all through a walk; what a walk holds at each step -/
def tC (p : Program) (m : MethodId) (c : Code) (cc : ByteArray) (nL : Nat) (s : State) (args : Array Value) (D : va_G) (dA : Nat → ClassId) (ad : Nat → Nat) : Prop := CallFix p m c cc nL s args lw_all RX6 ∧ va_K D vwCl (rgTy dA) s ∧ rgJ twL ad
def tI (D : va_G) (dA : Nat → ClassId) (ad : Nat → Nat) (sz : Nat) (H0 : Heap) (τ : Sto) (H : Heap) (locs : List Loc) : Prop := rgP D dA twL ad τ H ∧ H.size = sz ∧ va_S (rgAd twL ad) H0 H locs
section TW
variable {p : Program} {l : Launch} {e : Env} {R : Room} {s : State} {m : MethodId} {args : Array Value} {below : List Frame} {meth : Method} {c : Code} {H : Heap} {locs : List Loc} {cells slots : Nat} {Q : State → Prop}
variable {cc : ByteArray} {nL : Nat} {D : va_G} {dA : Nat → ClassId} {ad : Nat → Nat} {τ : Sto} {pc sz : Nat} {ls : Array Slot} {rest : List Value} {P : Prop} {H0 : Heap}
theorem tg_0 (hC : tC p m c cc nL s args D dA ad) (hI : tI D dA ad sz H0 τ H locs) (hdg : decode cc pc = .ok (.getfield 7, 3)) (kk : W p l e R s m args below meth c H locs cells slots Q (F0 m (pc + 3) ls (.ref (ad 1) :: rest))) : W p l e R s m args below meth c H locs cells slots Q (F0 m pc ls (.ref (ad 0) :: rest)) := rg_get hC.1 hC.2.1 hI.1 tl_0 rfl in_X6 0 (Nat.le_of_ble_eq_true rfl) q1700 rfl (congrArg (fun z => Value.ref (ad z)) (Nat.zero_add 1)) hdg kk
theorem tg_1 (hC : tC p m c cc nL s args D dA ad) (hI : tI D dA ad sz H0 τ H locs) (hdg : decode cc pc = .ok (.getfield 243, 3)) (kk : W p l e R s m args below meth c H locs cells slots Q (F0 m (pc + 3) ls (.int (τ.1 0 1) :: rest))) : W p l e R s m args below meth c H locs cells slots Q (F0 m pc ls (.ref (ad 0) :: rest)) := rg_get hC.1 hC.2.1 hI.1 tl_0 rfl in_X6 1 (Nat.le_of_ble_eq_true rfl) q1701 rfl rfl hdg kk
theorem tp_1 (hC : tC p m c cc nL s args D dA ad) (hI : tI D dA ad sz H0 τ H locs) {v : Int32} {P : Sto → Prop} (hT : ∀ y, y = sI τ 0 1 v → P y) (hdg : decode cc pc = .ok (.putfield 243, 3)) (kk : ∀ (τ1 : Sto) (H1 : Heap) (locs1 : List Loc), P τ1 → tI D dA ad sz H0 τ1 H1 locs1 → W p l e R s m args below meth c H1 locs1 cells slots Q (F0 m (pc + 3) ls rest)) : W p l e R s m args below meth c H locs cells slots Q (F0 m pc ls (.int v :: .ref (ad 0) :: rest)) := rg_put hC.1 hC.2.1 hI.1 hC.2.2 hI.2.2 (fun _ h => h) tl_0 rfl in_X6 tyX6 tyX6_ok nmX6 1 (Nat.le_of_ble_eq_true rfl) q1701 rfl rfl (τ' := sI τ 0 1 v) rfl rfl (by simp [rgV, twKs, sI]) rgV_I rgSo_I hdg (fun H1 l1 z hP hS => kk _ H1 l1 (hT _ rfl) ⟨hP, z.trans hI.2.1, hS⟩)
theorem tg_2 (hC : tC p m c cc nL s args D dA ad) (hI : tI D dA ad sz H0 τ H locs) (hdg : decode cc pc = .ok (.getfield 252, 3)) (kk : W p l e R s m args below meth c H locs cells slots Q (F0 m (pc + 3) ls (.int (τ.1 0 2) :: rest))) : W p l e R s m args below meth c H locs cells slots Q (F0 m pc ls (.ref (ad 0) :: rest)) := rg_get hC.1 hC.2.1 hI.1 tl_0 rfl in_X6 2 (Nat.le_of_ble_eq_true rfl) q1702 rfl rfl hdg kk
theorem tp_2 (hC : tC p m c cc nL s args D dA ad) (hI : tI D dA ad sz H0 τ H locs) {v : Int32} {P : Sto → Prop} (hT : ∀ y, y = sI τ 0 2 v → P y) (hdg : decode cc pc = .ok (.putfield 252, 3)) (kk : ∀ (τ1 : Sto) (H1 : Heap) (locs1 : List Loc), P τ1 → tI D dA ad sz H0 τ1 H1 locs1 → W p l e R s m args below meth c H1 locs1 cells slots Q (F0 m (pc + 3) ls rest)) : W p l e R s m args below meth c H locs cells slots Q (F0 m pc ls (.int v :: .ref (ad 0) :: rest)) := rg_put hC.1 hC.2.1 hI.1 hC.2.2 hI.2.2 (fun _ h => h) tl_0 rfl in_X6 tyX6 tyX6_ok nmX6 2 (Nat.le_of_ble_eq_true rfl) q1702 rfl rfl (τ' := sI τ 0 2 v) rfl rfl (by simp [rgV, twKs, sI]) rgV_I rgSo_I hdg (fun H1 l1 z hP hS => kk _ H1 l1 (hT _ rfl) ⟨hP, z.trans hI.2.1, hS⟩)
theorem tg_3 (hC : tC p m c cc nL s args D dA ad) (hI : tI D dA ad sz H0 τ H locs) (hdg : decode cc pc = .ok (.getfield 255, 3)) (kk : W p l e R s m args below meth c H locs cells slots Q (F0 m (pc + 3) ls (.int (τ.1 0 3) :: rest))) : W p l e R s m args below meth c H locs cells slots Q (F0 m pc ls (.ref (ad 0) :: rest)) := rg_get hC.1 hC.2.1 hI.1 tl_0 rfl in_X6 3 (Nat.le_of_ble_eq_true rfl) q1703 rfl rfl hdg kk
theorem tp_3 (hC : tC p m c cc nL s args D dA ad) (hI : tI D dA ad sz H0 τ H locs) {v : Int32} {P : Sto → Prop} (hT : ∀ y, y = sI τ 0 3 v → P y) (hdg : decode cc pc = .ok (.putfield 255, 3)) (kk : ∀ (τ1 : Sto) (H1 : Heap) (locs1 : List Loc), P τ1 → tI D dA ad sz H0 τ1 H1 locs1 → W p l e R s m args below meth c H1 locs1 cells slots Q (F0 m (pc + 3) ls rest)) : W p l e R s m args below meth c H locs cells slots Q (F0 m pc ls (.int v :: .ref (ad 0) :: rest)) := rg_put hC.1 hC.2.1 hI.1 hC.2.2 hI.2.2 (fun _ h => h) tl_0 rfl in_X6 tyX6 tyX6_ok nmX6 3 (Nat.le_of_ble_eq_true rfl) q1703 rfl rfl (τ' := sI τ 0 3 v) rfl rfl (by simp [rgV, twKs, sI]) rgV_I rgSo_I hdg (fun H1 l1 z hP hS => kk _ H1 l1 (hT _ rfl) ⟨hP, z.trans hI.2.1, hS⟩)
theorem tg_4 (hC : tC p m c cc nL s args D dA ad) (hI : tI D dA ad sz H0 τ H locs) (hdg : decode cc pc = .ok (.getfield 266, 3)) (kk : W p l e R s m args below meth c H locs cells slots Q (F0 m (pc + 3) ls (.int (τ.1 0 4) :: rest))) : W p l e R s m args below meth c H locs cells slots Q (F0 m pc ls (.ref (ad 0) :: rest)) := rg_get hC.1 hC.2.1 hI.1 tl_0 rfl in_X6 4 (Nat.le_of_ble_eq_true rfl) q1704 rfl rfl hdg kk
theorem tp_4 (hC : tC p m c cc nL s args D dA ad) (hI : tI D dA ad sz H0 τ H locs) {v : Int32} {P : Sto → Prop} (hT : ∀ y, y = sI τ 0 4 v → P y) (hdg : decode cc pc = .ok (.putfield 266, 3)) (kk : ∀ (τ1 : Sto) (H1 : Heap) (locs1 : List Loc), P τ1 → tI D dA ad sz H0 τ1 H1 locs1 → W p l e R s m args below meth c H1 locs1 cells slots Q (F0 m (pc + 3) ls rest)) : W p l e R s m args below meth c H locs cells slots Q (F0 m pc ls (.int v :: .ref (ad 0) :: rest)) := rg_put hC.1 hC.2.1 hI.1 hC.2.2 hI.2.2 (fun _ h => h) tl_0 rfl in_X6 tyX6 tyX6_ok nmX6 4 (Nat.le_of_ble_eq_true rfl) q1704 rfl rfl (τ' := sI τ 0 4 v) rfl rfl (by simp [rgV, twKs, sI]) rgV_I rgSo_I hdg (fun H1 l1 z hP hS => kk _ H1 l1 (hT _ rfl) ⟨hP, z.trans hI.2.1, hS⟩)
theorem tg_5 (hC : tC p m c cc nL s args D dA ad) (hI : tI D dA ad sz H0 τ H locs) (hdg : decode cc pc = .ok (.getfield 246, 3)) (kk : W p l e R s m args below meth c H locs cells slots Q (F0 m (pc + 3) ls (.int (τ.1 0 5) :: rest))) : W p l e R s m args below meth c H locs cells slots Q (F0 m pc ls (.ref (ad 0) :: rest)) := rg_get hC.1 hC.2.1 hI.1 tl_0 rfl in_X6 5 (Nat.le_of_ble_eq_true rfl) q1705 rfl rfl hdg kk
theorem tp_5 (hC : tC p m c cc nL s args D dA ad) (hI : tI D dA ad sz H0 τ H locs) {v : Int32} {P : Sto → Prop} (hT : ∀ y, y = sI τ 0 5 v → P y) (hdg : decode cc pc = .ok (.putfield 246, 3)) (kk : ∀ (τ1 : Sto) (H1 : Heap) (locs1 : List Loc), P τ1 → tI D dA ad sz H0 τ1 H1 locs1 → W p l e R s m args below meth c H1 locs1 cells slots Q (F0 m (pc + 3) ls rest)) : W p l e R s m args below meth c H locs cells slots Q (F0 m pc ls (.int v :: .ref (ad 0) :: rest)) := rg_put hC.1 hC.2.1 hI.1 hC.2.2 hI.2.2 (fun _ h => h) tl_0 rfl in_X6 tyX6 tyX6_ok nmX6 5 (Nat.le_of_ble_eq_true rfl) q1705 rfl rfl (τ' := sI τ 0 5 v) rfl rfl (by simp [rgV, twKs, sI]) rgV_I rgSo_I hdg (fun H1 l1 z hP hS => kk _ H1 l1 (hT _ rfl) ⟨hP, z.trans hI.2.1, hS⟩)
theorem tg_6 (hC : tC p m c cc nL s args D dA ad) (hI : tI D dA ad sz H0 τ H locs) (hdg : decode cc pc = .ok (.getfield 249, 3)) (kk : W p l e R s m args below meth c H locs cells slots Q (F0 m (pc + 3) ls (.int (τ.1 0 6) :: rest))) : W p l e R s m args below meth c H locs cells slots Q (F0 m pc ls (.ref (ad 0) :: rest)) := rg_get hC.1 hC.2.1 hI.1 tl_0 rfl in_X6 6 (Nat.le_of_ble_eq_true rfl) q1706 rfl rfl hdg kk
theorem tp_6 (hC : tC p m c cc nL s args D dA ad) (hI : tI D dA ad sz H0 τ H locs) {v : Int32} {P : Sto → Prop} (hT : ∀ y, y = sI τ 0 6 v → P y) (hdg : decode cc pc = .ok (.putfield 249, 3)) (kk : ∀ (τ1 : Sto) (H1 : Heap) (locs1 : List Loc), P τ1 → tI D dA ad sz H0 τ1 H1 locs1 → W p l e R s m args below meth c H1 locs1 cells slots Q (F0 m (pc + 3) ls rest)) : W p l e R s m args below meth c H locs cells slots Q (F0 m pc ls (.int v :: .ref (ad 0) :: rest)) := rg_put hC.1 hC.2.1 hI.1 hC.2.2 hI.2.2 (fun _ h => h) tl_0 rfl in_X6 tyX6 tyX6_ok nmX6 6 (Nat.le_of_ble_eq_true rfl) q1706 rfl rfl (τ' := sI τ 0 6 v) rfl rfl (by simp [rgV, twKs, sI]) rgV_I rgSo_I hdg (fun H1 l1 z hP hS => kk _ H1 l1 (hT _ rfl) ⟨hP, z.trans hI.2.1, hS⟩)
theorem tg_7 (hC : tC p m c cc nL s args D dA ad) (hI : tI D dA ad sz H0 τ H locs) (hdg : decode cc pc = .ok (.getfield 380, 3)) (kk : W p l e R s m args below meth c H locs cells slots Q (F0 m (pc + 3) ls (.int (τ.1 0 7) :: rest))) : W p l e R s m args below meth c H locs cells slots Q (F0 m pc ls (.ref (ad 0) :: rest)) := rg_get hC.1 hC.2.1 hI.1 tl_0 rfl in_X6 7 (Nat.le_of_ble_eq_true rfl) q1707 rfl rfl hdg kk
theorem tp_7 (hC : tC p m c cc nL s args D dA ad) (hI : tI D dA ad sz H0 τ H locs) {v : Int32} {P : Sto → Prop} (hT : ∀ y, y = sI τ 0 7 v → P y) (hdg : decode cc pc = .ok (.putfield 380, 3)) (kk : ∀ (τ1 : Sto) (H1 : Heap) (locs1 : List Loc), P τ1 → tI D dA ad sz H0 τ1 H1 locs1 → W p l e R s m args below meth c H1 locs1 cells slots Q (F0 m (pc + 3) ls rest)) : W p l e R s m args below meth c H locs cells slots Q (F0 m pc ls (.int v :: .ref (ad 0) :: rest)) := rg_put hC.1 hC.2.1 hI.1 hC.2.2 hI.2.2 (fun _ h => h) tl_0 rfl in_X6 tyX6 tyX6_ok nmX6 7 (Nat.le_of_ble_eq_true rfl) q1707 rfl rfl (τ' := sI τ 0 7 v) rfl rfl (by simp [rgV, twKs, sI]) rgV_I rgSo_I hdg (fun H1 l1 z hP hS => kk _ H1 l1 (hT _ rfl) ⟨hP, z.trans hI.2.1, hS⟩)
theorem tg_8 (hC : tC p m c cc nL s args D dA ad) (hI : tI D dA ad sz H0 τ H locs) (hdg : decode cc pc = .ok (.getfield 13, 3)) (kk : W p l e R s m args below meth c H locs cells slots Q (F0 m (pc + 3) ls (.int (τ.1 0 8) :: rest))) : W p l e R s m args below meth c H locs cells slots Q (F0 m pc ls (.ref (ad 0) :: rest)) := rg_get hC.1 hC.2.1 hI.1 tl_0 rfl in_X6 8 (Nat.le_of_ble_eq_true rfl) q1708 rfl rfl hdg kk
theorem tp_8 (hC : tC p m c cc nL s args D dA ad) (hI : tI D dA ad sz H0 τ H locs) {v : Int32} {P : Sto → Prop} (hT : ∀ y, y = sI τ 0 8 v → P y) (hdg : decode cc pc = .ok (.putfield 13, 3)) (kk : ∀ (τ1 : Sto) (H1 : Heap) (locs1 : List Loc), P τ1 → tI D dA ad sz H0 τ1 H1 locs1 → W p l e R s m args below meth c H1 locs1 cells slots Q (F0 m (pc + 3) ls rest)) : W p l e R s m args below meth c H locs cells slots Q (F0 m pc ls (.int v :: .ref (ad 0) :: rest)) := rg_put hC.1 hC.2.1 hI.1 hC.2.2 hI.2.2 (fun _ h => h) tl_0 rfl in_X6 tyX6 tyX6_ok nmX6 8 (Nat.le_of_ble_eq_true rfl) q1708 rfl rfl (τ' := sI τ 0 8 v) rfl rfl (by simp [rgV, twKs, sI]) rgV_I rgSo_I hdg (fun H1 l1 z hP hS => kk _ H1 l1 (hT _ rfl) ⟨hP, z.trans hI.2.1, hS⟩)
theorem tg_9 (hC : tC p m c cc nL s args D dA ad) (hI : tI D dA ad sz H0 τ H locs) (hdg : decode cc pc = .ok (.getfield 17, 3)) (kk : W p l e R s m args below meth c H locs cells slots Q (F0 m (pc + 3) ls (.ref (ad 10) :: rest))) : W p l e R s m args below meth c H locs cells slots Q (F0 m pc ls (.ref (ad 0) :: rest)) := rg_get hC.1 hC.2.1 hI.1 tl_0 rfl in_X6 9 (Nat.le_of_ble_eq_true rfl) q1709 rfl (congrArg (fun z => Value.ref (ad z)) (Nat.zero_add 10)) hdg kk
theorem tg_10 (hC : tC p m c cc nL s args D dA ad) (hI : tI D dA ad sz H0 τ H locs) (hdg : decode cc pc = .ok (.getfield 20, 3)) (kk : W p l e R s m args below meth c H locs cells slots Q (F0 m (pc + 3) ls (.ref (ad 11) :: rest))) : W p l e R s m args below meth c H locs cells slots Q (F0 m pc ls (.ref (ad 0) :: rest)) := rg_get hC.1 hC.2.1 hI.1 tl_0 rfl in_X6 10 (Nat.le_of_ble_eq_true rfl) q1710 rfl (congrArg (fun z => Value.ref (ad z)) (Nat.zero_add 11)) hdg kk
theorem tg_11 (hC : tC p m c cc nL s args D dA ad) (hI : tI D dA ad sz H0 τ H locs) (hdg : decode cc pc = .ok (.getfield 24, 3)) (kk : W p l e R s m args below meth c H locs cells slots Q (F0 m (pc + 3) ls (.ref (ad 12) :: rest))) : W p l e R s m args below meth c H locs cells slots Q (F0 m pc ls (.ref (ad 0) :: rest)) := rg_get hC.1 hC.2.1 hI.1 tl_0 rfl in_X6 11 (Nat.le_of_ble_eq_true rfl) q1711 rfl (congrArg (fun z => Value.ref (ad z)) (Nat.zero_add 12)) hdg kk
theorem tg_12 (hC : tC p m c cc nL s args D dA ad) (hI : tI D dA ad sz H0 τ H locs) (hdg : decode cc pc = .ok (.getfield 27, 3)) (kk : W p l e R s m args below meth c H locs cells slots Q (F0 m (pc + 3) ls (.ref (ad 13) :: rest))) : W p l e R s m args below meth c H locs cells slots Q (F0 m pc ls (.ref (ad 0) :: rest)) := rg_get hC.1 hC.2.1 hI.1 tl_0 rfl in_X6 12 (Nat.le_of_ble_eq_true rfl) q1712 rfl (congrArg (fun z => Value.ref (ad z)) (Nat.zero_add 13)) hdg kk
theorem tg_13 (hC : tC p m c cc nL s args D dA ad) (hI : tI D dA ad sz H0 τ H locs) (hdg : decode cc pc = .ok (.getfield 30, 3)) (kk : W p l e R s m args below meth c H locs cells slots Q (F0 m (pc + 3) ls (.ref (ad 14) :: rest))) : W p l e R s m args below meth c H locs cells slots Q (F0 m pc ls (.ref (ad 0) :: rest)) := rg_get hC.1 hC.2.1 hI.1 tl_0 rfl in_X6 13 (Nat.le_of_ble_eq_true rfl) q1713 rfl (congrArg (fun z => Value.ref (ad z)) (Nat.zero_add 14)) hdg kk
theorem tg_14 (hC : tC p m c cc nL s args D dA ad) (hI : tI D dA ad sz H0 τ H locs) (hdg : decode cc pc = .ok (.getfield 33, 3)) (kk : W p l e R s m args below meth c H locs cells slots Q (F0 m (pc + 3) ls (.ref (ad 15) :: rest))) : W p l e R s m args below meth c H locs cells slots Q (F0 m pc ls (.ref (ad 0) :: rest)) := rg_get hC.1 hC.2.1 hI.1 tl_0 rfl in_X6 14 (Nat.le_of_ble_eq_true rfl) q1714 rfl (congrArg (fun z => Value.ref (ad z)) (Nat.zero_add 15)) hdg kk
theorem tg_15 (hC : tC p m c cc nL s args D dA ad) (hI : tI D dA ad sz H0 τ H locs) (hdg : decode cc pc = .ok (.getfield 36, 3)) (kk : W p l e R s m args below meth c H locs cells slots Q (F0 m (pc + 3) ls (.ref (ad 16) :: rest))) : W p l e R s m args below meth c H locs cells slots Q (F0 m pc ls (.ref (ad 0) :: rest)) := rg_get hC.1 hC.2.1 hI.1 tl_0 rfl in_X6 15 (Nat.le_of_ble_eq_true rfl) q1715 rfl (congrArg (fun z => Value.ref (ad z)) (Nat.zero_add 16)) hdg kk
theorem tg_16 (hC : tC p m c cc nL s args D dA ad) (hI : tI D dA ad sz H0 τ H locs) (hdg : decode cc pc = .ok (.getfield 39, 3)) (kk : W p l e R s m args below meth c H locs cells slots Q (F0 m (pc + 3) ls (.ref (ad 17) :: rest))) : W p l e R s m args below meth c H locs cells slots Q (F0 m pc ls (.ref (ad 0) :: rest)) := rg_get hC.1 hC.2.1 hI.1 tl_0 rfl in_X6 16 (Nat.le_of_ble_eq_true rfl) q1716 rfl (congrArg (fun z => Value.ref (ad z)) (Nat.zero_add 17)) hdg kk
theorem tg_17 (hC : tC p m c cc nL s args D dA ad) (hI : tI D dA ad sz H0 τ H locs) (hdg : decode cc pc = .ok (.getfield 42, 3)) (kk : W p l e R s m args below meth c H locs cells slots Q (F0 m (pc + 3) ls (.ref (ad 18) :: rest))) : W p l e R s m args below meth c H locs cells slots Q (F0 m pc ls (.ref (ad 0) :: rest)) := rg_get hC.1 hC.2.1 hI.1 tl_0 rfl in_X6 17 (Nat.le_of_ble_eq_true rfl) q1717 rfl (congrArg (fun z => Value.ref (ad z)) (Nat.zero_add 18)) hdg kk
theorem tg_18 (hC : tC p m c cc nL s args D dA ad) (hI : tI D dA ad sz H0 τ H locs) (hdg : decode cc pc = .ok (.getfield 45, 3)) (kk : W p l e R s m args below meth c H locs cells slots Q (F0 m (pc + 3) ls (.ref (ad 19) :: rest))) : W p l e R s m args below meth c H locs cells slots Q (F0 m pc ls (.ref (ad 0) :: rest)) := rg_get hC.1 hC.2.1 hI.1 tl_0 rfl in_X6 18 (Nat.le_of_ble_eq_true rfl) q1718 rfl (congrArg (fun z => Value.ref (ad z)) (Nat.zero_add 19)) hdg kk
theorem tg_19 (hC : tC p m c cc nL s args D dA ad) (hI : tI D dA ad sz H0 τ H locs) (hdg : decode cc pc = .ok (.getfield 48, 3)) (kk : W p l e R s m args below meth c H locs cells slots Q (F0 m (pc + 3) ls (.ref (ad 20) :: rest))) : W p l e R s m args below meth c H locs cells slots Q (F0 m pc ls (.ref (ad 0) :: rest)) := rg_get hC.1 hC.2.1 hI.1 tl_0 rfl in_X6 19 (Nat.le_of_ble_eq_true rfl) q1719 rfl (congrArg (fun z => Value.ref (ad z)) (Nat.zero_add 20)) hdg kk
theorem tg_20 (hC : tC p m c cc nL s args D dA ad) (hI : tI D dA ad sz H0 τ H locs) (hdg : decode cc pc = .ok (.getfield 51, 3)) (kk : W p l e R s m args below meth c H locs cells slots Q (F0 m (pc + 3) ls (.ref (ad 21) :: rest))) : W p l e R s m args below meth c H locs cells slots Q (F0 m pc ls (.ref (ad 0) :: rest)) := rg_get hC.1 hC.2.1 hI.1 tl_0 rfl in_X6 20 (Nat.le_of_ble_eq_true rfl) q1720 rfl (congrArg (fun z => Value.ref (ad z)) (Nat.zero_add 21)) hdg kk
theorem tg_21 (hC : tC p m c cc nL s args D dA ad) (hI : tI D dA ad sz H0 τ H locs) (hdg : decode cc pc = .ok (.getfield 54, 3)) (kk : W p l e R s m args below meth c H locs cells slots Q (F0 m (pc + 3) ls (.ref (ad 22) :: rest))) : W p l e R s m args below meth c H locs cells slots Q (F0 m pc ls (.ref (ad 0) :: rest)) := rg_get hC.1 hC.2.1 hI.1 tl_0 rfl in_X6 21 (Nat.le_of_ble_eq_true rfl) q1721 rfl (congrArg (fun z => Value.ref (ad z)) (Nat.zero_add 22)) hdg kk
theorem tg_22 (hC : tC p m c cc nL s args D dA ad) (hI : tI D dA ad sz H0 τ H locs) (hdg : decode cc pc = .ok (.getfield 57, 3)) (kk : W p l e R s m args below meth c H locs cells slots Q (F0 m (pc + 3) ls (.ref (ad 23) :: rest))) : W p l e R s m args below meth c H locs cells slots Q (F0 m pc ls (.ref (ad 0) :: rest)) := rg_get hC.1 hC.2.1 hI.1 tl_0 rfl in_X6 22 (Nat.le_of_ble_eq_true rfl) q1722 rfl (congrArg (fun z => Value.ref (ad z)) (Nat.zero_add 23)) hdg kk
theorem tg_23 (hC : tC p m c cc nL s args D dA ad) (hI : tI D dA ad sz H0 τ H locs) (hdg : decode cc pc = .ok (.getfield 60, 3)) (kk : W p l e R s m args below meth c H locs cells slots Q (F0 m (pc + 3) ls (.ref (ad 24) :: rest))) : W p l e R s m args below meth c H locs cells slots Q (F0 m pc ls (.ref (ad 0) :: rest)) := rg_get hC.1 hC.2.1 hI.1 tl_0 rfl in_X6 23 (Nat.le_of_ble_eq_true rfl) q1723 rfl (congrArg (fun z => Value.ref (ad z)) (Nat.zero_add 24)) hdg kk
theorem tg_24 (hC : tC p m c cc nL s args D dA ad) (hI : tI D dA ad sz H0 τ H locs) (hdg : decode cc pc = .ok (.getfield 63, 3)) (kk : W p l e R s m args below meth c H locs cells slots Q (F0 m (pc + 3) ls (.ref (ad 25) :: rest))) : W p l e R s m args below meth c H locs cells slots Q (F0 m pc ls (.ref (ad 0) :: rest)) := rg_get hC.1 hC.2.1 hI.1 tl_0 rfl in_X6 24 (Nat.le_of_ble_eq_true rfl) q1724 rfl (congrArg (fun z => Value.ref (ad z)) (Nat.zero_add 25)) hdg kk
theorem tg_25 (hC : tC p m c cc nL s args D dA ad) (hI : tI D dA ad sz H0 τ H locs) (hdg : decode cc pc = .ok (.getfield 66, 3)) (kk : W p l e R s m args below meth c H locs cells slots Q (F0 m (pc + 3) ls (.ref (ad 26) :: rest))) : W p l e R s m args below meth c H locs cells slots Q (F0 m pc ls (.ref (ad 0) :: rest)) := rg_get hC.1 hC.2.1 hI.1 tl_0 rfl in_X6 25 (Nat.le_of_ble_eq_true rfl) q1725 rfl (congrArg (fun z => Value.ref (ad z)) (Nat.zero_add 26)) hdg kk
theorem tg_26 (hC : tC p m c cc nL s args D dA ad) (hI : tI D dA ad sz H0 τ H locs) (hdg : decode cc pc = .ok (.getfield 69, 3)) (kk : W p l e R s m args below meth c H locs cells slots Q (F0 m (pc + 3) ls (.ref (ad 27) :: rest))) : W p l e R s m args below meth c H locs cells slots Q (F0 m pc ls (.ref (ad 0) :: rest)) := rg_get hC.1 hC.2.1 hI.1 tl_0 rfl in_X6 26 (Nat.le_of_ble_eq_true rfl) q1726 rfl (congrArg (fun z => Value.ref (ad z)) (Nat.zero_add 27)) hdg kk
theorem tg_27 (hC : tC p m c cc nL s args D dA ad) (hI : tI D dA ad sz H0 τ H locs) (hdg : decode cc pc = .ok (.getfield 72, 3)) (kk : W p l e R s m args below meth c H locs cells slots Q (F0 m (pc + 3) ls (.ref (ad 28) :: rest))) : W p l e R s m args below meth c H locs cells slots Q (F0 m pc ls (.ref (ad 0) :: rest)) := rg_get hC.1 hC.2.1 hI.1 tl_0 rfl in_X6 27 (Nat.le_of_ble_eq_true rfl) q1727 rfl (congrArg (fun z => Value.ref (ad z)) (Nat.zero_add 28)) hdg kk
theorem tg_28 (hC : tC p m c cc nL s args D dA ad) (hI : tI D dA ad sz H0 τ H locs) (hdg : decode cc pc = .ok (.getfield 75, 3)) (kk : W p l e R s m args below meth c H locs cells slots Q (F0 m (pc + 3) ls (.ref (ad 29) :: rest))) : W p l e R s m args below meth c H locs cells slots Q (F0 m pc ls (.ref (ad 0) :: rest)) := rg_get hC.1 hC.2.1 hI.1 tl_0 rfl in_X6 28 (Nat.le_of_ble_eq_true rfl) q1728 rfl (congrArg (fun z => Value.ref (ad z)) (Nat.zero_add 29)) hdg kk
theorem tg_29 (hC : tC p m c cc nL s args D dA ad) (hI : tI D dA ad sz H0 τ H locs) (hdg : decode cc pc = .ok (.getfield 78, 3)) (kk : W p l e R s m args below meth c H locs cells slots Q (F0 m (pc + 3) ls (.ref (ad 30) :: rest))) : W p l e R s m args below meth c H locs cells slots Q (F0 m pc ls (.ref (ad 0) :: rest)) := rg_get hC.1 hC.2.1 hI.1 tl_0 rfl in_X6 29 (Nat.le_of_ble_eq_true rfl) q1729 rfl (congrArg (fun z => Value.ref (ad z)) (Nat.zero_add 30)) hdg kk
theorem tg_30 (hC : tC p m c cc nL s args D dA ad) (hI : tI D dA ad sz H0 τ H locs) (hdg : decode cc pc = .ok (.getfield 81, 3)) (kk : W p l e R s m args below meth c H locs cells slots Q (F0 m (pc + 3) ls (.ref (ad 31) :: rest))) : W p l e R s m args below meth c H locs cells slots Q (F0 m pc ls (.ref (ad 0) :: rest)) := rg_get hC.1 hC.2.1 hI.1 tl_0 rfl in_X6 30 (Nat.le_of_ble_eq_true rfl) q1730 rfl (congrArg (fun z => Value.ref (ad z)) (Nat.zero_add 31)) hdg kk
theorem tg_31 (hC : tC p m c cc nL s args D dA ad) (hI : tI D dA ad sz H0 τ H locs) (hdg : decode cc pc = .ok (.getfield 84, 3)) (kk : W p l e R s m args below meth c H locs cells slots Q (F0 m (pc + 3) ls (.ref (ad 32) :: rest))) : W p l e R s m args below meth c H locs cells slots Q (F0 m pc ls (.ref (ad 0) :: rest)) := rg_get hC.1 hC.2.1 hI.1 tl_0 rfl in_X6 31 (Nat.le_of_ble_eq_true rfl) q1731 rfl (congrArg (fun z => Value.ref (ad z)) (Nat.zero_add 32)) hdg kk
theorem tg_32 (hC : tC p m c cc nL s args D dA ad) (hI : tI D dA ad sz H0 τ H locs) (hdg : decode cc pc = .ok (.getfield 87, 3)) (kk : W p l e R s m args below meth c H locs cells slots Q (F0 m (pc + 3) ls (.ref (ad 33) :: rest))) : W p l e R s m args below meth c H locs cells slots Q (F0 m pc ls (.ref (ad 0) :: rest)) := rg_get hC.1 hC.2.1 hI.1 tl_0 rfl in_X6 32 (Nat.le_of_ble_eq_true rfl) q1732 rfl (congrArg (fun z => Value.ref (ad z)) (Nat.zero_add 33)) hdg kk
theorem tg_33 (hC : tC p m c cc nL s args D dA ad) (hI : tI D dA ad sz H0 τ H locs) (hdg : decode cc pc = .ok (.getfield 90, 3)) (kk : W p l e R s m args below meth c H locs cells slots Q (F0 m (pc + 3) ls (.ref (ad 34) :: rest))) : W p l e R s m args below meth c H locs cells slots Q (F0 m pc ls (.ref (ad 0) :: rest)) := rg_get hC.1 hC.2.1 hI.1 tl_0 rfl in_X6 33 (Nat.le_of_ble_eq_true rfl) q1733 rfl (congrArg (fun z => Value.ref (ad z)) (Nat.zero_add 34)) hdg kk
theorem tg_34 (hC : tC p m c cc nL s args D dA ad) (hI : tI D dA ad sz H0 τ H locs) (hdg : decode cc pc = .ok (.getfield 93, 3)) (kk : W p l e R s m args below meth c H locs cells slots Q (F0 m (pc + 3) ls (.ref (ad 35) :: rest))) : W p l e R s m args below meth c H locs cells slots Q (F0 m pc ls (.ref (ad 0) :: rest)) := rg_get hC.1 hC.2.1 hI.1 tl_0 rfl in_X6 34 (Nat.le_of_ble_eq_true rfl) q1734 rfl (congrArg (fun z => Value.ref (ad z)) (Nat.zero_add 35)) hdg kk
theorem tg_35 (hC : tC p m c cc nL s args D dA ad) (hI : tI D dA ad sz H0 τ H locs) (hdg : decode cc pc = .ok (.getfield 96, 3)) (kk : W p l e R s m args below meth c H locs cells slots Q (F0 m (pc + 3) ls (.ref (ad 36) :: rest))) : W p l e R s m args below meth c H locs cells slots Q (F0 m pc ls (.ref (ad 0) :: rest)) := rg_get hC.1 hC.2.1 hI.1 tl_0 rfl in_X6 35 (Nat.le_of_ble_eq_true rfl) q1735 rfl (congrArg (fun z => Value.ref (ad z)) (Nat.zero_add 36)) hdg kk
theorem tg_36 (hC : tC p m c cc nL s args D dA ad) (hI : tI D dA ad sz H0 τ H locs) (hdg : decode cc pc = .ok (.getfield 99, 3)) (kk : W p l e R s m args below meth c H locs cells slots Q (F0 m (pc + 3) ls (.ref (ad 37) :: rest))) : W p l e R s m args below meth c H locs cells slots Q (F0 m pc ls (.ref (ad 0) :: rest)) := rg_get hC.1 hC.2.1 hI.1 tl_0 rfl in_X6 36 (Nat.le_of_ble_eq_true rfl) q1736 rfl (congrArg (fun z => Value.ref (ad z)) (Nat.zero_add 37)) hdg kk
theorem tg_37 (hC : tC p m c cc nL s args D dA ad) (hI : tI D dA ad sz H0 τ H locs) (hdg : decode cc pc = .ok (.getfield 102, 3)) (kk : W p l e R s m args below meth c H locs cells slots Q (F0 m (pc + 3) ls (.ref (ad 38) :: rest))) : W p l e R s m args below meth c H locs cells slots Q (F0 m pc ls (.ref (ad 0) :: rest)) := rg_get hC.1 hC.2.1 hI.1 tl_0 rfl in_X6 37 (Nat.le_of_ble_eq_true rfl) q1737 rfl (congrArg (fun z => Value.ref (ad z)) (Nat.zero_add 38)) hdg kk
theorem tg_38 (hC : tC p m c cc nL s args D dA ad) (hI : tI D dA ad sz H0 τ H locs) (hdg : decode cc pc = .ok (.getfield 294, 3)) (kk : W p l e R s m args below meth c H locs cells slots Q (F0 m (pc + 3) ls (.int (τ.1 0 38) :: rest))) : W p l e R s m args below meth c H locs cells slots Q (F0 m pc ls (.ref (ad 0) :: rest)) := rg_get hC.1 hC.2.1 hI.1 tl_0 rfl in_X6 38 (Nat.le_of_ble_eq_true rfl) q1738 rfl rfl hdg kk
theorem tp_38 (hC : tC p m c cc nL s args D dA ad) (hI : tI D dA ad sz H0 τ H locs) {v : Int32} {P : Sto → Prop} (hT : ∀ y, y = sI τ 0 38 v → P y) (hdg : decode cc pc = .ok (.putfield 294, 3)) (kk : ∀ (τ1 : Sto) (H1 : Heap) (locs1 : List Loc), P τ1 → tI D dA ad sz H0 τ1 H1 locs1 → W p l e R s m args below meth c H1 locs1 cells slots Q (F0 m (pc + 3) ls rest)) : W p l e R s m args below meth c H locs cells slots Q (F0 m pc ls (.int v :: .ref (ad 0) :: rest)) := rg_put hC.1 hC.2.1 hI.1 hC.2.2 hI.2.2 (fun _ h => h) tl_0 rfl in_X6 tyX6 tyX6_ok nmX6 38 (Nat.le_of_ble_eq_true rfl) q1738 rfl rfl (τ' := sI τ 0 38 v) rfl rfl (by simp [rgV, twKs, sI]) rgV_I rgSo_I hdg (fun H1 l1 z hP hS => kk _ H1 l1 (hT _ rfl) ⟨hP, z.trans hI.2.1, hS⟩)
theorem tg_39 (hC : tC p m c cc nL s args D dA ad) (hI : tI D dA ad sz H0 τ H locs) (hdg : decode cc pc = .ok (.getfield 105, 3)) (kk : W p l e R s m args below meth c H locs cells slots Q (F0 m (pc + 3) ls (.ref (ad 40) :: rest))) : W p l e R s m args below meth c H locs cells slots Q (F0 m pc ls (.ref (ad 0) :: rest)) := rg_get hC.1 hC.2.1 hI.1 tl_0 rfl in_X6 39 (Nat.le_of_ble_eq_true rfl) q1739 rfl (congrArg (fun z => Value.ref (ad z)) (Nat.zero_add 40)) hdg kk
theorem tg_40 (hC : tC p m c cc nL s args D dA ad) (hI : tI D dA ad sz H0 τ H locs) (hdg : decode cc pc = .ok (.getfield 108, 3)) (kk : W p l e R s m args below meth c H locs cells slots Q (F0 m (pc + 3) ls (.ref (ad 41) :: rest))) : W p l e R s m args below meth c H locs cells slots Q (F0 m pc ls (.ref (ad 0) :: rest)) := rg_get hC.1 hC.2.1 hI.1 tl_0 rfl in_X6 40 (Nat.le_of_ble_eq_true rfl) q1740 rfl (congrArg (fun z => Value.ref (ad z)) (Nat.zero_add 41)) hdg kk
theorem tg_41 (hC : tC p m c cc nL s args D dA ad) (hI : tI D dA ad sz H0 τ H locs) (hdg : decode cc pc = .ok (.getfield 112, 3)) (kk : W p l e R s m args below meth c H locs cells slots Q (F0 m (pc + 3) ls (.ref (ad 42) :: rest))) : W p l e R s m args below meth c H locs cells slots Q (F0 m pc ls (.ref (ad 0) :: rest)) := rg_get hC.1 hC.2.1 hI.1 tl_0 rfl in_X6 41 (Nat.le_of_ble_eq_true rfl) q1741 rfl (congrArg (fun z => Value.ref (ad z)) (Nat.zero_add 42)) hdg kk
theorem tg_42 (hC : tC p m c cc nL s args D dA ad) (hI : tI D dA ad sz H0 τ H locs) (hdg : decode cc pc = .ok (.getfield 115, 3)) (kk : W p l e R s m args below meth c H locs cells slots Q (F0 m (pc + 3) ls (.ref (ad 43) :: rest))) : W p l e R s m args below meth c H locs cells slots Q (F0 m pc ls (.ref (ad 0) :: rest)) := rg_get hC.1 hC.2.1 hI.1 tl_0 rfl in_X6 42 (Nat.le_of_ble_eq_true rfl) q1742 rfl (congrArg (fun z => Value.ref (ad z)) (Nat.zero_add 43)) hdg kk
theorem tg_43 (hC : tC p m c cc nL s args D dA ad) (hI : tI D dA ad sz H0 τ H locs) (hdg : decode cc pc = .ok (.getfield 371, 3)) (kk : W p l e R s m args below meth c H locs cells slots Q (F0 m (pc + 3) ls (.int (τ.1 0 43) :: rest))) : W p l e R s m args below meth c H locs cells slots Q (F0 m pc ls (.ref (ad 0) :: rest)) := rg_get hC.1 hC.2.1 hI.1 tl_0 rfl in_X6 43 (Nat.le_of_ble_eq_true rfl) q1743 rfl rfl hdg kk
theorem tp_43 (hC : tC p m c cc nL s args D dA ad) (hI : tI D dA ad sz H0 τ H locs) {v : Int32} {P : Sto → Prop} (hT : ∀ y, y = sI τ 0 43 v → P y) (hdg : decode cc pc = .ok (.putfield 371, 3)) (kk : ∀ (τ1 : Sto) (H1 : Heap) (locs1 : List Loc), P τ1 → tI D dA ad sz H0 τ1 H1 locs1 → W p l e R s m args below meth c H1 locs1 cells slots Q (F0 m (pc + 3) ls rest)) : W p l e R s m args below meth c H locs cells slots Q (F0 m pc ls (.int v :: .ref (ad 0) :: rest)) := rg_put hC.1 hC.2.1 hI.1 hC.2.2 hI.2.2 (fun _ h => h) tl_0 rfl in_X6 tyX6 tyX6_ok nmX6 43 (Nat.le_of_ble_eq_true rfl) q1743 rfl rfl (τ' := sI τ 0 43 v) rfl rfl (by simp [rgV, twKs, sI]) rgV_I rgSo_I hdg (fun H1 l1 z hP hS => kk _ H1 l1 (hT _ rfl) ⟨hP, z.trans hI.2.1, hS⟩)
theorem tg_44 (hC : tC p m c cc nL s args D dA ad) (hI : tI D dA ad sz H0 τ H locs) (hdg : decode cc pc = .ok (.getfield 386, 3)) (kk : W p l e R s m args below meth c H locs cells slots Q (F0 m (pc + 3) ls (.int (τ.1 0 44) :: rest))) : W p l e R s m args below meth c H locs cells slots Q (F0 m pc ls (.ref (ad 0) :: rest)) := rg_get hC.1 hC.2.1 hI.1 tl_0 rfl in_X6 44 (Nat.le_of_ble_eq_true rfl) q1744 rfl rfl hdg kk
theorem tp_44 (hC : tC p m c cc nL s args D dA ad) (hI : tI D dA ad sz H0 τ H locs) {v : Int32} {P : Sto → Prop} (hT : ∀ y, y = sI τ 0 44 v → P y) (hdg : decode cc pc = .ok (.putfield 386, 3)) (kk : ∀ (τ1 : Sto) (H1 : Heap) (locs1 : List Loc), P τ1 → tI D dA ad sz H0 τ1 H1 locs1 → W p l e R s m args below meth c H1 locs1 cells slots Q (F0 m (pc + 3) ls rest)) : W p l e R s m args below meth c H locs cells slots Q (F0 m pc ls (.int v :: .ref (ad 0) :: rest)) := rg_put hC.1 hC.2.1 hI.1 hC.2.2 hI.2.2 (fun _ h => h) tl_0 rfl in_X6 tyX6 tyX6_ok nmX6 44 (Nat.le_of_ble_eq_true rfl) q1744 rfl rfl (τ' := sI τ 0 44 v) rfl rfl (by simp [rgV, twKs, sI]) rgV_I rgSo_I hdg (fun H1 l1 z hP hS => kk _ H1 l1 (hT _ rfl) ⟨hP, z.trans hI.2.1, hS⟩)
theorem tg_45 (hC : tC p m c cc nL s args D dA ad) (hI : tI D dA ad sz H0 τ H locs) (hdg : decode cc pc = .ok (.getfield 118, 3)) (kk : W p l e R s m args below meth c H locs cells slots Q (F0 m (pc + 3) ls (.ref (ad 46) :: rest))) : W p l e R s m args below meth c H locs cells slots Q (F0 m pc ls (.ref (ad 0) :: rest)) := rg_get hC.1 hC.2.1 hI.1 tl_0 rfl in_X6 45 (Nat.le_of_ble_eq_true rfl) q1745 rfl (congrArg (fun z => Value.ref (ad z)) (Nat.zero_add 46)) hdg kk
theorem tg_46 (hC : tC p m c cc nL s args D dA ad) (hI : tI D dA ad sz H0 τ H locs) (hdg : decode cc pc = .ok (.getfield 121, 3)) (kk : W p l e R s m args below meth c H locs cells slots Q (F0 m (pc + 3) ls (.ref (ad 47) :: rest))) : W p l e R s m args below meth c H locs cells slots Q (F0 m pc ls (.ref (ad 0) :: rest)) := rg_get hC.1 hC.2.1 hI.1 tl_0 rfl in_X6 46 (Nat.le_of_ble_eq_true rfl) q1746 rfl (congrArg (fun z => Value.ref (ad z)) (Nat.zero_add 47)) hdg kk
theorem tg_47 (hC : tC p m c cc nL s args D dA ad) (hI : tI D dA ad sz H0 τ H locs) (hdg : decode cc pc = .ok (.getfield 124, 3)) (kk : W p l e R s m args below meth c H locs cells slots Q (F0 m (pc + 3) ls (.ref (ad 48) :: rest))) : W p l e R s m args below meth c H locs cells slots Q (F0 m pc ls (.ref (ad 0) :: rest)) := rg_get hC.1 hC.2.1 hI.1 tl_0 rfl in_X6 47 (Nat.le_of_ble_eq_true rfl) q1747 rfl (congrArg (fun z => Value.ref (ad z)) (Nat.zero_add 48)) hdg kk
theorem tg_48 (hC : tC p m c cc nL s args D dA ad) (hI : tI D dA ad sz H0 τ H locs) (hdg : decode cc pc = .ok (.getfield 349, 3)) (kk : W p l e R s m args below meth c H locs cells slots Q (F0 m (pc + 3) ls (.int (τ.1 0 48) :: rest))) : W p l e R s m args below meth c H locs cells slots Q (F0 m pc ls (.ref (ad 0) :: rest)) := rg_get hC.1 hC.2.1 hI.1 tl_0 rfl in_X6 48 (Nat.le_of_ble_eq_true rfl) q1748 rfl rfl hdg kk
theorem tp_48 (hC : tC p m c cc nL s args D dA ad) (hI : tI D dA ad sz H0 τ H locs) {v : Int32} {P : Sto → Prop} (hT : ∀ y, y = sI τ 0 48 v → P y) (hdg : decode cc pc = .ok (.putfield 349, 3)) (kk : ∀ (τ1 : Sto) (H1 : Heap) (locs1 : List Loc), P τ1 → tI D dA ad sz H0 τ1 H1 locs1 → W p l e R s m args below meth c H1 locs1 cells slots Q (F0 m (pc + 3) ls rest)) : W p l e R s m args below meth c H locs cells slots Q (F0 m pc ls (.int v :: .ref (ad 0) :: rest)) := rg_put hC.1 hC.2.1 hI.1 hC.2.2 hI.2.2 (fun _ h => h) tl_0 rfl in_X6 tyX6 tyX6_ok nmX6 48 (Nat.le_of_ble_eq_true rfl) q1748 rfl rfl (τ' := sI τ 0 48 v) rfl rfl (by simp [rgV, twKs, sI]) rgV_I rgSo_I hdg (fun H1 l1 z hP hS => kk _ H1 l1 (hT _ rfl) ⟨hP, z.trans hI.2.1, hS⟩)
theorem tg_49 (hC : tC p m c cc nL s args D dA ad) (hI : tI D dA ad sz H0 τ H locs) (hdg : decode cc pc = .ok (.getfield 356, 3)) (kk : W p l e R s m args below meth c H locs cells slots Q (F0 m (pc + 3) ls (.int (τ.1 0 49) :: rest))) : W p l e R s m args below meth c H locs cells slots Q (F0 m pc ls (.ref (ad 0) :: rest)) := rg_get hC.1 hC.2.1 hI.1 tl_0 rfl in_X6 49 (Nat.le_of_ble_eq_true rfl) q1749 rfl rfl hdg kk
theorem tp_49 (hC : tC p m c cc nL s args D dA ad) (hI : tI D dA ad sz H0 τ H locs) {v : Int32} {P : Sto → Prop} (hT : ∀ y, y = sI τ 0 49 v → P y) (hdg : decode cc pc = .ok (.putfield 356, 3)) (kk : ∀ (τ1 : Sto) (H1 : Heap) (locs1 : List Loc), P τ1 → tI D dA ad sz H0 τ1 H1 locs1 → W p l e R s m args below meth c H1 locs1 cells slots Q (F0 m (pc + 3) ls rest)) : W p l e R s m args below meth c H locs cells slots Q (F0 m pc ls (.int v :: .ref (ad 0) :: rest)) := rg_put hC.1 hC.2.1 hI.1 hC.2.2 hI.2.2 (fun _ h => h) tl_0 rfl in_X6 tyX6 tyX6_ok nmX6 49 (Nat.le_of_ble_eq_true rfl) q1749 rfl rfl (τ' := sI τ 0 49 v) rfl rfl (by simp [rgV, twKs, sI]) rgV_I rgSo_I hdg (fun H1 l1 z hP hS => kk _ H1 l1 (hT _ rfl) ⟨hP, z.trans hI.2.1, hS⟩)
theorem tg_50 (hC : tC p m c cc nL s args D dA ad) (hI : tI D dA ad sz H0 τ H locs) (hdg : decode cc pc = .ok (.getfield 301, 3)) (kk : W p l e R s m args below meth c H locs cells slots Q (F0 m (pc + 3) ls (.int (τ.1 0 50) :: rest))) : W p l e R s m args below meth c H locs cells slots Q (F0 m pc ls (.ref (ad 0) :: rest)) := rg_get hC.1 hC.2.1 hI.1 tl_0 rfl in_X6 50 (Nat.le_of_ble_eq_true rfl) q1750 rfl rfl hdg kk
theorem tp_50 (hC : tC p m c cc nL s args D dA ad) (hI : tI D dA ad sz H0 τ H locs) {v : Int32} {P : Sto → Prop} (hT : ∀ y, y = sI τ 0 50 v → P y) (hdg : decode cc pc = .ok (.putfield 301, 3)) (kk : ∀ (τ1 : Sto) (H1 : Heap) (locs1 : List Loc), P τ1 → tI D dA ad sz H0 τ1 H1 locs1 → W p l e R s m args below meth c H1 locs1 cells slots Q (F0 m (pc + 3) ls rest)) : W p l e R s m args below meth c H locs cells slots Q (F0 m pc ls (.int v :: .ref (ad 0) :: rest)) := rg_put hC.1 hC.2.1 hI.1 hC.2.2 hI.2.2 (fun _ h => h) tl_0 rfl in_X6 tyX6 tyX6_ok nmX6 50 (Nat.le_of_ble_eq_true rfl) q1750 rfl rfl (τ' := sI τ 0 50 v) rfl rfl (by simp [rgV, twKs, sI]) rgV_I rgSo_I hdg (fun H1 l1 z hP hS => kk _ H1 l1 (hT _ rfl) ⟨hP, z.trans hI.2.1, hS⟩)
theorem tg_51 (hC : tC p m c cc nL s args D dA ad) (hI : tI D dA ad sz H0 τ H locs) (hdg : decode cc pc = .ok (.getfield 127, 3)) (kk : W p l e R s m args below meth c H locs cells slots Q (F0 m (pc + 3) ls (.ref (ad 52) :: rest))) : W p l e R s m args below meth c H locs cells slots Q (F0 m pc ls (.ref (ad 0) :: rest)) := rg_get hC.1 hC.2.1 hI.1 tl_0 rfl in_X6 51 (Nat.le_of_ble_eq_true rfl) q1751 rfl (congrArg (fun z => Value.ref (ad z)) (Nat.zero_add 52)) hdg kk
theorem tg_52 (hC : tC p m c cc nL s args D dA ad) (hI : tI D dA ad sz H0 τ H locs) (hdg : decode cc pc = .ok (.getfield 130, 3)) (kk : W p l e R s m args below meth c H locs cells slots Q (F0 m (pc + 3) ls (.ref (ad 53) :: rest))) : W p l e R s m args below meth c H locs cells slots Q (F0 m pc ls (.ref (ad 0) :: rest)) := rg_get hC.1 hC.2.1 hI.1 tl_0 rfl in_X6 52 (Nat.le_of_ble_eq_true rfl) q1752 rfl (congrArg (fun z => Value.ref (ad z)) (Nat.zero_add 53)) hdg kk
theorem tg_53 (hC : tC p m c cc nL s args D dA ad) (hI : tI D dA ad sz H0 τ H locs) (hdg : decode cc pc = .ok (.getfield 133, 3)) (kk : W p l e R s m args below meth c H locs cells slots Q (F0 m (pc + 3) ls (.int (τ.1 0 53) :: rest))) : W p l e R s m args below meth c H locs cells slots Q (F0 m pc ls (.ref (ad 0) :: rest)) := rg_get hC.1 hC.2.1 hI.1 tl_0 rfl in_X6 53 (Nat.le_of_ble_eq_true rfl) q1753 rfl rfl hdg kk
theorem tp_53 (hC : tC p m c cc nL s args D dA ad) (hI : tI D dA ad sz H0 τ H locs) {v : Int32} {P : Sto → Prop} (hT : ∀ y, y = sI τ 0 53 v → P y) (hdg : decode cc pc = .ok (.putfield 133, 3)) (kk : ∀ (τ1 : Sto) (H1 : Heap) (locs1 : List Loc), P τ1 → tI D dA ad sz H0 τ1 H1 locs1 → W p l e R s m args below meth c H1 locs1 cells slots Q (F0 m (pc + 3) ls rest)) : W p l e R s m args below meth c H locs cells slots Q (F0 m pc ls (.int v :: .ref (ad 0) :: rest)) := rg_put hC.1 hC.2.1 hI.1 hC.2.2 hI.2.2 (fun _ h => h) tl_0 rfl in_X6 tyX6 tyX6_ok nmX6 53 (Nat.le_of_ble_eq_true rfl) q1753 rfl rfl (τ' := sI τ 0 53 v) rfl rfl (by simp [rgV, twKs, sI]) rgV_I rgSo_I hdg (fun H1 l1 z hP hS => kk _ H1 l1 (hT _ rfl) ⟨hP, z.trans hI.2.1, hS⟩)
theorem tg_54 (hC : tC p m c cc nL s args D dA ad) (hI : tI D dA ad sz H0 τ H locs) (hdg : decode cc pc = .ok (.getfield 551, 3)) (kk : W p l e R s m args below meth c H locs cells slots Q (F0 m (pc + 3) ls (.int (τ.1 0 54) :: rest))) : W p l e R s m args below meth c H locs cells slots Q (F0 m pc ls (.ref (ad 0) :: rest)) := rg_get hC.1 hC.2.1 hI.1 tl_0 rfl in_X6 54 (Nat.le_of_ble_eq_true rfl) q1754 rfl rfl hdg kk
theorem tp_54 (hC : tC p m c cc nL s args D dA ad) (hI : tI D dA ad sz H0 τ H locs) {v : Int32} {P : Sto → Prop} (hT : ∀ y, y = sI τ 0 54 v → P y) (hdg : decode cc pc = .ok (.putfield 551, 3)) (kk : ∀ (τ1 : Sto) (H1 : Heap) (locs1 : List Loc), P τ1 → tI D dA ad sz H0 τ1 H1 locs1 → W p l e R s m args below meth c H1 locs1 cells slots Q (F0 m (pc + 3) ls rest)) : W p l e R s m args below meth c H locs cells slots Q (F0 m pc ls (.int v :: .ref (ad 0) :: rest)) := rg_put hC.1 hC.2.1 hI.1 hC.2.2 hI.2.2 (fun _ h => h) tl_0 rfl in_X6 tyX6 tyX6_ok nmX6 54 (Nat.le_of_ble_eq_true rfl) q1754 rfl rfl (τ' := sI τ 0 54 v) rfl rfl (by simp [rgV, twKs, sI]) rgV_I rgSo_I hdg (fun H1 l1 z hP hS => kk _ H1 l1 (hT _ rfl) ⟨hP, z.trans hI.2.1, hS⟩)
theorem tg_55 (hC : tC p m c cc nL s args D dA ad) (hI : tI D dA ad sz H0 τ H locs) (hdg : decode cc pc = .ok (.getfield 424, 3)) (kk : W p l e R s m args below meth c H locs cells slots Q (F0 m (pc + 3) ls (.int (τ.1 0 55) :: rest))) : W p l e R s m args below meth c H locs cells slots Q (F0 m pc ls (.ref (ad 0) :: rest)) := rg_get hC.1 hC.2.1 hI.1 tl_0 rfl in_X6 55 (Nat.le_of_ble_eq_true rfl) q1755 rfl rfl hdg kk
theorem tp_55 (hC : tC p m c cc nL s args D dA ad) (hI : tI D dA ad sz H0 τ H locs) {v : Int32} {P : Sto → Prop} (hT : ∀ y, y = sI τ 0 55 v → P y) (hdg : decode cc pc = .ok (.putfield 424, 3)) (kk : ∀ (τ1 : Sto) (H1 : Heap) (locs1 : List Loc), P τ1 → tI D dA ad sz H0 τ1 H1 locs1 → W p l e R s m args below meth c H1 locs1 cells slots Q (F0 m (pc + 3) ls rest)) : W p l e R s m args below meth c H locs cells slots Q (F0 m pc ls (.int v :: .ref (ad 0) :: rest)) := rg_put hC.1 hC.2.1 hI.1 hC.2.2 hI.2.2 (fun _ h => h) tl_0 rfl in_X6 tyX6 tyX6_ok nmX6 55 (Nat.le_of_ble_eq_true rfl) q1755 rfl rfl (τ' := sI τ 0 55 v) rfl rfl (by simp [rgV, twKs, sI]) rgV_I rgSo_I hdg (fun H1 l1 z hP hS => kk _ H1 l1 (hT _ rfl) ⟨hP, z.trans hI.2.1, hS⟩)
theorem tg_56 (hC : tC p m c cc nL s args D dA ad) (hI : tI D dA ad sz H0 τ H locs) (hdg : decode cc pc = .ok (.getfield 136, 3)) (kk : W p l e R s m args below meth c H locs cells slots Q (F0 m (pc + 3) ls (.ref (ad 57) :: rest))) : W p l e R s m args below meth c H locs cells slots Q (F0 m pc ls (.ref (ad 0) :: rest)) := rg_get hC.1 hC.2.1 hI.1 tl_0 rfl in_X6 56 (Nat.le_of_ble_eq_true rfl) q1756 rfl (congrArg (fun z => Value.ref (ad z)) (Nat.zero_add 57)) hdg kk
theorem tg_57 (hC : tC p m c cc nL s args D dA ad) (hI : tI D dA ad sz H0 τ H locs) (hdg : decode cc pc = .ok (.getfield 432, 3)) (kk : W p l e R s m args below meth c H locs cells slots Q (F0 m (pc + 3) ls (.int (τ.1 0 57) :: rest))) : W p l e R s m args below meth c H locs cells slots Q (F0 m pc ls (.ref (ad 0) :: rest)) := rg_get hC.1 hC.2.1 hI.1 tl_0 rfl in_X6 57 (Nat.le_of_ble_eq_true rfl) q1757 rfl rfl hdg kk
theorem tp_57 (hC : tC p m c cc nL s args D dA ad) (hI : tI D dA ad sz H0 τ H locs) {v : Int32} (hz : v = 0 ∨ v = 1) {P : Sto → Prop} (hT : ∀ y, y = sI τ 0 57 v → P y) (hdg : decode cc pc = .ok (.putfield 432, 3)) (kk : ∀ (τ1 : Sto) (H1 : Heap) (locs1 : List Loc), P τ1 → tI D dA ad sz H0 τ1 H1 locs1 → W p l e R s m args below meth c H1 locs1 cells slots Q (F0 m (pc + 3) ls rest)) : W p l e R s m args below meth c H locs cells slots Q (F0 m pc ls (.int v :: .ref (ad 0) :: rest)) := rg_put hC.1 hC.2.1 hI.1 hC.2.2 hI.2.2 (fun _ h => h) tl_0 rfl in_X6 tyX6 tyX6_ok nmX6 57 (Nat.le_of_ble_eq_true rfl) q1757 rfl rfl (τ' := sI τ 0 57 v) (by rcases hz with h | h <;> subst h <;> rfl) (by rcases hz with h | h <;> subst h <;> rfl) (by simp [rgV, twKs, sI]) rgV_I rgSo_I hdg (fun H1 l1 z hP hS => kk _ H1 l1 (hT _ rfl) ⟨hP, z.trans hI.2.1, hS⟩)
theorem tg_58 (hC : tC p m c cc nL s args D dA ad) (hI : tI D dA ad sz H0 τ H locs) (hdg : decode cc pc = .ok (.getfield 436, 3)) (kk : W p l e R s m args below meth c H locs cells slots Q (F0 m (pc + 3) ls (.int (τ.1 0 58) :: rest))) : W p l e R s m args below meth c H locs cells slots Q (F0 m pc ls (.ref (ad 0) :: rest)) := rg_get hC.1 hC.2.1 hI.1 tl_0 rfl in_X6 58 (Nat.le_of_ble_eq_true rfl) q1758 rfl rfl hdg kk
theorem tp_58 (hC : tC p m c cc nL s args D dA ad) (hI : tI D dA ad sz H0 τ H locs) {v : Int32} {P : Sto → Prop} (hT : ∀ y, y = sI τ 0 58 v → P y) (hdg : decode cc pc = .ok (.putfield 436, 3)) (kk : ∀ (τ1 : Sto) (H1 : Heap) (locs1 : List Loc), P τ1 → tI D dA ad sz H0 τ1 H1 locs1 → W p l e R s m args below meth c H1 locs1 cells slots Q (F0 m (pc + 3) ls rest)) : W p l e R s m args below meth c H locs cells slots Q (F0 m pc ls (.int v :: .ref (ad 0) :: rest)) := rg_put hC.1 hC.2.1 hI.1 hC.2.2 hI.2.2 (fun _ h => h) tl_0 rfl in_X6 tyX6 tyX6_ok nmX6 58 (Nat.le_of_ble_eq_true rfl) q1758 rfl rfl (τ' := sI τ 0 58 v) rfl rfl (by simp [rgV, twKs, sI]) rgV_I rgSo_I hdg (fun H1 l1 z hP hS => kk _ H1 l1 (hT _ rfl) ⟨hP, z.trans hI.2.1, hS⟩)
theorem tg_59 (hC : tC p m c cc nL s args D dA ad) (hI : tI D dA ad sz H0 τ H locs) (hdg : decode cc pc = .ok (.getfield 139, 3)) (kk : W p l e R s m args below meth c H locs cells slots Q (F0 m (pc + 3) ls (.ref (ad 60) :: rest))) : W p l e R s m args below meth c H locs cells slots Q (F0 m pc ls (.ref (ad 0) :: rest)) := rg_get hC.1 hC.2.1 hI.1 tl_0 rfl in_X6 59 (Nat.le_of_ble_eq_true rfl) q1759 rfl (congrArg (fun z => Value.ref (ad z)) (Nat.zero_add 60)) hdg kk
theorem tg_60 (hC : tC p m c cc nL s args D dA ad) (hI : tI D dA ad sz H0 τ H locs) (hdg : decode cc pc = .ok (.getfield 143, 3)) (kk : W p l e R s m args below meth c H locs cells slots Q (F0 m (pc + 3) ls (.ref (ad 61) :: rest))) : W p l e R s m args below meth c H locs cells slots Q (F0 m pc ls (.ref (ad 0) :: rest)) := rg_get hC.1 hC.2.1 hI.1 tl_0 rfl in_X6 60 (Nat.le_of_ble_eq_true rfl) q1760 rfl (congrArg (fun z => Value.ref (ad z)) (Nat.zero_add 61)) hdg kk
theorem tg_61 (hC : tC p m c cc nL s args D dA ad) (hI : tI D dA ad sz H0 τ H locs) (hdg : decode cc pc = .ok (.getfield 146, 3)) (kk : W p l e R s m args below meth c H locs cells slots Q (F0 m (pc + 3) ls (.ref (ad 62) :: rest))) : W p l e R s m args below meth c H locs cells slots Q (F0 m pc ls (.ref (ad 0) :: rest)) := rg_get hC.1 hC.2.1 hI.1 tl_0 rfl in_X6 61 (Nat.le_of_ble_eq_true rfl) q1761 rfl (congrArg (fun z => Value.ref (ad z)) (Nat.zero_add 62)) hdg kk
theorem tg_62 (hC : tC p m c cc nL s args D dA ad) (hI : tI D dA ad sz H0 τ H locs) (hdg : decode cc pc = .ok (.getfield 149, 3)) (kk : W p l e R s m args below meth c H locs cells slots Q (F0 m (pc + 3) ls (.ref (ad 63) :: rest))) : W p l e R s m args below meth c H locs cells slots Q (F0 m pc ls (.ref (ad 0) :: rest)) := rg_get hC.1 hC.2.1 hI.1 tl_0 rfl in_X6 62 (Nat.le_of_ble_eq_true rfl) q1762 rfl (congrArg (fun z => Value.ref (ad z)) (Nat.zero_add 63)) hdg kk
theorem tg_63 (hC : tC p m c cc nL s args D dA ad) (hI : tI D dA ad sz H0 τ H locs) (hdg : decode cc pc = .ok (.getfield 152, 3)) (kk : W p l e R s m args below meth c H locs cells slots Q (F0 m (pc + 3) ls (.ref (ad 64) :: rest))) : W p l e R s m args below meth c H locs cells slots Q (F0 m pc ls (.ref (ad 0) :: rest)) := rg_get hC.1 hC.2.1 hI.1 tl_0 rfl in_X6 63 (Nat.le_of_ble_eq_true rfl) q1763 rfl (congrArg (fun z => Value.ref (ad z)) (Nat.zero_add 64)) hdg kk
theorem tg_64 (hC : tC p m c cc nL s args D dA ad) (hI : tI D dA ad sz H0 τ H locs) (hdg : decode cc pc = .ok (.getfield 155, 3)) (kk : W p l e R s m args below meth c H locs cells slots Q (F0 m (pc + 3) ls (.ref (ad 65) :: rest))) : W p l e R s m args below meth c H locs cells slots Q (F0 m pc ls (.ref (ad 0) :: rest)) := rg_get hC.1 hC.2.1 hI.1 tl_0 rfl in_X6 64 (Nat.le_of_ble_eq_true rfl) q1764 rfl (congrArg (fun z => Value.ref (ad z)) (Nat.zero_add 65)) hdg kk
theorem tg_65 (hC : tC p m c cc nL s args D dA ad) (hI : tI D dA ad sz H0 τ H locs) (hdg : decode cc pc = .ok (.getfield 389, 3)) (kk : W p l e R s m args below meth c H locs cells slots Q (F0 m (pc + 3) ls (.int (τ.1 0 65) :: rest))) : W p l e R s m args below meth c H locs cells slots Q (F0 m pc ls (.ref (ad 0) :: rest)) := rg_get hC.1 hC.2.1 hI.1 tl_0 rfl in_X6 65 (Nat.le_of_ble_eq_true rfl) q1765 rfl rfl hdg kk
theorem tp_65 (hC : tC p m c cc nL s args D dA ad) (hI : tI D dA ad sz H0 τ H locs) {v : Int32} {P : Sto → Prop} (hT : ∀ y, y = sI τ 0 65 v → P y) (hdg : decode cc pc = .ok (.putfield 389, 3)) (kk : ∀ (τ1 : Sto) (H1 : Heap) (locs1 : List Loc), P τ1 → tI D dA ad sz H0 τ1 H1 locs1 → W p l e R s m args below meth c H1 locs1 cells slots Q (F0 m (pc + 3) ls rest)) : W p l e R s m args below meth c H locs cells slots Q (F0 m pc ls (.int v :: .ref (ad 0) :: rest)) := rg_put hC.1 hC.2.1 hI.1 hC.2.2 hI.2.2 (fun _ h => h) tl_0 rfl in_X6 tyX6 tyX6_ok nmX6 65 (Nat.le_of_ble_eq_true rfl) q1765 rfl rfl (τ' := sI τ 0 65 v) rfl rfl (by simp [rgV, twKs, sI]) rgV_I rgSo_I hdg (fun H1 l1 z hP hS => kk _ H1 l1 (hT _ rfl) ⟨hP, z.trans hI.2.1, hS⟩)
theorem tg_66 (hC : tC p m c cc nL s args D dA ad) (hI : tI D dA ad sz H0 τ H locs) (hdg : decode cc pc = .ok (.getfield 567, 3)) (kk : W p l e R s m args below meth c H locs cells slots Q (F0 m (pc + 3) ls (.int (τ.1 0 66) :: rest))) : W p l e R s m args below meth c H locs cells slots Q (F0 m pc ls (.ref (ad 0) :: rest)) := rg_get hC.1 hC.2.1 hI.1 tl_0 rfl in_X6 66 (Nat.le_of_ble_eq_true rfl) q1766 rfl rfl hdg kk
theorem tp_66 (hC : tC p m c cc nL s args D dA ad) (hI : tI D dA ad sz H0 τ H locs) {v : Int32} {P : Sto → Prop} (hT : ∀ y, y = sI τ 0 66 v → P y) (hdg : decode cc pc = .ok (.putfield 567, 3)) (kk : ∀ (τ1 : Sto) (H1 : Heap) (locs1 : List Loc), P τ1 → tI D dA ad sz H0 τ1 H1 locs1 → W p l e R s m args below meth c H1 locs1 cells slots Q (F0 m (pc + 3) ls rest)) : W p l e R s m args below meth c H locs cells slots Q (F0 m pc ls (.int v :: .ref (ad 0) :: rest)) := rg_put hC.1 hC.2.1 hI.1 hC.2.2 hI.2.2 (fun _ h => h) tl_0 rfl in_X6 tyX6 tyX6_ok nmX6 66 (Nat.le_of_ble_eq_true rfl) q1766 rfl rfl (τ' := sI τ 0 66 v) rfl rfl (by simp [rgV, twKs, sI]) rgV_I rgSo_I hdg (fun H1 l1 z hP hS => kk _ H1 l1 (hT _ rfl) ⟨hP, z.trans hI.2.1, hS⟩)
theorem tg_67 (hC : tC p m c cc nL s args D dA ad) (hI : tI D dA ad sz H0 τ H locs) (hdg : decode cc pc = .ok (.getfield 158, 3)) (kk : W p l e R s m args below meth c H locs cells slots Q (F0 m (pc + 3) ls (.long (τ.2.1 0 67) :: rest))) : W p l e R s m args below meth c H locs cells slots Q (F0 m pc ls (.ref (ad 0) :: rest)) := rg_get hC.1 hC.2.1 hI.1 tl_0 rfl in_X6 67 (Nat.le_of_ble_eq_true rfl) q1767 rfl rfl hdg kk
theorem tp_67 (hC : tC p m c cc nL s args D dA ad) (hI : tI D dA ad sz H0 τ H locs) {v : Int64} {P : Sto → Prop} (hT : ∀ y, y = sL τ 0 67 v → P y) (hdg : decode cc pc = .ok (.putfield 158, 3)) (kk : ∀ (τ1 : Sto) (H1 : Heap) (locs1 : List Loc), P τ1 → tI D dA ad sz H0 τ1 H1 locs1 → W p l e R s m args below meth c H1 locs1 cells slots Q (F0 m (pc + 3) ls rest)) : W p l e R s m args below meth c H locs cells slots Q (F0 m pc ls (.long v :: .ref (ad 0) :: rest)) := rg_put hC.1 hC.2.1 hI.1 hC.2.2 hI.2.2 (fun _ h => h) tl_0 rfl in_X6 tyX6 tyX6_ok nmX6 67 (Nat.le_of_ble_eq_true rfl) q1767 rfl rfl (τ' := sL τ 0 67 v) rfl rfl (by simp [rgV, twKs, sL]) rgV_L rgSo_L hdg (fun H1 l1 z hP hS => kk _ H1 l1 (hT _ rfl) ⟨hP, z.trans hI.2.1, hS⟩)
theorem tg_68 (hC : tC p m c cc nL s args D dA ad) (hI : tI D dA ad sz H0 τ H locs) (hdg : decode cc pc = .ok (.getfield 162, 3)) (kk : W p l e R s m args below meth c H locs cells slots Q (F0 m (pc + 3) ls (.ref (ad 69) :: rest))) : W p l e R s m args below meth c H locs cells slots Q (F0 m pc ls (.ref (ad 0) :: rest)) := rg_get hC.1 hC.2.1 hI.1 tl_0 rfl in_X6 68 (Nat.le_of_ble_eq_true rfl) q1768 rfl (congrArg (fun z => Value.ref (ad z)) (Nat.zero_add 69)) hdg kk
theorem tg_69 (hC : tC p m c cc nL s args D dA ad) (hI : tI D dA ad sz H0 τ H locs) (hdg : decode cc pc = .ok (.getfield 165, 3)) (kk : W p l e R s m args below meth c H locs cells slots Q (F0 m (pc + 3) ls (.ref (ad 70) :: rest))) : W p l e R s m args below meth c H locs cells slots Q (F0 m pc ls (.ref (ad 0) :: rest)) := rg_get hC.1 hC.2.1 hI.1 tl_0 rfl in_X6 69 (Nat.le_of_ble_eq_true rfl) q1769 rfl (congrArg (fun z => Value.ref (ad z)) (Nat.zero_add 70)) hdg kk
theorem tg_70 (hC : tC p m c cc nL s args D dA ad) (hI : tI D dA ad sz H0 τ H locs) (hdg : decode cc pc = .ok (.getfield 168, 3)) (kk : W p l e R s m args below meth c H locs cells slots Q (F0 m (pc + 3) ls (.ref (ad 71) :: rest))) : W p l e R s m args below meth c H locs cells slots Q (F0 m pc ls (.ref (ad 0) :: rest)) := rg_get hC.1 hC.2.1 hI.1 tl_0 rfl in_X6 70 (Nat.le_of_ble_eq_true rfl) q1770 rfl (congrArg (fun z => Value.ref (ad z)) (Nat.zero_add 71)) hdg kk
theorem tg_71 (hC : tC p m c cc nL s args D dA ad) (hI : tI D dA ad sz H0 τ H locs) (hdg : decode cc pc = .ok (.getfield 171, 3)) (kk : W p l e R s m args below meth c H locs cells slots Q (F0 m (pc + 3) ls (.ref (ad 72) :: rest))) : W p l e R s m args below meth c H locs cells slots Q (F0 m pc ls (.ref (ad 0) :: rest)) := rg_get hC.1 hC.2.1 hI.1 tl_0 rfl in_X6 71 (Nat.le_of_ble_eq_true rfl) q1771 rfl (congrArg (fun z => Value.ref (ad z)) (Nat.zero_add 72)) hdg kk
theorem tg_72 (hC : tC p m c cc nL s args D dA ad) (hI : tI D dA ad sz H0 τ H locs) (hdg : decode cc pc = .ok (.getfield 174, 3)) (kk : W p l e R s m args below meth c H locs cells slots Q (F0 m (pc + 3) ls (.ref (ad 73) :: rest))) : W p l e R s m args below meth c H locs cells slots Q (F0 m pc ls (.ref (ad 0) :: rest)) := rg_get hC.1 hC.2.1 hI.1 tl_0 rfl in_X6 72 (Nat.le_of_ble_eq_true rfl) q1772 rfl (congrArg (fun z => Value.ref (ad z)) (Nat.zero_add 73)) hdg kk
theorem tg_73 (hC : tC p m c cc nL s args D dA ad) (hI : tI D dA ad sz H0 τ H locs) (hdg : decode cc pc = .ok (.getfield 177, 3)) (kk : W p l e R s m args below meth c H locs cells slots Q (F0 m (pc + 3) ls (.ref (ad 74) :: rest))) : W p l e R s m args below meth c H locs cells slots Q (F0 m pc ls (.ref (ad 0) :: rest)) := rg_get hC.1 hC.2.1 hI.1 tl_0 rfl in_X6 73 (Nat.le_of_ble_eq_true rfl) q1773 rfl (congrArg (fun z => Value.ref (ad z)) (Nat.zero_add 74)) hdg kk
theorem tg_74 (hC : tC p m c cc nL s args D dA ad) (hI : tI D dA ad sz H0 τ H locs) (hdg : decode cc pc = .ok (.getfield 180, 3)) (kk : W p l e R s m args below meth c H locs cells slots Q (F0 m (pc + 3) ls (.ref (ad 75) :: rest))) : W p l e R s m args below meth c H locs cells slots Q (F0 m pc ls (.ref (ad 0) :: rest)) := rg_get hC.1 hC.2.1 hI.1 tl_0 rfl in_X6 74 (Nat.le_of_ble_eq_true rfl) q1774 rfl (congrArg (fun z => Value.ref (ad z)) (Nat.zero_add 75)) hdg kk
theorem tg_75 (hC : tC p m c cc nL s args D dA ad) (hI : tI D dA ad sz H0 τ H locs) (hdg : decode cc pc = .ok (.getfield 183, 3)) (kk : W p l e R s m args below meth c H locs cells slots Q (F0 m (pc + 3) ls (.ref (ad 76) :: rest))) : W p l e R s m args below meth c H locs cells slots Q (F0 m pc ls (.ref (ad 0) :: rest)) := rg_get hC.1 hC.2.1 hI.1 tl_0 rfl in_X6 75 (Nat.le_of_ble_eq_true rfl) q1775 rfl (congrArg (fun z => Value.ref (ad z)) (Nat.zero_add 76)) hdg kk
theorem tg_76 (hC : tC p m c cc nL s args D dA ad) (hI : tI D dA ad sz H0 τ H locs) (hdg : decode cc pc = .ok (.getfield 186, 3)) (kk : W p l e R s m args below meth c H locs cells slots Q (F0 m (pc + 3) ls (.ref (ad 77) :: rest))) : W p l e R s m args below meth c H locs cells slots Q (F0 m pc ls (.ref (ad 0) :: rest)) := rg_get hC.1 hC.2.1 hI.1 tl_0 rfl in_X6 76 (Nat.le_of_ble_eq_true rfl) q1776 rfl (congrArg (fun z => Value.ref (ad z)) (Nat.zero_add 77)) hdg kk
theorem tg_77 (hC : tC p m c cc nL s args D dA ad) (hI : tI D dA ad sz H0 τ H locs) (hdg : decode cc pc = .ok (.getfield 189, 3)) (kk : W p l e R s m args below meth c H locs cells slots Q (F0 m (pc + 3) ls (.ref (ad 78) :: rest))) : W p l e R s m args below meth c H locs cells slots Q (F0 m pc ls (.ref (ad 0) :: rest)) := rg_get hC.1 hC.2.1 hI.1 tl_0 rfl in_X6 77 (Nat.le_of_ble_eq_true rfl) q1777 rfl (congrArg (fun z => Value.ref (ad z)) (Nat.zero_add 78)) hdg kk
theorem tg_78 (hC : tC p m c cc nL s args D dA ad) (hI : tI D dA ad sz H0 τ H locs) (hdg : decode cc pc = .ok (.getfield 192, 3)) (kk : W p l e R s m args below meth c H locs cells slots Q (F0 m (pc + 3) ls (.ref (ad 79) :: rest))) : W p l e R s m args below meth c H locs cells slots Q (F0 m pc ls (.ref (ad 0) :: rest)) := rg_get hC.1 hC.2.1 hI.1 tl_0 rfl in_X6 78 (Nat.le_of_ble_eq_true rfl) q1778 rfl (congrArg (fun z => Value.ref (ad z)) (Nat.zero_add 79)) hdg kk
theorem tg_79 (hC : tC p m c cc nL s args D dA ad) (hI : tI D dA ad sz H0 τ H locs) (hdg : decode cc pc = .ok (.getfield 195, 3)) (kk : W p l e R s m args below meth c H locs cells slots Q (F0 m (pc + 3) ls (.ref (ad 80) :: rest))) : W p l e R s m args below meth c H locs cells slots Q (F0 m pc ls (.ref (ad 0) :: rest)) := rg_get hC.1 hC.2.1 hI.1 tl_0 rfl in_X6 79 (Nat.le_of_ble_eq_true rfl) q1779 rfl (congrArg (fun z => Value.ref (ad z)) (Nat.zero_add 80)) hdg kk
theorem tg_80 (hC : tC p m c cc nL s args D dA ad) (hI : tI D dA ad sz H0 τ H locs) (hdg : decode cc pc = .ok (.getfield 198, 3)) (kk : W p l e R s m args below meth c H locs cells slots Q (F0 m (pc + 3) ls (.ref (ad 81) :: rest))) : W p l e R s m args below meth c H locs cells slots Q (F0 m pc ls (.ref (ad 0) :: rest)) := rg_get hC.1 hC.2.1 hI.1 tl_0 rfl in_X6 80 (Nat.le_of_ble_eq_true rfl) q1780 rfl (congrArg (fun z => Value.ref (ad z)) (Nat.zero_add 81)) hdg kk
theorem tg_81 (hC : tC p m c cc nL s args D dA ad) (hI : tI D dA ad sz H0 τ H locs) (hdg : decode cc pc = .ok (.getfield 201, 3)) (kk : W p l e R s m args below meth c H locs cells slots Q (F0 m (pc + 3) ls (.ref (ad 82) :: rest))) : W p l e R s m args below meth c H locs cells slots Q (F0 m pc ls (.ref (ad 0) :: rest)) := rg_get hC.1 hC.2.1 hI.1 tl_0 rfl in_X6 81 (Nat.le_of_ble_eq_true rfl) q1781 rfl (congrArg (fun z => Value.ref (ad z)) (Nat.zero_add 82)) hdg kk
theorem tg_82 (hC : tC p m c cc nL s args D dA ad) (hI : tI D dA ad sz H0 τ H locs) (hdg : decode cc pc = .ok (.getfield 204, 3)) (kk : W p l e R s m args below meth c H locs cells slots Q (F0 m (pc + 3) ls (.ref (ad 83) :: rest))) : W p l e R s m args below meth c H locs cells slots Q (F0 m pc ls (.ref (ad 0) :: rest)) := rg_get hC.1 hC.2.1 hI.1 tl_0 rfl in_X6 82 (Nat.le_of_ble_eq_true rfl) q1782 rfl (congrArg (fun z => Value.ref (ad z)) (Nat.zero_add 83)) hdg kk
theorem tg_83 (hC : tC p m c cc nL s args D dA ad) (hI : tI D dA ad sz H0 τ H locs) (hdg : decode cc pc = .ok (.getfield 207, 3)) (kk : W p l e R s m args below meth c H locs cells slots Q (F0 m (pc + 3) ls (.ref (ad 84) :: rest))) : W p l e R s m args below meth c H locs cells slots Q (F0 m pc ls (.ref (ad 0) :: rest)) := rg_get hC.1 hC.2.1 hI.1 tl_0 rfl in_X6 83 (Nat.le_of_ble_eq_true rfl) q1783 rfl (congrArg (fun z => Value.ref (ad z)) (Nat.zero_add 84)) hdg kk
theorem tg_84 (hC : tC p m c cc nL s args D dA ad) (hI : tI D dA ad sz H0 τ H locs) (hdg : decode cc pc = .ok (.getfield 210, 3)) (kk : W p l e R s m args below meth c H locs cells slots Q (F0 m (pc + 3) ls (.ref (ad 85) :: rest))) : W p l e R s m args below meth c H locs cells slots Q (F0 m pc ls (.ref (ad 0) :: rest)) := rg_get hC.1 hC.2.1 hI.1 tl_0 rfl in_X6 84 (Nat.le_of_ble_eq_true rfl) q1784 rfl (congrArg (fun z => Value.ref (ad z)) (Nat.zero_add 85)) hdg kk
theorem tg_85 (hC : tC p m c cc nL s args D dA ad) (hI : tI D dA ad sz H0 τ H locs) (hdg : decode cc pc = .ok (.getfield 213, 3)) (kk : W p l e R s m args below meth c H locs cells slots Q (F0 m (pc + 3) ls (.ref (ad 86) :: rest))) : W p l e R s m args below meth c H locs cells slots Q (F0 m pc ls (.ref (ad 0) :: rest)) := rg_get hC.1 hC.2.1 hI.1 tl_0 rfl in_X6 85 (Nat.le_of_ble_eq_true rfl) q1785 rfl (congrArg (fun z => Value.ref (ad z)) (Nat.zero_add 86)) hdg kk
theorem tg_86 (hC : tC p m c cc nL s args D dA ad) (hI : tI D dA ad sz H0 τ H locs) (hdg : decode cc pc = .ok (.getfield 216, 3)) (kk : W p l e R s m args below meth c H locs cells slots Q (F0 m (pc + 3) ls (.ref (ad 87) :: rest))) : W p l e R s m args below meth c H locs cells slots Q (F0 m pc ls (.ref (ad 0) :: rest)) := rg_get hC.1 hC.2.1 hI.1 tl_0 rfl in_X6 86 (Nat.le_of_ble_eq_true rfl) q1786 rfl (congrArg (fun z => Value.ref (ad z)) (Nat.zero_add 87)) hdg kk
theorem tg_87 (hC : tC p m c cc nL s args D dA ad) (hI : tI D dA ad sz H0 τ H locs) (hdg : decode cc pc = .ok (.getfield 219, 3)) (kk : W p l e R s m args below meth c H locs cells slots Q (F0 m (pc + 3) ls (.ref (ad 88) :: rest))) : W p l e R s m args below meth c H locs cells slots Q (F0 m pc ls (.ref (ad 0) :: rest)) := rg_get hC.1 hC.2.1 hI.1 tl_0 rfl in_X6 87 (Nat.le_of_ble_eq_true rfl) q1787 rfl (congrArg (fun z => Value.ref (ad z)) (Nat.zero_add 88)) hdg kk
theorem tg_88 (hC : tC p m c cc nL s args D dA ad) (hI : tI D dA ad sz H0 τ H locs) (hdg : decode cc pc = .ok (.getfield 222, 3)) (kk : W p l e R s m args below meth c H locs cells slots Q (F0 m (pc + 3) ls (.ref (ad 89) :: rest))) : W p l e R s m args below meth c H locs cells slots Q (F0 m pc ls (.ref (ad 0) :: rest)) := rg_get hC.1 hC.2.1 hI.1 tl_0 rfl in_X6 88 (Nat.le_of_ble_eq_true rfl) q1788 rfl (congrArg (fun z => Value.ref (ad z)) (Nat.zero_add 89)) hdg kk
theorem tg_89 (hC : tC p m c cc nL s args D dA ad) (hI : tI D dA ad sz H0 τ H locs) (hdg : decode cc pc = .ok (.getfield 225, 3)) (kk : W p l e R s m args below meth c H locs cells slots Q (F0 m (pc + 3) ls (.ref (ad 90) :: rest))) : W p l e R s m args below meth c H locs cells slots Q (F0 m pc ls (.ref (ad 0) :: rest)) := rg_get hC.1 hC.2.1 hI.1 tl_0 rfl in_X6 89 (Nat.le_of_ble_eq_true rfl) q1789 rfl (congrArg (fun z => Value.ref (ad z)) (Nat.zero_add 90)) hdg kk
theorem tg_90 (hC : tC p m c cc nL s args D dA ad) (hI : tI D dA ad sz H0 τ H locs) (hdg : decode cc pc = .ok (.getfield 228, 3)) (kk : W p l e R s m args below meth c H locs cells slots Q (F0 m (pc + 3) ls (.ref (ad 91) :: rest))) : W p l e R s m args below meth c H locs cells slots Q (F0 m pc ls (.ref (ad 0) :: rest)) := rg_get hC.1 hC.2.1 hI.1 tl_0 rfl in_X6 90 (Nat.le_of_ble_eq_true rfl) q1790 rfl (congrArg (fun z => Value.ref (ad z)) (Nat.zero_add 91)) hdg kk
theorem tg_91 (hC : tC p m c cc nL s args D dA ad) (hI : tI D dA ad sz H0 τ H locs) (hdg : decode cc pc = .ok (.getfield 231, 3)) (kk : W p l e R s m args below meth c H locs cells slots Q (F0 m (pc + 3) ls (.ref (ad 92) :: rest))) : W p l e R s m args below meth c H locs cells slots Q (F0 m pc ls (.ref (ad 0) :: rest)) := rg_get hC.1 hC.2.1 hI.1 tl_0 rfl in_X6 91 (Nat.le_of_ble_eq_true rfl) q1791 rfl (congrArg (fun z => Value.ref (ad z)) (Nat.zero_add 92)) hdg kk
theorem tg_92 (hC : tC p m c cc nL s args D dA ad) (hI : tI D dA ad sz H0 τ H locs) (hdg : decode cc pc = .ok (.getfield 331, 3)) (kk : W p l e R s m args below meth c H locs cells slots Q (F0 m (pc + 3) ls (.int (τ.1 0 92) :: rest))) : W p l e R s m args below meth c H locs cells slots Q (F0 m pc ls (.ref (ad 0) :: rest)) := rg_get hC.1 hC.2.1 hI.1 tl_0 rfl in_X6 92 (Nat.le_of_ble_eq_true rfl) q1792 rfl rfl hdg kk
theorem tp_92 (hC : tC p m c cc nL s args D dA ad) (hI : tI D dA ad sz H0 τ H locs) {v : Int32} {P : Sto → Prop} (hT : ∀ y, y = sI τ 0 92 v → P y) (hdg : decode cc pc = .ok (.putfield 331, 3)) (kk : ∀ (τ1 : Sto) (H1 : Heap) (locs1 : List Loc), P τ1 → tI D dA ad sz H0 τ1 H1 locs1 → W p l e R s m args below meth c H1 locs1 cells slots Q (F0 m (pc + 3) ls rest)) : W p l e R s m args below meth c H locs cells slots Q (F0 m pc ls (.int v :: .ref (ad 0) :: rest)) := rg_put hC.1 hC.2.1 hI.1 hC.2.2 hI.2.2 (fun _ h => h) tl_0 rfl in_X6 tyX6 tyX6_ok nmX6 92 (Nat.le_of_ble_eq_true rfl) q1792 rfl rfl (τ' := sI τ 0 92 v) rfl rfl (by simp [rgV, twKs, sI]) rgV_I rgSo_I hdg (fun H1 l1 z hP hS => kk _ H1 l1 (hT _ rfl) ⟨hP, z.trans hI.2.1, hS⟩)
theorem tg_93 (hC : tC p m c cc nL s args D dA ad) (hI : tI D dA ad sz H0 τ H locs) (hdg : decode cc pc = .ok (.getfield 234, 3)) (kk : W p l e R s m args below meth c H locs cells slots Q (F0 m (pc + 3) ls (.ref (ad 94) :: rest))) : W p l e R s m args below meth c H locs cells slots Q (F0 m pc ls (.ref (ad 0) :: rest)) := rg_get hC.1 hC.2.1 hI.1 tl_0 rfl in_X6 93 (Nat.le_of_ble_eq_true rfl) q1793 rfl (congrArg (fun z => Value.ref (ad z)) (Nat.zero_add 94)) hdg kk
theorem tg_94 (hC : tC p m c cc nL s args D dA ad) (hI : tI D dA ad sz H0 τ H locs) (hdg : decode cc pc = .ok (.getfield 334, 3)) (kk : W p l e R s m args below meth c H locs cells slots Q (F0 m (pc + 3) ls (.int (τ.1 0 94) :: rest))) : W p l e R s m args below meth c H locs cells slots Q (F0 m pc ls (.ref (ad 0) :: rest)) := rg_get hC.1 hC.2.1 hI.1 tl_0 rfl in_X6 94 (Nat.le_of_ble_eq_true rfl) q1794 rfl rfl hdg kk
theorem tp_94 (hC : tC p m c cc nL s args D dA ad) (hI : tI D dA ad sz H0 τ H locs) {v : Int32} {P : Sto → Prop} (hT : ∀ y, y = sI τ 0 94 v → P y) (hdg : decode cc pc = .ok (.putfield 334, 3)) (kk : ∀ (τ1 : Sto) (H1 : Heap) (locs1 : List Loc), P τ1 → tI D dA ad sz H0 τ1 H1 locs1 → W p l e R s m args below meth c H1 locs1 cells slots Q (F0 m (pc + 3) ls rest)) : W p l e R s m args below meth c H locs cells slots Q (F0 m pc ls (.int v :: .ref (ad 0) :: rest)) := rg_put hC.1 hC.2.1 hI.1 hC.2.2 hI.2.2 (fun _ h => h) tl_0 rfl in_X6 tyX6 tyX6_ok nmX6 94 (Nat.le_of_ble_eq_true rfl) q1794 rfl rfl (τ' := sI τ 0 94 v) rfl rfl (by simp [rgV, twKs, sI]) rgV_I rgSo_I hdg (fun H1 l1 z hP hS => kk _ H1 l1 (hT _ rfl) ⟨hP, z.trans hI.2.1, hS⟩)
theorem tg_95 (hC : tC p m c cc nL s args D dA ad) (hI : tI D dA ad sz H0 τ H locs) (hdg : decode cc pc = .ok (.getfield 337, 3)) (kk : W p l e R s m args below meth c H locs cells slots Q (F0 m (pc + 3) ls (.int (τ.1 0 95) :: rest))) : W p l e R s m args below meth c H locs cells slots Q (F0 m pc ls (.ref (ad 0) :: rest)) := rg_get hC.1 hC.2.1 hI.1 tl_0 rfl in_X6 95 (Nat.le_of_ble_eq_true rfl) q1795 rfl rfl hdg kk
theorem tp_95 (hC : tC p m c cc nL s args D dA ad) (hI : tI D dA ad sz H0 τ H locs) {v : Int32} {P : Sto → Prop} (hT : ∀ y, y = sI τ 0 95 v → P y) (hdg : decode cc pc = .ok (.putfield 337, 3)) (kk : ∀ (τ1 : Sto) (H1 : Heap) (locs1 : List Loc), P τ1 → tI D dA ad sz H0 τ1 H1 locs1 → W p l e R s m args below meth c H1 locs1 cells slots Q (F0 m (pc + 3) ls rest)) : W p l e R s m args below meth c H locs cells slots Q (F0 m pc ls (.int v :: .ref (ad 0) :: rest)) := rg_put hC.1 hC.2.1 hI.1 hC.2.2 hI.2.2 (fun _ h => h) tl_0 rfl in_X6 tyX6 tyX6_ok nmX6 95 (Nat.le_of_ble_eq_true rfl) q1795 rfl rfl (τ' := sI τ 0 95 v) rfl rfl (by simp [rgV, twKs, sI]) rgV_I rgSo_I hdg (fun H1 l1 z hP hS => kk _ H1 l1 (hT _ rfl) ⟨hP, z.trans hI.2.1, hS⟩)
theorem tg_96 (hC : tC p m c cc nL s args D dA ad) (hI : tI D dA ad sz H0 τ H locs) (hdg : decode cc pc = .ok (.getfield 340, 3)) (kk : W p l e R s m args below meth c H locs cells slots Q (F0 m (pc + 3) ls (.int (τ.1 0 96) :: rest))) : W p l e R s m args below meth c H locs cells slots Q (F0 m pc ls (.ref (ad 0) :: rest)) := rg_get hC.1 hC.2.1 hI.1 tl_0 rfl in_X6 96 (Nat.le_of_ble_eq_true rfl) q1796 rfl rfl hdg kk
theorem tp_96 (hC : tC p m c cc nL s args D dA ad) (hI : tI D dA ad sz H0 τ H locs) {v : Int32} {P : Sto → Prop} (hT : ∀ y, y = sI τ 0 96 v → P y) (hdg : decode cc pc = .ok (.putfield 340, 3)) (kk : ∀ (τ1 : Sto) (H1 : Heap) (locs1 : List Loc), P τ1 → tI D dA ad sz H0 τ1 H1 locs1 → W p l e R s m args below meth c H1 locs1 cells slots Q (F0 m (pc + 3) ls rest)) : W p l e R s m args below meth c H locs cells slots Q (F0 m pc ls (.int v :: .ref (ad 0) :: rest)) := rg_put hC.1 hC.2.1 hI.1 hC.2.2 hI.2.2 (fun _ h => h) tl_0 rfl in_X6 tyX6 tyX6_ok nmX6 96 (Nat.le_of_ble_eq_true rfl) q1796 rfl rfl (τ' := sI τ 0 96 v) rfl rfl (by simp [rgV, twKs, sI]) rgV_I rgSo_I hdg (fun H1 l1 z hP hS => kk _ H1 l1 (hT _ rfl) ⟨hP, z.trans hI.2.1, hS⟩)
theorem tg_97 (hC : tC p m c cc nL s args D dA ad) (hI : tI D dA ad sz H0 τ H locs) (hdg : decode cc pc = .ok (.getfield 237, 3)) (kk : W p l e R s m args below meth c H locs cells slots Q (F0 m (pc + 3) ls (.ref (ad 98) :: rest))) : W p l e R s m args below meth c H locs cells slots Q (F0 m pc ls (.ref (ad 0) :: rest)) := rg_get hC.1 hC.2.1 hI.1 tl_0 rfl in_X6 97 (Nat.le_of_ble_eq_true rfl) q1797 rfl (congrArg (fun z => Value.ref (ad z)) (Nat.zero_add 98)) hdg kk
theorem tg_98 (hC : tC p m c cc nL s args D dA ad) (hI : tI D dA ad sz H0 τ H locs) (hdg : decode cc pc = .ok (.getfield 401, 3)) (kk : W p l e R s m args below meth c H locs cells slots Q (F0 m (pc + 3) ls (.int (τ.1 0 98) :: rest))) : W p l e R s m args below meth c H locs cells slots Q (F0 m pc ls (.ref (ad 0) :: rest)) := rg_get hC.1 hC.2.1 hI.1 tl_0 rfl in_X6 98 (Nat.le_of_ble_eq_true rfl) q1798 rfl rfl hdg kk
theorem tp_98 (hC : tC p m c cc nL s args D dA ad) (hI : tI D dA ad sz H0 τ H locs) {v : Int32} {P : Sto → Prop} (hT : ∀ y, y = sI τ 0 98 v → P y) (hdg : decode cc pc = .ok (.putfield 401, 3)) (kk : ∀ (τ1 : Sto) (H1 : Heap) (locs1 : List Loc), P τ1 → tI D dA ad sz H0 τ1 H1 locs1 → W p l e R s m args below meth c H1 locs1 cells slots Q (F0 m (pc + 3) ls rest)) : W p l e R s m args below meth c H locs cells slots Q (F0 m pc ls (.int v :: .ref (ad 0) :: rest)) := rg_put hC.1 hC.2.1 hI.1 hC.2.2 hI.2.2 (fun _ h => h) tl_0 rfl in_X6 tyX6 tyX6_ok nmX6 98 (Nat.le_of_ble_eq_true rfl) q1798 rfl rfl (τ' := sI τ 0 98 v) rfl rfl (by simp [rgV, twKs, sI]) rgV_I rgSo_I hdg (fun H1 l1 z hP hS => kk _ H1 l1 (hT _ rfl) ⟨hP, z.trans hI.2.1, hS⟩)
theorem tg_99 (hC : tC p m c cc nL s args D dA ad) (hI : tI D dA ad sz H0 τ H locs) (hdg : decode cc pc = .ok (.getfield 663, 3)) (kk : W p l e R s m args below meth c H locs cells slots Q (F0 m (pc + 3) ls (.long (τ.2.1 0 99) :: rest))) : W p l e R s m args below meth c H locs cells slots Q (F0 m pc ls (.ref (ad 0) :: rest)) := rg_get hC.1 hC.2.1 hI.1 tl_0 rfl in_X6 99 (Nat.le_of_ble_eq_true rfl) q1799 rfl rfl hdg kk
theorem tp_99 (hC : tC p m c cc nL s args D dA ad) (hI : tI D dA ad sz H0 τ H locs) {v : Int64} {P : Sto → Prop} (hT : ∀ y, y = sL τ 0 99 v → P y) (hdg : decode cc pc = .ok (.putfield 663, 3)) (kk : ∀ (τ1 : Sto) (H1 : Heap) (locs1 : List Loc), P τ1 → tI D dA ad sz H0 τ1 H1 locs1 → W p l e R s m args below meth c H1 locs1 cells slots Q (F0 m (pc + 3) ls rest)) : W p l e R s m args below meth c H locs cells slots Q (F0 m pc ls (.long v :: .ref (ad 0) :: rest)) := rg_put hC.1 hC.2.1 hI.1 hC.2.2 hI.2.2 (fun _ h => h) tl_0 rfl in_X6 tyX6 tyX6_ok nmX6 99 (Nat.le_of_ble_eq_true rfl) q1799 rfl rfl (τ' := sL τ 0 99 v) rfl rfl (by simp [rgV, twKs, sL]) rgV_L rgSo_L hdg (fun H1 l1 z hP hS => kk _ H1 l1 (hT _ rfl) ⟨hP, z.trans hI.2.1, hS⟩)
theorem tg_100 (hC : tC p m c cc nL s args D dA ad) (hI : tI D dA ad sz H0 τ H locs) (hdg : decode cc pc = .ok (.getfield 666, 3)) (kk : W p l e R s m args below meth c H locs cells slots Q (F0 m (pc + 3) ls (.int (τ.1 0 100) :: rest))) : W p l e R s m args below meth c H locs cells slots Q (F0 m pc ls (.ref (ad 0) :: rest)) := rg_get hC.1 hC.2.1 hI.1 tl_0 rfl in_X6 100 (Nat.le_of_ble_eq_true rfl) q1800 rfl rfl hdg kk
theorem tp_100 (hC : tC p m c cc nL s args D dA ad) (hI : tI D dA ad sz H0 τ H locs) {v : Int32} (hz : v = 0 ∨ v = 1) {P : Sto → Prop} (hT : ∀ y, y = sI τ 0 100 v → P y) (hdg : decode cc pc = .ok (.putfield 666, 3)) (kk : ∀ (τ1 : Sto) (H1 : Heap) (locs1 : List Loc), P τ1 → tI D dA ad sz H0 τ1 H1 locs1 → W p l e R s m args below meth c H1 locs1 cells slots Q (F0 m (pc + 3) ls rest)) : W p l e R s m args below meth c H locs cells slots Q (F0 m pc ls (.int v :: .ref (ad 0) :: rest)) := rg_put hC.1 hC.2.1 hI.1 hC.2.2 hI.2.2 (fun _ h => h) tl_0 rfl in_X6 tyX6 tyX6_ok nmX6 100 (Nat.le_of_ble_eq_true rfl) q1800 rfl rfl (τ' := sI τ 0 100 v) (by rcases hz with h | h <;> subst h <;> rfl) (by rcases hz with h | h <;> subst h <;> rfl) (by simp [rgV, twKs, sI]) rgV_I rgSo_I hdg (fun H1 l1 z hP hS => kk _ H1 l1 (hT _ rfl) ⟨hP, z.trans hI.2.1, hS⟩)
theorem tg_101 (hC : tC p m c cc nL s args D dA ad) (hI : tI D dA ad sz H0 τ H locs) (hdg : decode cc pc = .ok (.getfield 240, 3)) (kk : W p l e R s m args below meth c H locs cells slots Q (F0 m (pc + 3) ls (.ref (ad 102) :: rest))) : W p l e R s m args below meth c H locs cells slots Q (F0 m pc ls (.ref (ad 0) :: rest)) := rg_get hC.1 hC.2.1 hI.1 tl_0 rfl in_X6 101 (Nat.le_of_ble_eq_true rfl) q1801 rfl (congrArg (fun z => Value.ref (ad z)) (Nat.zero_add 102)) hdg kk
theorem tg_102 (hC : tC p m c cc nL s args D dA ad) (hI : tI D dA ad sz H0 τ H locs) (hdg : decode cc pc = .ok (.getfield 679, 3)) (kk : W p l e R s m args below meth c H locs cells slots Q (F0 m (pc + 3) ls (.int (τ.1 0 102) :: rest))) : W p l e R s m args below meth c H locs cells slots Q (F0 m pc ls (.ref (ad 0) :: rest)) := rg_get hC.1 hC.2.1 hI.1 tl_0 rfl in_X6 102 (Nat.le_of_ble_eq_true rfl) q1802 rfl rfl hdg kk
theorem tp_102 (hC : tC p m c cc nL s args D dA ad) (hI : tI D dA ad sz H0 τ H locs) {v : Int32} {P : Sto → Prop} (hT : ∀ y, y = sI τ 0 102 v → P y) (hdg : decode cc pc = .ok (.putfield 679, 3)) (kk : ∀ (τ1 : Sto) (H1 : Heap) (locs1 : List Loc), P τ1 → tI D dA ad sz H0 τ1 H1 locs1 → W p l e R s m args below meth c H1 locs1 cells slots Q (F0 m (pc + 3) ls rest)) : W p l e R s m args below meth c H locs cells slots Q (F0 m pc ls (.int v :: .ref (ad 0) :: rest)) := rg_put hC.1 hC.2.1 hI.1 hC.2.2 hI.2.2 (fun _ h => h) tl_0 rfl in_X6 tyX6 tyX6_ok nmX6 102 (Nat.le_of_ble_eq_true rfl) q1802 rfl rfl (τ' := sI τ 0 102 v) rfl rfl (by simp [rgV, twKs, sI]) rgV_I rgSo_I hdg (fun H1 l1 z hP hS => kk _ H1 l1 (hT _ rfl) ⟨hP, z.trans hI.2.1, hS⟩)
theorem tw_iald (hC : tC p m c cc nL s args D dA ad) (hI : tI D dA ad sz H0 τ H locs) {id n : Nat} (hL : twL id = some (.inr (0, n))) {i : Int32} (hT : vp_in i n ∧ P) (hdg : decode cc pc = .ok (.iaload, 1)) (kk : P → W p l e R s m args below meth c H locs cells slots Q (F0 m (pc + 1) ls (.int (τ.1 id i.toNatClampNeg) :: rest))) : W p l e R s m args below meth c H locs cells slots Q (F0 m pc ls (.int i :: .ref (ad id) :: rest)) := rg_iald hC.1 hC.2.1 hI.1 hL hT.1 hdg (kk hT.2)
theorem tw_bald (hC : tC p m c cc nL s args D dA ad) (hI : tI D dA ad sz H0 τ H locs) {id n : Nat} (hL : twL id = some (.inr (1, n))) {i : Int32} (hT : vp_in i n ∧ P) (hdg : decode cc pc = .ok (.baload, 1)) (kk : P → W p l e R s m args below meth c H locs cells slots Q (F0 m (pc + 1) ls (.int (τ.1 id i.toNatClampNeg) :: rest))) : W p l e R s m args below meth c H locs cells slots Q (F0 m pc ls (.int i :: .ref (ad id) :: rest)) := rg_bald hC.1 hC.2.1 hI.1 hL hT.1 hdg (kk hT.2)
theorem tw_zald (hC : tC p m c cc nL s args D dA ad) (hI : tI D dA ad sz H0 τ H locs) {id n : Nat} (hL : twL id = some (.inr (2, n))) {i : Int32} (hT : vp_in i n ∧ P) (hdg : decode cc pc = .ok (.baload, 1)) (kk : P → W p l e R s m args below meth c H locs cells slots Q (F0 m (pc + 1) ls (.int (τ.1 id i.toNatClampNeg) :: rest))) : W p l e R s m args below meth c H locs cells slots Q (F0 m pc ls (.int i :: .ref (ad id) :: rest)) := rg_zald hC.1 hC.2.1 hI.1 hL hT.1 hdg (kk hT.2)
theorem tw_cald (hC : tC p m c cc nL s args D dA ad) (hI : tI D dA ad sz H0 τ H locs) {id n : Nat} (hL : twL id = some (.inr (3, n))) {i : Int32} (hT : vp_in i n ∧ P) (hdg : decode cc pc = .ok (.caload, 1)) (kk : P → W p l e R s m args below meth c H locs cells slots Q (F0 m (pc + 1) ls (.int (τ.1 id i.toNatClampNeg) :: rest))) : W p l e R s m args below meth c H locs cells slots Q (F0 m pc ls (.int i :: .ref (ad id) :: rest)) := rg_cald hC.1 hC.2.1 hI.1 hL hT.1 hdg (kk hT.2)
theorem tw_lald (hC : tC p m c cc nL s args D dA ad) (hI : tI D dA ad sz H0 τ H locs) {id n : Nat} (hL : twL id = some (.inr (4, n))) {i : Int32} (hT : vp_in i n ∧ P) (hdg : decode cc pc = .ok (.laload, 1)) (kk : P → W p l e R s m args below meth c H locs cells slots Q (F0 m (pc + 1) ls (.long (τ.2.1 id i.toNatClampNeg) :: rest))) : W p l e R s m args below meth c H locs cells slots Q (F0 m pc ls (.int i :: .ref (ad id) :: rest)) := rg_lald hC.1 hC.2.1 hI.1 hL hT.1 hdg (kk hT.2)
theorem tw_iast (hC : tC p m c cc nL s args D dA ad) (hI : tI D dA ad sz H0 τ H locs) {id n : Nat} (hL : twL id = some (.inr (0, n))) {i : Int32} {x : Int32} {P : Sto → Prop} (hT : vp_in i n ∧ ∀ y, y = sI τ id i.toNatClampNeg x → P y) (hdg : decode cc pc = .ok (.iastore, 1)) (kk : ∀ (τ1 : Sto) (H1 : Heap) (locs1 : List Loc), P τ1 → tI D dA ad sz H0 τ1 H1 locs1 → W p l e R s m args below meth c H1 locs1 cells slots Q (F0 m (pc + 1) ls rest)) : W p l e R s m args below meth c H locs cells slots Q (F0 m pc ls (.int x :: .int i :: .ref (ad id) :: rest)) := rg_iast hC.1 hC.2.1 hI.1 hC.2.2 hI.2.2 (fun _ h => h) hL hT.1 hdg (fun H1 l1 z hP hS => kk _ H1 l1 (hT.2 _ rfl) ⟨hP, z.trans hI.2.1, hS⟩)
theorem tw_bast (hC : tC p m c cc nL s args D dA ad) (hI : tI D dA ad sz H0 τ H locs) {id n : Nat} (hL : twL id = some (.inr (1, n))) {i : Int32} {x : Int32} {P : Sto → Prop} (hT : vp_in i n ∧ ∀ y, y = sI τ id i.toNatClampNeg (vp_nar .byte x) → P y) (hdg : decode cc pc = .ok (.bastore, 1)) (kk : ∀ (τ1 : Sto) (H1 : Heap) (locs1 : List Loc), P τ1 → tI D dA ad sz H0 τ1 H1 locs1 → W p l e R s m args below meth c H1 locs1 cells slots Q (F0 m (pc + 1) ls rest)) : W p l e R s m args below meth c H locs cells slots Q (F0 m pc ls (.int x :: .int i :: .ref (ad id) :: rest)) := rg_bast hC.1 hC.2.1 hI.1 hC.2.2 hI.2.2 (fun _ h => h) hL hT.1 hdg (fun H1 l1 z hP hS => kk _ H1 l1 (hT.2 _ rfl) ⟨hP, z.trans hI.2.1, hS⟩)
theorem tw_zast (hC : tC p m c cc nL s args D dA ad) (hI : tI D dA ad sz H0 τ H locs) {id n : Nat} (hL : twL id = some (.inr (2, n))) {i : Int32} {x : Int32} {P : Sto → Prop} (hT : vp_in i n ∧ ∀ y, y = sI τ id i.toNatClampNeg (vp_nar .boolean x) → P y) (hdg : decode cc pc = .ok (.bastore, 1)) (kk : ∀ (τ1 : Sto) (H1 : Heap) (locs1 : List Loc), P τ1 → tI D dA ad sz H0 τ1 H1 locs1 → W p l e R s m args below meth c H1 locs1 cells slots Q (F0 m (pc + 1) ls rest)) : W p l e R s m args below meth c H locs cells slots Q (F0 m pc ls (.int x :: .int i :: .ref (ad id) :: rest)) := rg_zast hC.1 hC.2.1 hI.1 hC.2.2 hI.2.2 (fun _ h => h) hL hT.1 hdg (fun H1 l1 z hP hS => kk _ H1 l1 (hT.2 _ rfl) ⟨hP, z.trans hI.2.1, hS⟩)
theorem tw_cast (hC : tC p m c cc nL s args D dA ad) (hI : tI D dA ad sz H0 τ H locs) {id n : Nat} (hL : twL id = some (.inr (3, n))) {i : Int32} {x : Int32} {P : Sto → Prop} (hT : vp_in i n ∧ ∀ y, y = sI τ id i.toNatClampNeg (vp_nar .char x) → P y) (hdg : decode cc pc = .ok (.castore, 1)) (kk : ∀ (τ1 : Sto) (H1 : Heap) (locs1 : List Loc), P τ1 → tI D dA ad sz H0 τ1 H1 locs1 → W p l e R s m args below meth c H1 locs1 cells slots Q (F0 m (pc + 1) ls rest)) : W p l e R s m args below meth c H locs cells slots Q (F0 m pc ls (.int x :: .int i :: .ref (ad id) :: rest)) := rg_cast hC.1 hC.2.1 hI.1 hC.2.2 hI.2.2 (fun _ h => h) hL hT.1 hdg (fun H1 l1 z hP hS => kk _ H1 l1 (hT.2 _ rfl) ⟨hP, z.trans hI.2.1, hS⟩)
theorem tw_last (hC : tC p m c cc nL s args D dA ad) (hI : tI D dA ad sz H0 τ H locs) {id n : Nat} (hL : twL id = some (.inr (4, n))) {i : Int32} {x : Int64} {P : Sto → Prop} (hT : vp_in i n ∧ ∀ y, y = sL τ id i.toNatClampNeg x → P y) (hdg : decode cc pc = .ok (.lastore, 1)) (kk : ∀ (τ1 : Sto) (H1 : Heap) (locs1 : List Loc), P τ1 → tI D dA ad sz H0 τ1 H1 locs1 → W p l e R s m args below meth c H1 locs1 cells slots Q (F0 m (pc + 1) ls rest)) : W p l e R s m args below meth c H locs cells slots Q (F0 m pc ls (.long x :: .int i :: .ref (ad id) :: rest)) := rg_last hC.1 hC.2.1 hI.1 hC.2.2 hI.2.2 (fun _ h => h) hL hT.1 hdg (fun H1 l1 z hP hS => kk _ H1 l1 (hT.2 _ rfl) ⟨hP, z.trans hI.2.1, hS⟩)
theorem tw_alen (hC : tC p m c cc nL s args D dA ad) (hI : tI D dA ad sz H0 τ H locs) {id t n : Nat} (hL : twL id = some (.inr (t, n))) (ht : t < 8) (hdg : decode cc pc = .ok (.arraylength, 1)) (kk : W p l e R s m args below meth c H locs cells slots Q (F0 m (pc + 1) ls (.int (Int32.ofNat n) :: rest))) : W p l e R s m args below meth c H locs cells slots Q (F0 m pc ls (.ref (ad id) :: rest)) := rg_alen hC.1 hC.2.1 hI.1 hL ht rfl hdg kk
theorem rl_i_lt (x y : Int64) : lg_cmp x y < 0 ↔ x < y := by
  have h0 : ∀ a b : Int64, a < b ↔ a.toInt < b.toInt := fun a b => Int64.lt_iff_toInt_lt
  have h1 : ∀ a b : Int64, a ≤ b ↔ a.toInt ≤ b.toInt := fun a b => Int64.le_iff_toInt_le
  have h2 : ∀ a b : Int64, a = b ↔ a.toInt = b.toInt := fun a b => Int64.toInt_inj.symm
  simp only [lg_cmp]
  by_cases a : y < x
  · rw [if_pos a]; rw [h0] at a; simp only [h0, h1, h2]
    refine ⟨fun h => ?_, fun h => ?_⟩ <;> first | omega | (exfalso; revert h; decide) | decide
  · rw [if_neg a]
    by_cases b : x = y
    · rw [if_pos b]; rw [h0] at a; rw [h2] at b; simp only [h0, h1, h2]
      refine ⟨fun h => ?_, fun h => ?_⟩ <;> first | omega | (exfalso; revert h; decide) | decide
    · rw [if_neg b]; rw [h0] at a; rw [h2] at b; simp only [h0, h1, h2]
      refine ⟨fun h => ?_, fun h => ?_⟩ <;> first | omega | (exfalso; revert h; decide) | decide
theorem rl_lt (hx : p.tables.exec = Jvm.exec) (hb : c.code = cc) {x y : Int64} {off : Int} {tgt : Nat} (h1 : decode cc pc = .ok (.lcmp, 1)) (h2 : decode cc (pc + 1) = .ok (.ifCond .lt off, 3)) (ht : ((pc + 1 : Nat) : Int) + off = (tgt : Int)) (kt : x < y → W p l e R s m args below meth c H locs cells slots Q (F0 m tgt ls rest)) (kf : ¬ x < y → W p l e R s m args below meth c H locs cells slots Q (F0 m (pc + 1 + 3) ls rest)) : W p l e R s m args below meth c H locs cells slots Q (F0 m pc ls (.long y :: .long x :: rest)) := W.lcmp hx hb h1 (lv_if_lt hx hb h2 ht (fun h => kt ((rl_i_lt x y).mp h)) (fun h => kf (fun z => h ((rl_i_lt x y).mpr z))))
theorem rl_i_ge (x y : Int64) : 0 ≤ lg_cmp x y ↔ y ≤ x := by
  have h0 : ∀ a b : Int64, a < b ↔ a.toInt < b.toInt := fun a b => Int64.lt_iff_toInt_lt
  have h1 : ∀ a b : Int64, a ≤ b ↔ a.toInt ≤ b.toInt := fun a b => Int64.le_iff_toInt_le
  have h2 : ∀ a b : Int64, a = b ↔ a.toInt = b.toInt := fun a b => Int64.toInt_inj.symm
  simp only [lg_cmp]
  by_cases a : y < x
  · rw [if_pos a]; rw [h0] at a; simp only [h0, h1, h2]
    refine ⟨fun h => ?_, fun h => ?_⟩ <;> first | omega | (exfalso; revert h; decide) | decide
  · rw [if_neg a]
    by_cases b : x = y
    · rw [if_pos b]; rw [h0] at a; rw [h2] at b; simp only [h0, h1, h2]
      refine ⟨fun h => ?_, fun h => ?_⟩ <;> first | omega | (exfalso; revert h; decide) | decide
    · rw [if_neg b]; rw [h0] at a; rw [h2] at b; simp only [h0, h1, h2]
      refine ⟨fun h => ?_, fun h => ?_⟩ <;> first | omega | (exfalso; revert h; decide) | decide
theorem rl_ge (hx : p.tables.exec = Jvm.exec) (hb : c.code = cc) {x y : Int64} {off : Int} {tgt : Nat} (h1 : decode cc pc = .ok (.lcmp, 1)) (h2 : decode cc (pc + 1) = .ok (.ifCond .ge off, 3)) (ht : ((pc + 1 : Nat) : Int) + off = (tgt : Int)) (kt : y ≤ x → W p l e R s m args below meth c H locs cells slots Q (F0 m tgt ls rest)) (kf : ¬ y ≤ x → W p l e R s m args below meth c H locs cells slots Q (F0 m (pc + 1 + 3) ls rest)) : W p l e R s m args below meth c H locs cells slots Q (F0 m pc ls (.long y :: .long x :: rest)) := W.lcmp hx hb h1 (lv_if_ge hx hb h2 ht (fun h => kt ((rl_i_ge x y).mp h)) (fun h => kf (fun z => h ((rl_i_ge x y).mpr z))))
theorem rl_i_gt (x y : Int64) : 0 < lg_cmp x y ↔ y < x := by
  have h0 : ∀ a b : Int64, a < b ↔ a.toInt < b.toInt := fun a b => Int64.lt_iff_toInt_lt
  have h1 : ∀ a b : Int64, a ≤ b ↔ a.toInt ≤ b.toInt := fun a b => Int64.le_iff_toInt_le
  have h2 : ∀ a b : Int64, a = b ↔ a.toInt = b.toInt := fun a b => Int64.toInt_inj.symm
  simp only [lg_cmp]
  by_cases a : y < x
  · rw [if_pos a]; rw [h0] at a; simp only [h0, h1, h2]
    refine ⟨fun h => ?_, fun h => ?_⟩ <;> first | omega | (exfalso; revert h; decide) | decide
  · rw [if_neg a]
    by_cases b : x = y
    · rw [if_pos b]; rw [h0] at a; rw [h2] at b; simp only [h0, h1, h2]
      refine ⟨fun h => ?_, fun h => ?_⟩ <;> first | omega | (exfalso; revert h; decide) | decide
    · rw [if_neg b]; rw [h0] at a; rw [h2] at b; simp only [h0, h1, h2]
      refine ⟨fun h => ?_, fun h => ?_⟩ <;> first | omega | (exfalso; revert h; decide) | decide
theorem rl_gt (hx : p.tables.exec = Jvm.exec) (hb : c.code = cc) {x y : Int64} {off : Int} {tgt : Nat} (h1 : decode cc pc = .ok (.lcmp, 1)) (h2 : decode cc (pc + 1) = .ok (.ifCond .gt off, 3)) (ht : ((pc + 1 : Nat) : Int) + off = (tgt : Int)) (kt : y < x → W p l e R s m args below meth c H locs cells slots Q (F0 m tgt ls rest)) (kf : ¬ y < x → W p l e R s m args below meth c H locs cells slots Q (F0 m (pc + 1 + 3) ls rest)) : W p l e R s m args below meth c H locs cells slots Q (F0 m pc ls (.long y :: .long x :: rest)) := W.lcmp hx hb h1 (lv_if_gt hx hb h2 ht (fun h => kt ((rl_i_gt x y).mp h)) (fun h => kf (fun z => h ((rl_i_gt x y).mpr z))))
theorem rl_i_le (x y : Int64) : lg_cmp x y ≤ 0 ↔ x ≤ y := by
  have h0 : ∀ a b : Int64, a < b ↔ a.toInt < b.toInt := fun a b => Int64.lt_iff_toInt_lt
  have h1 : ∀ a b : Int64, a ≤ b ↔ a.toInt ≤ b.toInt := fun a b => Int64.le_iff_toInt_le
  have h2 : ∀ a b : Int64, a = b ↔ a.toInt = b.toInt := fun a b => Int64.toInt_inj.symm
  simp only [lg_cmp]
  by_cases a : y < x
  · rw [if_pos a]; rw [h0] at a; simp only [h0, h1, h2]
    refine ⟨fun h => ?_, fun h => ?_⟩ <;> first | omega | (exfalso; revert h; decide) | decide
  · rw [if_neg a]
    by_cases b : x = y
    · rw [if_pos b]; rw [h0] at a; rw [h2] at b; simp only [h0, h1, h2]
      refine ⟨fun h => ?_, fun h => ?_⟩ <;> first | omega | (exfalso; revert h; decide) | decide
    · rw [if_neg b]; rw [h0] at a; rw [h2] at b; simp only [h0, h1, h2]
      refine ⟨fun h => ?_, fun h => ?_⟩ <;> first | omega | (exfalso; revert h; decide) | decide
theorem rl_le (hx : p.tables.exec = Jvm.exec) (hb : c.code = cc) {x y : Int64} {off : Int} {tgt : Nat} (h1 : decode cc pc = .ok (.lcmp, 1)) (h2 : decode cc (pc + 1) = .ok (.ifCond .le off, 3)) (ht : ((pc + 1 : Nat) : Int) + off = (tgt : Int)) (kt : x ≤ y → W p l e R s m args below meth c H locs cells slots Q (F0 m tgt ls rest)) (kf : ¬ x ≤ y → W p l e R s m args below meth c H locs cells slots Q (F0 m (pc + 1 + 3) ls rest)) : W p l e R s m args below meth c H locs cells slots Q (F0 m pc ls (.long y :: .long x :: rest)) := W.lcmp hx hb h1 (lv_if_le hx hb h2 ht (fun h => kt ((rl_i_le x y).mp h)) (fun h => kf (fun z => h ((rl_i_le x y).mpr z))))
theorem rl_i_eq (x y : Int64) : lg_cmp x y = 0 ↔ x = y := by
  have h0 : ∀ a b : Int64, a < b ↔ a.toInt < b.toInt := fun a b => Int64.lt_iff_toInt_lt
  have h1 : ∀ a b : Int64, a ≤ b ↔ a.toInt ≤ b.toInt := fun a b => Int64.le_iff_toInt_le
  have h2 : ∀ a b : Int64, a = b ↔ a.toInt = b.toInt := fun a b => Int64.toInt_inj.symm
  simp only [lg_cmp]
  by_cases a : y < x
  · rw [if_pos a]; rw [h0] at a; simp only [h0, h1, h2]
    refine ⟨fun h => ?_, fun h => ?_⟩ <;> first | omega | (exfalso; revert h; decide) | decide
  · rw [if_neg a]
    by_cases b : x = y
    · rw [if_pos b]; rw [h0] at a; rw [h2] at b; simp only [h0, h1, h2]
      refine ⟨fun h => ?_, fun h => ?_⟩ <;> first | omega | (exfalso; revert h; decide) | decide
    · rw [if_neg b]; rw [h0] at a; rw [h2] at b; simp only [h0, h1, h2]
      refine ⟨fun h => ?_, fun h => ?_⟩ <;> first | omega | (exfalso; revert h; decide) | decide
theorem rl_eq (hx : p.tables.exec = Jvm.exec) (hb : c.code = cc) {x y : Int64} {off : Int} {tgt : Nat} (h1 : decode cc pc = .ok (.lcmp, 1)) (h2 : decode cc (pc + 1) = .ok (.ifCond .eq off, 3)) (ht : ((pc + 1 : Nat) : Int) + off = (tgt : Int)) (kt : x = y → W p l e R s m args below meth c H locs cells slots Q (F0 m tgt ls rest)) (kf : ¬ x = y → W p l e R s m args below meth c H locs cells slots Q (F0 m (pc + 1 + 3) ls rest)) : W p l e R s m args below meth c H locs cells slots Q (F0 m pc ls (.long y :: .long x :: rest)) := W.lcmp hx hb h1 (lv_if_eq hx hb h2 ht (fun h => kt ((rl_i_eq x y).mp h)) (fun h => kf (fun z => h ((rl_i_eq x y).mpr z))))
theorem rl_i_ne (x y : Int64) : ¬ lg_cmp x y = 0 ↔ ¬ x = y := by
  have h0 : ∀ a b : Int64, a < b ↔ a.toInt < b.toInt := fun a b => Int64.lt_iff_toInt_lt
  have h1 : ∀ a b : Int64, a ≤ b ↔ a.toInt ≤ b.toInt := fun a b => Int64.le_iff_toInt_le
  have h2 : ∀ a b : Int64, a = b ↔ a.toInt = b.toInt := fun a b => Int64.toInt_inj.symm
  simp only [lg_cmp]
  by_cases a : y < x
  · rw [if_pos a]; rw [h0] at a; simp only [h0, h1, h2]
    refine ⟨fun h => ?_, fun h => ?_⟩ <;> first | omega | (exfalso; revert h; decide) | decide
  · rw [if_neg a]
    by_cases b : x = y
    · rw [if_pos b]; rw [h0] at a; rw [h2] at b; simp only [h0, h1, h2]
      refine ⟨fun h => ?_, fun h => ?_⟩ <;> first | omega | (exfalso; revert h; decide) | decide
    · rw [if_neg b]; rw [h0] at a; rw [h2] at b; simp only [h0, h1, h2]
      refine ⟨fun h => ?_, fun h => ?_⟩ <;> first | omega | (exfalso; revert h; decide) | decide
theorem rl_ne (hx : p.tables.exec = Jvm.exec) (hb : c.code = cc) {x y : Int64} {off : Int} {tgt : Nat} (h1 : decode cc pc = .ok (.lcmp, 1)) (h2 : decode cc (pc + 1) = .ok (.ifCond .ne off, 3)) (ht : ((pc + 1 : Nat) : Int) + off = (tgt : Int)) (kt : ¬ x = y → W p l e R s m args below meth c H locs cells slots Q (F0 m tgt ls rest)) (kf : x = y → W p l e R s m args below meth c H locs cells slots Q (F0 m (pc + 1 + 3) ls rest)) : W p l e R s m args below meth c H locs cells slots Q (F0 m pc ls (.long y :: .long x :: rest)) := W.lcmp hx hb h1 (lv_if_ne hx hb h2 ht (fun h => kt ((rl_i_ne x y).mp h)) (fun h => kf ((rl_i_eq x y).mp h)))
end TW
theorem tw_meti {l : Launch} {y : MethodName} {cc : ByteArray} {n : Nat} {rm : Room} {av : List Value} {D : va_G} {dA : Nat → ClassId} {ad : Nat → Nat} {sz : Nat} {τ : Sto} {K : Int32 → Sto → Prop} (hJ : rgJ twL ad) (hy : plainName y.cls = true) (ho : y.cls = RX6) (hn : (lg_sl av).length ≤ n)
    (body : ∀ (p : Program) (e : Env) (s : State) (m : MethodId) (args : Array Value) (below : List Frame) (meth : Method) (c : Code) (Q : State → Prop), tC p m c cc n s args D dA ad → (∀ (v : Int32) (τ : Sto) (H : Heap) (locs : List Loc) (ls : Array Slot) (pc : Nat), K v τ → tI D dA ad sz s.heap τ H locs → decode cc pc = .ok (.ireturn, 1) → W p l e rm s m args below meth c H locs 0 0 Q (F0 m pc ls [.int v])) → tI D dA ad sz s.heap τ s.heap [] → ∀ ls : Array Slot, lv_has ls n (lv_args 0 av) → W p l e rm s m args below meth c s.heap [] 0 0 Q (F0 m 0 ls [])) :
    Met l y (ws_ y cc n (some .int)) rm (va_Pc av (rgU D vwCl dA twL ad sz τ)) (va_Qi K (rgU D vwCl dA twL ad sz) (rgAd twL ad)) 0 0 (rgAd twL ad) := by
  refine rg_open hy ho hn ?_
  intro p e s m below meth c S hr hlocks _ hU ls hl
  exact body p e s m _ below meth c _ ⟨S, hU.2.2, hJ⟩ (fun v τ H locs ls pc hk hI hdg => rg_iret S hr hlocks hU.2.2 hI.1 hI.2.1 hI.2.2 hk hdg) ⟨hU.2.1, hU.1, va_S.rf⟩ ls hl
theorem tw_metz {l : Launch} {y : MethodName} {cc : ByteArray} {n : Nat} {rm : Room} {av : List Value} {D : va_G} {dA : Nat → ClassId} {ad : Nat → Nat} {sz : Nat} {τ : Sto} {K : Int32 → Sto → Prop} (hJ : rgJ twL ad) (hy : plainName y.cls = true) (ho : y.cls = RX6) (hn : (lg_sl av).length ≤ n)
    (body : ∀ (p : Program) (e : Env) (s : State) (m : MethodId) (args : Array Value) (below : List Frame) (meth : Method) (c : Code) (Q : State → Prop), tC p m c cc n s args D dA ad → (∀ (v : Int32) (τ : Sto) (H : Heap) (locs : List Loc) (ls : Array Slot) (pc : Nat), (v = 0 ∨ v = 1) → K v τ → tI D dA ad sz s.heap τ H locs → decode cc pc = .ok (.ireturn, 1) → W p l e rm s m args below meth c H locs 0 0 Q (F0 m pc ls [.int v])) → tI D dA ad sz s.heap τ s.heap [] → ∀ ls : Array Slot, lv_has ls n (lv_args 0 av) → W p l e rm s m args below meth c s.heap [] 0 0 Q (F0 m 0 ls [])) :
    Met l y (ws_ y cc n (some .boolean)) rm (va_Pc av (rgU D vwCl dA twL ad sz τ)) (va_Qi K (rgU D vwCl dA twL ad sz) (rgAd twL ad)) 0 0 (rgAd twL ad) := by
  refine rg_open hy ho hn ?_
  intro p e s m below meth c S hr hlocks _ hU ls hl
  exact body p e s m _ below meth c _ ⟨S, hU.2.2, hJ⟩ (fun v τ H locs ls pc hz hk hI hdg => rg_zret S hr hlocks hU.2.2 hI.1 hI.2.1 hI.2.2 hz hk hdg) ⟨hU.2.1, hU.1, va_S.rf⟩ ls hl
theorem tw_metl {l : Launch} {y : MethodName} {cc : ByteArray} {n : Nat} {rm : Room} {av : List Value} {D : va_G} {dA : Nat → ClassId} {ad : Nat → Nat} {sz : Nat} {τ : Sto} {K : Int64 → Sto → Prop} (hJ : rgJ twL ad) (hy : plainName y.cls = true) (ho : y.cls = RX6) (hn : (lg_sl av).length ≤ n)
    (body : ∀ (p : Program) (e : Env) (s : State) (m : MethodId) (args : Array Value) (below : List Frame) (meth : Method) (c : Code) (Q : State → Prop), tC p m c cc n s args D dA ad → (∀ (v : Int64) (τ : Sto) (H : Heap) (locs : List Loc) (ls : Array Slot) (pc : Nat), K v τ → tI D dA ad sz s.heap τ H locs → decode cc pc = .ok (.lreturn, 1) → W p l e rm s m args below meth c H locs 0 0 Q (F0 m pc ls [.long v])) → tI D dA ad sz s.heap τ s.heap [] → ∀ ls : Array Slot, lv_has ls n (lv_args 0 av) → W p l e rm s m args below meth c s.heap [] 0 0 Q (F0 m 0 ls [])) :
    Met l y (ws_ y cc n (some .long)) rm (va_Pc av (rgU D vwCl dA twL ad sz τ)) (va_Ql K (rgU D vwCl dA twL ad sz) (rgAd twL ad)) 0 0 (rgAd twL ad) := by
  refine rg_open hy ho hn ?_
  intro p e s m below meth c S hr hlocks _ hU ls hl
  exact body p e s m _ below meth c _ ⟨S, hU.2.2, hJ⟩ (fun v τ H locs ls pc hk hI hdg => rg_lret S hr hlocks hU.2.2 hI.1 hI.2.1 hI.2.2 hk hdg) ⟨hU.2.1, hU.1, va_S.rf⟩ ls hl
theorem tw_metv {l : Launch} {y : MethodName} {cc : ByteArray} {n : Nat} {rm : Room} {av : List Value} {D : va_G} {dA : Nat → ClassId} {ad : Nat → Nat} {sz : Nat} {τ : Sto} {K : Sto → Prop} (hJ : rgJ twL ad) (hy : plainName y.cls = true) (ho : y.cls = RX6) (hn : (lg_sl av).length ≤ n)
    (body : ∀ (p : Program) (e : Env) (s : State) (m : MethodId) (args : Array Value) (below : List Frame) (meth : Method) (c : Code) (Q : State → Prop), tC p m c cc n s args D dA ad → (∀ (τ : Sto) (H : Heap) (locs : List Loc) (ls : Array Slot) (pc : Nat), K τ → tI D dA ad sz s.heap τ H locs → decode cc pc = .ok (.return_, 1) → W p l e rm s m args below meth c H locs 0 0 Q (F0 m pc ls [])) → tI D dA ad sz s.heap τ s.heap [] → ∀ ls : Array Slot, lv_has ls n (lv_args 0 av) → W p l e rm s m args below meth c s.heap [] 0 0 Q (F0 m 0 ls [])) :
    Met l y (ws_ y cc n (none)) rm (va_Pc av (rgU D vwCl dA twL ad sz τ)) (va_Qv K (rgU D vwCl dA twL ad sz) (rgAd twL ad)) 0 0 (rgAd twL ad) := by
  refine rg_open hy ho hn ?_
  intro p e s m below meth c S hr hlocks _ hU ls hl
  exact body p e s m _ below meth c _ ⟨S, hU.2.2, hJ⟩ (fun τ H locs ls pc hk hI hdg => rg_vret S hr hlocks hU.2.2 hI.1 hI.2.1 hI.2.2 hk hdg) ⟨hU.2.1, hU.1, va_S.rf⟩ ls hl
