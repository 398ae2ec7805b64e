/-! THE COMPONENT'S REGION: cells by numbers in the order of their making; constants from CB on (read only). A state: how many cells, what each is, the store. -/
abbrev CS : Type := Nat × rgL × Sto
def CB : Nat := 1048576
def gI (σ : CS) (i j : Nat) : Int32 := σ.2.2.1 i j
def gL (σ : CS) (i j : Nat) : Int64 := σ.2.2.2.1 i j
def gR (σ : CS) (i j : Nat) : Nat := σ.2.2.2.2 i j
def gK (σ : CS) (i : Nat) : Option rgK := σ.2.1 i
def wI (σ : CS) (i j : Nat) (v : Int32) : CS := (σ.1, σ.2.1, sI σ.2.2 i j v)
def wL (σ : CS) (i j : Nat) (v : Int64) : CS := (σ.1, σ.2.1, sL σ.2.2 i j v)
def wR (σ : CS) (i j : Nat) (v : Nat) : CS := (σ.1, σ.2.1, sR σ.2.2 i j v)
/-- a new cell -/
def nC (σ : CS) (k : rgK) : CS := (σ.1 + 1, fun i => if i = σ.1 then some k else σ.2.1 i, fun a b => if a = σ.1 then 0 else σ.2.2.1 a b, fun a b => if a = σ.1 then 0 else σ.2.2.2.1 a b, fun a b => if a = σ.1 then 0 else σ.2.2.2.2 a b)
def rgE (ad : Nat → Nat) (τ : Sto) (id t j : Nat) : Value := if t < 4 then .int (τ.1 id j) else if t = 4 then .long (τ.2.1 id j) else va_rf (rgR ad (τ.2.2 id j))
/-- what reads ask of a cell -/
def xWk (D : va_G) (dA : Nat → ClassId) (ad : Nat → Nat) (τ : Sto) (id : Nat) (H : Heap) : rgK → Prop
  | .inl o => ∃ cell : Cell, H[ad id]? = some cell ∧ cell.cls = D.1 o.1 ∧ cell.vm ≠ .unknown ∧ cell.vm.isStatics = false ∧ ∀ k, k < o.2.1 → cell.slots[D.2 o.1 k]? = some (rgV ad τ id (o.2.2 k) k)
  | .inr a => ∃ cell : Cell, H[ad id]? = some cell ∧ cell.cls = dA a.1 ∧ cell.vm ≠ .unknown ∧ cell.vm.isStatics = false ∧ cell.slots.size = a.2 ∧ ∀ j, j < a.2 → cell.slots[j]? = some (rgE ad τ id a.1 j)
def xP (D : va_G) (dA : Nat → ClassId) (L : rgL) (ad : Nat → Nat) (τ : Sto) (H : Heap) : Prop := ∀ (id : Nat) (k : rgK), L id = some k → (id < CB → rgAt D dA ad τ id H k) ∧ (CB ≤ id → xWk D dA ad τ id H k)
theorem rgA_cell {ad : Nat → Nat} {τ : Sto} {id t n : Nat} {cA : ClassId} : vp_cell cA (n, rgA ad τ id t) = arrV cA n (fun j => rgE ad τ id t j) := by
  unfold rgA rgE
  by_cases h : t < 4
  · simp only [h, if_true]; exact vp_cell_i ..
  · by_cases h4 : t = 4
    · simp only [h, h4, if_true, if_false]; exact vp_cell_l ..
    · simp only [h, h4, if_false]; exact vp_cell_q ..
theorem xWk_of {D : va_G} {dA : Nat → ClassId} {ad : Nat → Nat} {τ : Sto} {id : Nat} {H : Heap} {k : rgK} (h : rgAt D dA ad τ id H k) : xWk D dA ad τ id H k := by
  cases k with
  | inl o =>
    obtain ⟨cell, h1, h2, h3, h4⟩ := h
    exact ⟨cell, h1, h2, (by rw [h3]; exact fun z => (by cases z)), (by rw [h3]; rfl), h4⟩
  | inr a =>
    refine ⟨_, h, ?_, ?_, ?_, ?_, ?_⟩ <;> rw [rgA_cell]
    · rfl
    · exact fun z => by cases z
    · rfl
    · exact arrV_size ..
    · exact fun j hj => arrV_read _ _ hj
theorem xP.wk {D : va_G} {dA : Nat → ClassId} {L : rgL} {ad : Nat → Nat} {τ : Sto} {H : Heap} (hP : xP D dA L ad τ H) {id : Nat} {k : rgK} (hL : L id = some k) : xWk D dA ad τ id H k := by
  by_cases h : id < CB
  · exact xWk_of ((hP id k hL).1 h)
  · exact (hP id k hL).2 (Nat.not_lt.mp h)
theorem xWk.congr {D : va_G} {dA : Nat → ClassId} {ad : Nat → Nat} {τ τ' : Sto} {id : Nat} {H H1 : Heap} {k : rgK} (h : xWk D dA ad τ id H k) (hq : H1[ad id]? = H[ad id]?) (e1 : τ'.1 id = τ.1 id) (e2 : τ'.2.1 id = τ.2.1 id) (e3 : τ'.2.2 id = τ.2.2 id) : xWk D dA ad τ' id H1 k := by
  cases k with
  | inl o =>
    obtain ⟨cell, h1, h2, h3, h4, h5⟩ := h
    exact ⟨cell, hq.trans h1, h2, h3, h4, fun k hk => by rw [h5 k hk]; simp only [rgV, e1, e2, e3]⟩
  | inr a =>
    obtain ⟨cell, h1, h2, h3, h4, h5, h6⟩ := h
    exact ⟨cell, hq.trans h1, h2, h3, h4, h5, fun k hk => by rw [h6 k hk]; simp only [rgE, e1, e2, e3]⟩
theorem xP.upd {D : va_G} {dA : Nat → ClassId} {L : rgL} {ad : Nat → Nat} {τ τ' : Sto} {H H1 : Heap} (hP : xP D dA L ad τ H) {id : Nat} {k : rgK} (hc : id < CB) (hJ : ∀ i k', L i = some k' → ad i = ad id → i = id) (hL : L id = some k) (oq : ∀ q : Nat, q ≠ ad id → H1[q]? = H[q]?) (h1 : rgAt D dA ad τ' id H1 k)
    (ho : ∀ i, i ≠ id → τ'.1 i = τ.1 i ∧ τ'.2.1 i = τ.2.1 i ∧ τ'.2.2 i = τ.2.2 i) : xP D dA L ad τ' H1 := by
  intro i k' hi
  by_cases h : i = id
  · subst h
    rw [hL] at hi
    cases hi
    exact ⟨fun _ => h1, fun z => absurd hc (Nat.not_lt.mpr z)⟩
  · obtain ⟨e1, e2, e3⟩ := ho i h
    have hq := oq _ (fun z => h (hJ i k' hi z))
    exact ⟨fun z => ((hP i k' hi).1 z).congr hq e1 e2 e3, fun z => ((hP i k' hi).2 z).congr hq e1 e2 e3⟩
/-- the words that hold all through a run, but aren't among lw_all -/
def nwWord : Cond → Bool
  | .fieldLinkNest .. => true
  | .methodLinkNest .. => true
  | .castable .. => true
  | .declares .. => true
  | _ => false
def lw_nw : List Cond := lw_tbl.filter nwWord
theorem lw_n {w : Cond} (h : w ∈ lw_tbl) (g : nwWord w = true) : w ∈ lw_nw := List.mem_filter.mpr ⟨h, g⟩
theorem nw_warm {w : Cond} (g : nwWord w = true) {s U : State} (hW : s.WarmedH U.vm) (h : va_Nw w s) : va_Nw w U := by
  cases w <;> first | exact va_Nw.warmF hW h | exact va_Nw.warmM hW h | exact va_Nw.warmC hW h | exact va_Nw.warmD hW h | (cases g)
theorem nw_tab {w : Cond} (g : nwWord w = true) : w.onTables = true := by
  cases w <;> first | rfl | (cases g)
/-- the facts of the addresses: new cells come one behind the other from n0 on; apart; new ones, old ones -/
def cAd (ad : Nat → Nat) (n0 B0 : Nat) : Prop := (∀ k, n0 ≤ k → k < CB → ad (k + 1) = ad k + 1) ∧ (∀ i j, i < CB → ad i = ad j → i = j) ∧ (∀ i, i ≤ CB → B0 ≤ ad i)
def cA (ad : Nat → Nat) : Nat → Prop := fun q => ∃ i, i < CB ∧ ad i = q
def va_AI (U : State) : Prop := (Cond.arrayOver (.array .int)).before #[] U = true
theorem va_AI.spec {A : Array Value} {U : State} (h : (Cond.arrayOver (.array .int)).before A U = true) : ∃ (comp c : Nat) (k : Class), U.vm.findClass (FieldType.array .int).toString = some comp ∧ (U.vm.classes.findIdx? fun (x : Class) => match x.kind with | .array component _ => component == comp | _ => false) = some c ∧ U.vm.classes[c]? = some k ∧ k.kind = .array comp (.array .int) ∧ U.vm.findClass ("[" ++ (FieldType.array .int).toString) = some c := by
  unfold Cond.before Cond.holds at h
  simp only [Cond.value] at h
  cases h1 : U.vm.findClass (FieldType.array .int).toString with
  | none => rw [h1] at h; cases h
  | some comp =>
    rw [h1, Option.bind_some] at h
    cases h2 : (U.vm.classes.findIdx? fun (x : Class) => match x.kind with | .array component _ => component == comp | _ => false) with
    | none =>
      have h := (congrArg (fun o : Option Nat => (o.bind (fun c => (U.vm.classes[c]?).map fun (k : Class) => match k.kind with | .array _ ty => decide (ty = FieldType.array .int) && decide (U.vm.findClass ("[" ++ (FieldType.array .int).toString) = some c) | _ => false) == some true)) h2).symm.trans h
      cases h
    | some c =>
      have g := (congrArg (fun o : Option Nat => (o.bind (fun c => (U.vm.classes[c]?).map fun (k : Class) => match k.kind with | .array _ ty => decide (ty = FieldType.array .int) && decide (U.vm.findClass ("[" ++ (FieldType.array .int).toString) = some c) | _ => false) == some true)) h2).symm.trans h
      clear h
      rw [Option.bind_some] at g
      cases h3 : U.vm.classes[c]? with
      | none => rw [h3] at g; cases g
      | some k =>
        rw [h3] at g
        obtain ⟨hlt, hp, -⟩ := Array.findIdx?_eq_some_iff_getElem.mp h2
        have hk : U.vm.classes[c]'hlt = k := by
          have := Array.getElem?_eq_getElem hlt
          exact Option.some.inj (this.symm.trans h3)
        rw [hk] at hp
        cases hkk : k.kind with
        | array comp' ty =>
          rw [hkk] at hp
          simp [hkk] at g
          have e : comp' = comp := by simpa using hp
          subst e
          exact ⟨comp', c, k, rfl, h2, h3, by rw [hkk, g.1], g.2⟩
        | _ => rw [hkk] at hp; simp at hp
theorem va_AI.moved {u U : State} (hvm : u.vm.Alike U.vm) (h : va_AI u) : va_AI U := by
  obtain ⟨comp, c, k, h1, h2, h3, h4, h5⟩ := va_AI.spec h
  obtain ⟨k', hk', he⟩ := hvm.2.2 _ _ h3
  have hi : (U.vm.classes.findIdx? fun (x : Class) => match x.kind with | .array component _ => component == comp | _ => false) = some c := by
    have e : U.vm.bare = u.vm.bare := by first | exact hvm.bare_eq | exact hvm.bare_eq.symm
    exact (va_idx_bare U.vm comp).symm.trans ((by rw [e]; exact va_idx_bare u.vm comp : _ = _).trans h2)
  have hkind : k'.kind = .array comp (.array .int) := by rw [he]; exact h4
  have f1 : U.vm.findClass (FieldType.array .int).toString = some comp := by rw [hvm.findClass]; exact h1
  have f2 : U.vm.findClass ("[" ++ (FieldType.array .int).toString) = some c := by rw [hvm.findClass]; exact h5
  unfold va_AI Cond.before Cond.holds
  simp only [Cond.value]
  rw [f1, Option.bind_some]
  refine (congrArg (fun o : Option Nat => (o.bind (fun c => (U.vm.classes[c]?).map fun (k : Class) => match k.kind with | .array _ ty => decide (ty = FieldType.array .int) && decide (U.vm.findClass ("[" ++ (FieldType.array .int).toString) = some c) | _ => false) == some true)) hi).trans ?_
  simp [hk', hkind, f2]
