/-! PURE SIDE, the model's reader: its state and how writes move it. -/
theorem FrQ.w {τ0 τ : Sto} (h : FrQ τ0 τ) {i j : Nat} {v : Int32} (hs : scrQ i j) : FrQ τ0 (sI τ i j v) := by
  refine ⟨fun a b hab => ?_, h.2⟩
  rw [sI_1, if_neg]
  · exact h.1 a b hab
  · rintro ⟨rfl, rfl⟩; exact hab hs
theorem sI_same (τ : Sto) (i j : Nat) (v : Int32) : (sI τ i j v).1 i j = v := by simp [sI]
theorem sI_ne {τ : Sto} {i j a b : Nat} {v : Int32} (h : ¬ (a = i ∧ b = j)) : (sI τ i j v).1 a b = τ.1 a b := by simp [sI, h]
theorem sI_neI {τ : Sto} {i j a b : Nat} {v : Int32} (h : a ≠ i) : (sI τ i j v).1 a b = τ.1 a b := sI_ne (fun z => h z.1)
section RQs
variable {E E' : Int32 → Prop} {τ0 τ : Sto} {B : Byt} {n k o bs : Nat} {C W : List Int32}
theorem RQg.fr (h : RQg E τ0 n τ k C W o bs) : FrQ τ0 τ := h.1
theorem RQg.kn (h : RQg E τ0 n τ k C W o bs) : k ≤ n := h.2.1
theorem RQg.at_ (h : RQg E τ0 n τ k C W o bs) : τ.1 0 2 = nI k := h.2.2.1
theorem RQg.en (h : RQg E τ0 n τ k C W o bs) : E (τ.1 0 4) := h.2.2.2.1
theorem RQg.bad (h : RQg E τ0 n τ k C W o bs) : τ.1 0 5 = 0 := h.2.2.2.2.1.1
theorem RQg.bp (h : RQg E τ0 n τ k C W o bs) : τ.1 0 6 = τ0.1 0 6 := h.2.2.2.2.1.2
theorem RQg.cl (h : RQg E τ0 n τ k C W o bs) : τ.1 0 92 = nI C.length := h.2.2.2.2.2.1.1
theorem RQg.cc (h : RQg E τ0 n τ k C W o bs) : ∀ i, i < C.length → τ.1 92 i = C.getD i 0 := h.2.2.2.2.2.1.2
theorem RQg.wl (h : RQg E τ0 n τ k C W o bs) : τ.1 0 94 = nI W.length := h.2.2.2.2.2.2.1.1
theorem RQg.ww (h : RQg E τ0 n τ k C W o bs) : ∀ i, i < W.length → τ.1 94 i = W.reverse.getD i 0 := h.2.2.2.2.2.2.1.2
theorem RQg.op (h : RQg E τ0 n τ k C W o bs) : τ.1 0 95 = nI o := h.2.2.2.2.2.2.2.1
theorem RQg.ba (h : RQg E τ0 n τ k C W o bs) : τ.1 0 96 = nI bs := h.2.2.2.2.2.2.2.2
theorem RQg.end_ (h : RQg E τ0 n τ k C W o bs) (hT : TxT τ0 B n) : τ.1 0 3 = nI n := by rw [h.fr.1 0 3 (by simp [scrQ])]; exact hT.2.1
theorem RQg.tape (h : RQg E τ0 n τ k C W o bs) (hT : TxT τ0 B n) {i : Nat} (hi : i < n) : τ.1 1 i = nI (B i) := by rw [h.fr.1 1 i (by simp [scrQ])]; exact hT.2.2.1 i hi
theorem RQg.top {v : Int32} (h : RQg E τ0 n τ k C (v :: W) o bs) : τ.1 94 W.length = v := by
  rw [h.ww W.length (by simp)]
  simp [List.getD_eq_getElem?_getD]
/-- the place moves -/
theorem RQg.go (h : RQg E τ0 n τ k C W o bs) {k' : Nat} (hn : k' ≤ n) (he : E' (τ.1 0 4)) : RQg E' τ0 n (sI τ 0 2 (nI k')) k' C W o bs := by
  refine ⟨h.fr.w (by simp [scrQ]), hn, sI_same .., ?_, ?_, ⟨?_, ?_⟩, ⟨?_, ?_⟩, ?_, ?_⟩
  · rw [sI_ne (by simp)]; exact he
  · exact ⟨by rw [sI_ne (by simp)]; exact h.bad, by rw [sI_ne (by simp)]; exact h.bp⟩
  · rw [sI_ne (by simp)]; exact h.cl
  · intro i hi; rw [sI_neI (by simp)]; exact h.cc i hi
  · rw [sI_ne (by simp)]; exact h.wl
  · intro i hi; rw [sI_neI (by simp)]; exact h.ww i hi
  · rw [sI_ne (by simp)]; exact h.op
  · rw [sI_ne (by simp)]; exact h.ba
/-- behind a word -/
theorem RQg.goW (h : RQg E τ0 n τ k C W o bs) {k' : Nat} (hn : k' ≤ n) (he : E' (nI k')) : RQg E' τ0 n (sI (sI τ 0 2 (nI k')) 0 4 (nI k')) k' C W o bs := by
  refine ⟨(h.fr.w (by simp [scrQ])).w (by simp [scrQ]), hn, ?_, ?_, ?_, ⟨?_, ?_⟩, ⟨?_, ?_⟩, ?_, ?_⟩
  · rw [sI_ne (by simp)]; exact sI_same ..
  · rw [sI_same]; exact he
  · exact ⟨by rw [sI_ne (by simp), sI_ne (by simp)]; exact h.bad, by rw [sI_ne (by simp), sI_ne (by simp)]; exact h.bp⟩
  · rw [sI_ne (by simp), sI_ne (by simp)]; exact h.cl
  · intro i hi; rw [sI_neI (by simp), sI_neI (by simp)]; exact h.cc i hi
  · rw [sI_ne (by simp), sI_ne (by simp)]; exact h.wl
  · intro i hi; rw [sI_neI (by simp), sI_neI (by simp)]; exact h.ww i hi
  · rw [sI_ne (by simp), sI_ne (by simp)]; exact h.op
  · rw [sI_ne (by simp), sI_ne (by simp)]; exact h.ba
theorem RQg.name (h : RQg E τ0 n τ k C W o bs) {v : Int32} : RQg E τ0 n (sI τ 0 38 v) k C W o bs := by
  refine ⟨h.fr.w (by simp [scrQ]), h.kn, ?_, ?_, ?_, ⟨?_, ?_⟩, ⟨?_, ?_⟩, ?_, ?_⟩
  · rw [sI_ne (by simp)]; exact h.at_
  · rw [sI_ne (by simp)]; exact h.en
  · exact ⟨by rw [sI_ne (by simp)]; exact h.bad, by rw [sI_ne (by simp)]; exact h.bp⟩
  · rw [sI_ne (by simp)]; exact h.cl
  · intro i hi; rw [sI_neI (by simp)]; exact h.cc i hi
  · rw [sI_ne (by simp)]; exact h.wl
  · intro i hi; rw [sI_neI (by simp)]; exact h.ww i hi
  · rw [sI_ne (by simp)]; exact h.op
  · rw [sI_ne (by simp)]; exact h.ba
theorem RQg.opn (h : RQg E τ0 n τ k C W o bs) (o' : Nat) : RQg E τ0 n (sI τ 0 95 (nI o')) k C W o' bs := by
  refine ⟨h.fr.w (by simp [scrQ]), h.kn, ?_, ?_, ?_, ⟨?_, ?_⟩, ⟨?_, ?_⟩, sI_same .., ?_⟩
  · rw [sI_ne (by simp)]; exact h.at_
  · rw [sI_ne (by simp)]; exact h.en
  · exact ⟨by rw [sI_ne (by simp)]; exact h.bad, by rw [sI_ne (by simp)]; exact h.bp⟩
  · rw [sI_ne (by simp)]; exact h.cl
  · intro i hi; rw [sI_neI (by simp)]; exact h.cc i hi
  · rw [sI_ne (by simp)]; exact h.wl
  · intro i hi; rw [sI_neI (by simp)]; exact h.ww i hi
  · rw [sI_ne (by simp)]; exact h.ba
theorem RQg.bas (h : RQg E τ0 n τ k C W o bs) (b' : Nat) : RQg E τ0 n (sI τ 0 96 (nI b')) k C W o b' := by
  refine ⟨h.fr.w (by simp [scrQ]), h.kn, ?_, ?_, ?_, ⟨?_, ?_⟩, ⟨?_, ?_⟩, ?_, sI_same ..⟩
  · rw [sI_ne (by simp)]; exact h.at_
  · rw [sI_ne (by simp)]; exact h.en
  · exact ⟨by rw [sI_ne (by simp)]; exact h.bad, by rw [sI_ne (by simp)]; exact h.bp⟩
  · rw [sI_ne (by simp)]; exact h.cl
  · intro i hi; rw [sI_neI (by simp)]; exact h.cc i hi
  · rw [sI_ne (by simp)]; exact h.wl
  · intro i hi; rw [sI_neI (by simp)]; exact h.ww i hi
  · rw [sI_ne (by simp)]; exact h.op
theorem getD_app {l : List Int32} {v : Int32} {i : Nat} (hi : i < l.length + 1) : (l ++ [v]).getD i 0 = if i = l.length then v else l.getD i 0 := by
  by_cases e : i = l.length
  · subst e; simp [List.getD_eq_getElem?_getD]
  · rw [if_neg e]
    simp only [List.getD_eq_getElem?_getD]
    rw [List.getElem?_append_left (by omega)]
/-- a code is told -/
theorem RQg.code (h : RQg E τ0 n τ k C W o bs) (v : Int32) : RQg E τ0 n (sI (sI τ 92 C.length v) 0 92 (nI (C.length + 1))) k (C ++ [v]) W o bs := by
  refine ⟨(h.fr.w (by simp [scrQ])).w (by simp [scrQ]), h.kn, ?_, ?_, ?_, ⟨?_, ?_⟩, ⟨?_, ?_⟩, ?_, ?_⟩
  · rw [sI_ne (by simp), sI_neI (by simp)]; exact h.at_
  · rw [sI_ne (by simp), sI_neI (by simp)]; exact h.en
  · exact ⟨by rw [sI_ne (by simp), sI_neI (by simp)]; exact h.bad, by rw [sI_ne (by simp), sI_neI (by simp)]; exact h.bp⟩
  · rw [sI_same]; simp
  · intro i hi
    rw [List.length_append] at hi
    rw [sI_neI (by simp), getD_app (by simpa using hi)]
    by_cases e : i = C.length
    · subst e; rw [sI_same, if_pos rfl]
    · rw [sI_ne (by simp [e]), if_neg e]; exact h.cc i (by simp at hi; omega)
  · rw [sI_ne (by simp), sI_neI (by simp)]; exact h.wl
  · intro i hi; rw [sI_neI (by simp), sI_neI (by simp)]; exact h.ww i hi
  · rw [sI_ne (by simp), sI_neI (by simp)]; exact h.op
  · rw [sI_ne (by simp), sI_neI (by simp)]; exact h.ba
/-- what waits is put down -/
theorem RQg.push (h : RQg E τ0 n τ k C W o bs) (v : Int32) : RQg E τ0 n (sI (sI τ 94 W.length v) 0 94 (nI (W.length + 1))) k C (v :: W) o bs := by
  refine ⟨(h.fr.w (by simp [scrQ])).w (by simp [scrQ]), h.kn, ?_, ?_, ?_, ⟨?_, ?_⟩, ⟨?_, ?_⟩, ?_, ?_⟩
  · rw [sI_ne (by simp), sI_neI (by simp)]; exact h.at_
  · rw [sI_ne (by simp), sI_neI (by simp)]; exact h.en
  · exact ⟨by rw [sI_ne (by simp), sI_neI (by simp)]; exact h.bad, by rw [sI_ne (by simp), sI_neI (by simp)]; exact h.bp⟩
  · rw [sI_ne (by simp), sI_neI (by simp)]; exact h.cl
  · intro i hi; rw [sI_neI (by simp), sI_neI (by simp)]; exact h.cc i hi
  · rw [sI_same]; simp
  · intro i hi
    rw [List.length_cons] at hi
    rw [sI_neI (by simp), List.reverse_cons, getD_app (by simpa using hi)]
    by_cases e : i = W.length
    · subst e; rw [sI_same, List.length_reverse, if_pos rfl]
    · rw [sI_ne (by simp [e]), List.length_reverse, if_neg e]; exact h.ww i (by omega)
  · rw [sI_ne (by simp), sI_neI (by simp)]; exact h.op
  · rw [sI_ne (by simp), sI_neI (by simp)]; exact h.ba
/-- what waits last is taken away -/
theorem RQg.pop {v : Int32} (h : RQg E τ0 n τ k C (v :: W) o bs) : RQg E τ0 n (sI τ 0 94 (nI W.length)) k C W o bs := by
  refine ⟨h.fr.w (by simp [scrQ]), h.kn, ?_, ?_, ?_, ⟨?_, ?_⟩, ⟨sI_same .., ?_⟩, ?_, ?_⟩
  · rw [sI_ne (by simp)]; exact h.at_
  · rw [sI_ne (by simp)]; exact h.en
  · exact ⟨by rw [sI_ne (by simp)]; exact h.bad, by rw [sI_ne (by simp)]; exact h.bp⟩
  · rw [sI_ne (by simp)]; exact h.cl
  · intro i hi; rw [sI_neI (by simp)]; exact h.cc i hi
  · intro i hi
    rw [sI_neI (by simp), h.ww i (by simp; omega), List.reverse_cons, getD_app (by simp; omega), List.length_reverse, if_neg (by omega)]
  · rw [sI_ne (by simp)]; exact h.op
  · rw [sI_ne (by simp)]; exact h.ba
/-- what waits last is another -/
theorem RQg.swap {v : Int32} (h : RQg E τ0 n τ k C (v :: W) o bs) (v' : Int32) : RQg E τ0 n (sI τ 94 W.length v') k C (v' :: W) o bs := by
  refine ⟨h.fr.w (by simp [scrQ]), h.kn, ?_, ?_, ?_, ⟨?_, ?_⟩, ⟨?_, ?_⟩, ?_, ?_⟩
  · rw [sI_neI (by simp)]; exact h.at_
  · rw [sI_neI (by simp)]; exact h.en
  · exact ⟨by rw [sI_neI (by simp)]; exact h.bad, by rw [sI_neI (by simp)]; exact h.bp⟩
  · rw [sI_neI (by simp)]; exact h.cl
  · intro i hi; rw [sI_neI (by simp)]; exact h.cc i hi
  · rw [sI_neI (by simp)]; exact h.wl
  · intro i hi
    rw [List.length_cons] at hi
    rw [List.reverse_cons, getD_app (by simpa using hi), List.length_reverse]
    by_cases e : i = W.length
    · subst e; rw [sI_same, if_pos rfl]
    · rw [sI_ne (by simp [e]), if_neg e, h.ww i (by simp; omega), List.reverse_cons, getD_app (by simp; omega), List.length_reverse, if_neg e]
  · rw [sI_neI (by simp)]; exact h.op
  · rw [sI_neI (by simp)]; exact h.ba
/-- a fault is told -/
theorem RQg.fails (h : RQg E τ0 n τ k C W o bs) {kd pl : Nat} (h0 : 0 < kd) (h1 : kd < 10) : RFc C.length τ0 (sI (sI τ 0 5 (nI kd)) 0 6 (nI pl)) kd pl := by
  refine ⟨(h.fr.w (by simp [scrQ])).w (by simp [scrQ]), ?_, ?_, sI_same .., C.length, Nat.le_refl _, ?_⟩
  · rw [sI_ne (by simp), sI_same]
  · rw [sI_ne (by simp), sI_same]; exact nI_ne0 h0 (by omega)
  · rw [sI_ne (by simp), sI_ne (by simp)]; exact h.cl
end RQs
