/-! PURE SIDE, the model's reader: own words (printed by gen/own117.py). -/
section TO
variable {τ0 τ : Sto} {B : Byt} {n k o bs : Nat} {C W : List Int32}
theorem own_299 {K : Int32 → Sto → Prop} (h : K 1 τ) : T_isOwnHere_299 K 1 τ := bn_t (by decide) h
theorem own_223 {K : Int32 → Sto → Prop} (h : K 1 τ) : T_isOwnHere_223 K 1 τ := bn_t (by decide) (own_299 h)
theorem own_147 {K : Int32 → Sto → Prop} (h : K 1 τ) : T_isOwnHere_147 K 1 τ := bn_t (by decide) (own_223 h)
theorem own_71 {K : Int32 → Sto → Prop} (h : K 1 τ) : T_isOwnHere_71 K 1 τ := bn_t (by decide) (own_147 h)
theorem T_isOwnHere_law {K : Int32 → Sto → Prop} (hT : TxT τ0 B n) (h : RQ τ0 B n τ k C W o bs) (h1 : ∀ w, w ∈ ownWs → hereW B n k w = true → ∀ τ', RQ τ0 B n τ' (skp B n k) C W o bs → K 1 τ') (h0 : (∀ w, w ∈ ownWs → hereW B n k w = false) → ∀ τ', RQ τ0 B n τ' (skp B n k) C W o bs → K 0 τ') : T_isOwnHere τ K := by
  unfold T_isOwnHere
  refine T_isHere_st (k := k) hT h rfl (id := 11) (w := [116, 104, 105, 110, 103]) (by decide) (fun e0 τ0 g0 => bn_t (by decide) (own_71 (h1 _ (by decide) e0 τ0 g0))) (fun e0 τ0 g0 => bn_f rfl ?_)
  refine T_isHere_st (k := k) hT g0 (skp_idem B n k) (id := 12) (w := [119, 111, 114, 116, 104]) (by decide) (fun e1 τ1 g1 => bn_t (by decide) (own_71 (h1 _ (by decide) e1 τ1 g1))) (fun e1 τ1 g1 => bn_f rfl ?_)
  refine T_isHere_st (k := k) hT g1 (skp_idem B n k) (id := 13) (w := [117, 115, 101]) (by decide) (fun e2 τ2 g2 => bn_t (by decide) (own_71 (h1 _ (by decide) e2 τ2 g2))) (fun e2 τ2 g2 => bn_f rfl ?_)
  refine T_isHere_st (k := k) hT g2 (skp_idem B n k) (id := 14) (w := [102, 114, 97, 105, 108]) (by decide) (fun e3 τ3 g3 => bn_t (by decide) (own_71 (h1 _ (by decide) e3 τ3 g3))) (fun e3 τ3 g3 => bn_f rfl ?_)
  refine T_isHere_st (k := k) hT g3 (skp_idem B n k) (id := 15) (w := [109, 101, 110, 100, 101, 114]) (by decide) (fun e4 τ4 g4 => bn_t (by decide) (own_71 (h1 _ (by decide) e4 τ4 g4))) (fun e4 τ4 g4 => bn_f rfl ?_)
  refine T_isHere_st (k := k) hT g4 (skp_idem B n k) (id := 16) (w := [115, 107, 105, 108, 108]) (by decide) (fun e5 τ5 g5 => br_f (by decide) (own_71 (h1 _ (by decide) e5 τ5 g5))) (fun e5 τ5 g5 => br_t rfl ?_)
  unfold T_isOwnHere_71
  refine bn_f rfl ?_
  refine T_isHere_st (k := k) hT g5 (skp_idem B n k) (id := 17) (w := [104, 111, 117, 114, 115]) (by decide) (fun e6 τ6 g6 => bn_t (by decide) (own_147 (h1 _ (by decide) e6 τ6 g6))) (fun e6 τ6 g6 => bn_f rfl ?_)
  refine T_isHere_st (k := k) hT g6 (skp_idem B n k) (id := 18) (w := [116, 114, 105, 97, 108]) (by decide) (fun e7 τ7 g7 => bn_t (by decide) (own_147 (h1 _ (by decide) e7 τ7 g7))) (fun e7 τ7 g7 => bn_f rfl ?_)
  refine T_isHere_st (k := k) hT g7 (skp_idem B n k) (id := 19) (w := [105, 115]) (by decide) (fun e8 τ8 g8 => bn_t (by decide) (own_147 (h1 _ (by decide) e8 τ8 g8))) (fun e8 τ8 g8 => bn_f rfl ?_)
  refine T_isHere_st (k := k) hT g8 (skp_idem B n k) (id := 20) (w := [115, 116, 97, 110, 100, 115]) (by decide) (fun e9 τ9 g9 => bn_t (by decide) (own_147 (h1 _ (by decide) e9 τ9 g9))) (fun e9 τ9 g9 => bn_f rfl ?_)
  refine T_isHere_st (k := k) hT g9 (skp_idem B n k) (id := 21) (w := [102, 97, 108, 108, 115]) (by decide) (fun e10 τ10 g10 => bn_t (by decide) (own_147 (h1 _ (by decide) e10 τ10 g10))) (fun e10 τ10 g10 => bn_f rfl ?_)
  refine T_isHere_st (k := k) hT g10 (skp_idem B n k) (id := 22) (w := [116, 97, 107, 101, 115]) (by decide) (fun e11 τ11 g11 => br_f (by decide) (own_147 (h1 _ (by decide) e11 τ11 g11))) (fun e11 τ11 g11 => br_t rfl ?_)
  unfold T_isOwnHere_147
  refine bn_f rfl ?_
  refine T_isHere_st (k := k) hT g11 (skp_idem B n k) (id := 23) (w := [102, 105, 110, 101]) (by decide) (fun e12 τ12 g12 => bn_t (by decide) (own_223 (h1 _ (by decide) e12 τ12 g12))) (fun e12 τ12 g12 => bn_f rfl ?_)
  refine T_isHere_st (k := k) hT g12 (skp_idem B n k) (id := 24) (w := [102, 105, 114, 115, 116]) (by decide) (fun e13 τ13 g13 => bn_t (by decide) (own_223 (h1 _ (by decide) e13 τ13 g13))) (fun e13 τ13 g13 => bn_f rfl ?_)
  refine T_isHere_st (k := k) hT g13 (skp_idem B n k) (id := 25) (w := [99, 97, 116]) (by decide) (fun e14 τ14 g14 => bn_t (by decide) (own_223 (h1 _ (by decide) e14 τ14 g14))) (fun e14 τ14 g14 => bn_f rfl ?_)
  refine T_isHere_st (k := k) hT g14 (skp_idem B n k) (id := 26) (w := [98, 114, 101, 97, 107, 115]) (by decide) (fun e15 τ15 g15 => bn_t (by decide) (own_223 (h1 _ (by decide) e15 τ15 g15))) (fun e15 τ15 g15 => bn_f rfl ?_)
  refine T_isHere_st (k := k) hT g15 (skp_idem B n k) (id := 27) (w := [109, 101, 110, 100, 115]) (by decide) (fun e16 τ16 g16 => bn_t (by decide) (own_223 (h1 _ (by decide) e16 τ16 g16))) (fun e16 τ16 g16 => bn_f rfl ?_)
  refine T_isHere_st (k := k) hT g16 (skp_idem B n k) (id := 28) (w := [100, 97, 121]) (by decide) (fun e17 τ17 g17 => br_f (by decide) (own_223 (h1 _ (by decide) e17 τ17 g17))) (fun e17 τ17 g17 => br_t rfl ?_)
  unfold T_isOwnHere_223
  refine bn_f rfl ?_
  refine T_isHere_st (k := k) hT g17 (skp_idem B n k) (id := 29) (w := [103, 108, 117, 101]) (by decide) (fun e18 τ18 g18 => bn_t (by decide) (own_299 (h1 _ (by decide) e18 τ18 g18))) (fun e18 τ18 g18 => bn_f rfl ?_)
  refine T_isHere_st (k := k) hT g18 (skp_idem B n k) (id := 30) (w := [110, 117, 109, 98, 101, 114]) (by decide) (fun e19 τ19 g19 => bn_t (by decide) (own_299 (h1 _ (by decide) e19 τ19 g19))) (fun e19 τ19 g19 => bn_f rfl ?_)
  refine T_isHere_st (k := k) hT g19 (skp_idem B n k) (id := 31) (w := [102, 111, 114, 103, 101, 100]) (by decide) (fun e20 τ20 g20 => bn_t (by decide) (own_299 (h1 _ (by decide) e20 τ20 g20))) (fun e20 τ20 g20 => bn_f rfl ?_)
  refine T_isHere_st (k := k) hT g20 (skp_idem B n k) (id := 32) (w := [108, 97, 115, 116]) (by decide) (fun e21 τ21 g21 => bn_t (by decide) (own_299 (h1 _ (by decide) e21 τ21 g21))) (fun e21 τ21 g21 => bn_f rfl ?_)
  refine T_isHere_st (k := k) hT g21 (skp_idem B n k) (id := 33) (w := [111, 114]) (by decide) (fun e22 τ22 g22 => bn_t (by decide) (own_299 (h1 _ (by decide) e22 τ22 g22))) (fun e22 τ22 g22 => bn_f rfl ?_)
  refine T_isHere_st (k := k) hT g22 (skp_idem B n k) (id := 34) (w := [97, 110, 100]) (by decide) (fun e23 τ23 g23 => br_f (by decide) (own_299 (h1 _ (by decide) e23 τ23 g23))) (fun e23 τ23 g23 => br_t rfl ?_)
  unfold T_isOwnHere_299
  refine bn_f rfl ?_
  refine T_isHere_st (k := k) hT g23 (skp_idem B n k) (id := 35) (w := [110, 111, 116]) (by decide) (fun e24 τ24 g24 => bn_t (by decide) (h1 _ (by decide) e24 τ24 g24)) (fun e24 τ24 g24 => bn_f rfl ?_)
  refine T_isHere_st (k := k) hT g24 (skp_idem B n k) (id := 36) (w := [97, 108, 108]) (by decide) (fun e25 τ25 g25 => bn_t (by decide) (h1 _ (by decide) e25 τ25 g25)) (fun e25 τ25 g25 => bn_f rfl ?_)
  refine T_isHere_st (k := k) hT g25 (skp_idem B n k) (id := 37) (w := [109, 105, 110]) (by decide) (fun e26 τ26 g26 => bn_t (by decide) (h1 _ (by decide) e26 τ26 g26)) (fun e26 τ26 g26 => bn_f rfl ?_)
  refine T_isHere_st (k := k) hT g26 (skp_idem B n k) (id := 38) (w := [109, 97, 120]) (by decide) (fun e27 τ27 g27 => br_f (by decide) (h1 _ (by decide) e27 τ27 g27)) (fun e27 τ27 g27 => br_t rfl ?_)
  refine h0 (fun w hw => ?_) τ27 g27
  simp only [ownWs, List.mem_cons, List.not_mem_nil, or_false] at hw
  rcases hw with rfl | rfl | rfl | rfl | rfl | rfl | rfl | rfl | rfl | rfl | rfl | rfl | rfl | rfl | rfl | rfl | rfl | rfl | rfl | rfl | rfl | rfl | rfl | rfl | rfl | rfl | rfl | rfl
  · exact e0
  · exact e1
  · exact e2
  · exact e3
  · exact e4
  · exact e5
  · exact e6
  · exact e7
  · exact e8
  · exact e9
  · exact e10
  · exact e11
  · exact e12
  · exact e13
  · exact e14
  · exact e15
  · exact e16
  · exact e17
  · exact e18
  · exact e19
  · exact e20
  · exact e21
  · exact e22
  · exact e23
  · exact e24
  · exact e25
  · exact e26
  · exact e27
end TO
