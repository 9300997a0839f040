/-! BLOCK RULES, printed by gen/gen_rules.py -/
set_option maxRecDepth 100000
variable {c n : Nat} {K : Nat → Nat × Nat} {mr : Nat → Nat → Nat} {mi : Nat → Nat → Int} {Q : zRes → zH → Prop}
theorem s_Mv_init_0 {a0 : Nat} (h_1 : (K a0).1 ≠ 0) (p_2 : Q (.inl none) (n, K, mr, mi)) : zX c k_Mv_init 0 [some (zR a0)] [] (n, K, mr, mi) Q := 
  zX.n rfl (zX.g rfl h_1 (zX.ret rfl trivial p_2))
theorem s_Pl_init_0 {a0 : Nat} {w1 : Option zV} (h_1 : (K a0).1 ≠ 0) (h_2 : (zup K n (100, 7)) a0 = (5, 6)) (h_3 : 64 ≤ a0) (h_4 : (zup (zup K n (100, 7)) (n + 1) (100, 7)) a0 = (5, 6)) (h_5 : (zup (zup (zup K n (100, 7)) (n + 1) (100, 7)) ((n + 1) + 1) (100, 7)) a0 = (5, 6)) (h_6 : (zup (zup (zup (zup K n (100, 7)) (n + 1) (100, 7)) ((n + 1) + 1) (100, 7)) (((n + 1) + 1) + 1) (105, 12)) a0 = (5, 6)) (p_7 : zX c k_Pl_init 39 [some (zR a0), some (zI 0)] [] ((((n + 1) + 1) + 1) + 1, zup (zup (zup (zup K n (100, 7)) (n + 1) (100, 7)) ((n + 1) + 1) (100, 7)) (((n + 1) + 1) + 1) (105, 12), zst (zup (zst (zup (zst (zup (zst (zup mr n (fun _ => 0)) a0 0 n) (n + 1) (fun _ => 0)) a0 1 (n + 1)) ((n + 1) + 1) (fun _ => 0)) a0 2 ((n + 1) + 1)) (((n + 1) + 1) + 1) (fun _ => 0)) a0 3 (((n + 1) + 1) + 1), zup (zup (zup (zup mi n (fun _ => 0)) (n + 1) (fun _ => 0)) ((n + 1) + 1) (fun _ => 0)) (((n + 1) + 1) + 1) (fun _ => 0)) Q) : zX c k_Pl_init 0 [some (zR a0), w1] [] (n, K, mr, mi) Q := 
  zX.n rfl (zX.g rfl h_1 (zX.n rfl (zX.n rfl (zX.g rfl (by decide) (zX.g rfl ⟨h_3, h_2⟩ (zX.n rfl (zX.n rfl (zX.g rfl (by decide) (zX.g rfl ⟨h_3, h_4⟩ (zX.n rfl (zX.n rfl (zX.g rfl (by decide) (zX.g rfl ⟨h_3, h_5⟩ (zX.n rfl (zX.n rfl (zX.g rfl (by decide) (zX.g rfl ⟨h_3, h_6⟩ (zX.n rfl (zX.n rfl p_7)))))))))))))))))))
theorem s_Pl_init_39 {a0 : Nat} {x1 : Int} (p_1 : (12 : Int) ≤ x1 → zX c k_Pl_init 64 [some (zR a0), some (zI x1)] [] (n, K, mr, mi) Q) (p_2 : ¬ (12 : Int) ≤ x1 → zX c k_Pl_init 45 [some (zR a0), some (zI x1)] [] (n, K, mr, mi) Q) : zX c k_Pl_init 39 [some (zR a0), some (zI x1)] [] (n, K, mr, mi) Q := 
  zX.n rfl (zX.n rfl (zX.n rfl (zX.ite p_1 p_2)))
theorem s_Pl_init_45 {a0 : Nat} {x1 : Int} {A2 : Nat} (h_1 : K a0 = (5, 6)) (h_3 : mr a0 3 = A2) (h_4 : 64 ≤ n) (h_5 : ((zup K n (1, 3)) n).1 ≠ 0) (k_6 : zCall c k_Pl_init 54 57 [some (zR a0), some (zI x1)] [zR n, zI x1, zR A2] 0 k_Mv_init [zR n] (n + 1, zup K n (1, 3), zup mr n (fun _ => 0), zup mi n (fun _ => 0)) Q) : zX c k_Pl_init 45 [some (zR a0), some (zI x1)] [] (n, K, mr, mi) Q := by
  subst h_3
  exact zX.n rfl (zX.g rfl h_1 (zX.n rfl (zX.n rfl (zX.n rfl (zX.callQ rfl ⟨h_4, h_5⟩ trivial k_6)))))
theorem s_Pl_init_57 {a0 : Nat} {x1 : Int} {sa0 : Nat} {sx1 : Int} {sa2 : Nat} {N1 : Nat} {j5 : Nat} (h_2 : K sa0 = (105, N1)) (h_3 : 0 ≤ sx1) (h_4 : sx1 < (N1 : Int)) (h_6 : Int.toNat sx1 = j5) (h_7 : 64 ≤ sa0) (h_8 : (K sa2).1 = 1) (h_9 : 64 ≤ sa2) (p_10 : zX c k_Pl_init 39 [some (zR a0), some (zI (zw (x1 + 1)))] [] (n, K, zst mr sa0 j5 sa2, mi) Q) : zX c k_Pl_init 57 [some (zR a0), some (zI x1)] [zR sa2, zI sx1, zR sa0] (n, K, mr, mi) Q := by
  subst h_6
  exact zX.g rfl ⟨N1, h_7, h_2, ⟨h_3, h_4⟩, h_8, h_9⟩ (zX.n rfl (zX.n rfl p_10))
theorem s_Pl_init_64 {w0 : Option zV} {w1 : Option zV} (p_1 : Q (.inl none) (n, K, mr, mi)) : zX c k_Pl_init 64 [w0, w1] [] (n, K, mr, mi) Q := 
  zX.ret rfl trivial p_1
theorem s_Hb_init_0 {a0 : Nat} (h_1 : (K a0).1 ≠ 0) (p_2 : Q (.inl none) (n, K, mr, mi)) : zX c k_Hb_init 0 [some (zR a0)] [] (n, K, mr, mi) Q := 
  zX.n rfl (zX.g rfl h_1 (zX.ret rfl trivial p_2))
theorem s_TF_init_0 {a0 : Nat} (h_1 : 64 ≤ a0) (h_2 : (K a0).1 ≠ 0) (k_3 : zCall c k_TF_init 1 4 [some (zR a0)] [] 0 k_Hb_init [zR a0] (n, K, mr, mi) Q) : zX c k_TF_init 0 [some (zR a0)] [] (n, K, mr, mi) Q := 
  zX.n rfl (zX.callQ rfl ⟨h_1, h_2⟩ trivial k_3)
theorem s_TF_init_4 {w0 : Option zV} (p_1 : Q (.inl none) (n, K, mr, mi)) : zX c k_TF_init 4 [w0] [] (n, K, mr, mi) Q := 
  zX.ret rfl trivial p_1
theorem s_Un_init_0 {a0 : Nat} (h_1 : 64 ≤ a0) (h_2 : (K a0).1 ≠ 0) (k_3 : zCall c k_Un_init 1 4 [some (zR a0)] [] 0 k_Hb_init [zR a0] (n, K, mr, mi) Q) : zX c k_Un_init 0 [some (zR a0)] [] (n, K, mr, mi) Q := 
  zX.n rfl (zX.callQ rfl ⟨h_1, h_2⟩ trivial k_3)
theorem s_Un_init_4 {w0 : Option zV} (p_1 : Q (.inl none) (n, K, mr, mi)) : zX c k_Un_init 4 [w0] [] (n, K, mr, mi) Q := 
  zX.ret rfl trivial p_1
theorem s_Ra_init_0 {a0 : Nat} (h_1 : 64 ≤ a0) (h_2 : (K a0).1 ≠ 0) (k_3 : zCall c k_Ra_init 1 4 [some (zR a0)] [] 0 k_Hb_init [zR a0] (n, K, mr, mi) Q) : zX c k_Ra_init 0 [some (zR a0)] [] (n, K, mr, mi) Q := 
  zX.n rfl (zX.callQ rfl ⟨h_1, h_2⟩ trivial k_3)
theorem s_Ra_init_4 {w0 : Option zV} (p_1 : Q (.inl none) (n, K, mr, mi)) : zX c k_Ra_init 4 [w0] [] (n, K, mr, mi) Q := 
  zX.ret rfl trivial p_1
theorem s_Ki_init_0 {a0 : Nat} (h_1 : (K a0).1 ≠ 0) (p_2 : Q (.inl none) (n, K, mr, mi)) : zX c k_Ki_init 0 [some (zR a0)] [] (n, K, mr, mi) Q := 
  zX.n rfl (zX.g rfl h_1 (zX.ret rfl trivial p_2))
theorem s_Su_init_0 {a0 : Nat} (h_1 : 64 ≤ a0) (h_2 : (K a0).1 ≠ 0) (k_3 : zCall c k_Su_init 1 4 [some (zR a0)] [] 0 k_Ki_init [zR a0] (n, K, mr, mi) Q) : zX c k_Su_init 0 [some (zR a0)] [] (n, K, mr, mi) Q := 
  zX.n rfl (zX.callQ rfl ⟨h_1, h_2⟩ trivial k_3)
theorem s_Su_init_4 {w0 : Option zV} (p_1 : Q (.inl none) (n, K, mr, mi)) : zX c k_Su_init 4 [w0] [] (n, K, mr, mi) Q := 
  zX.ret rfl trivial p_1
theorem s_BC_init_0 {a0 : Nat} (h_1 : 64 ≤ a0) (h_2 : (K a0).1 ≠ 0) (k_3 : zCall c k_BC_init 1 4 [some (zR a0)] [] 0 k_Ki_init [zR a0] (n, K, mr, mi) Q) : zX c k_BC_init 0 [some (zR a0)] [] (n, K, mr, mi) Q := 
  zX.n rfl (zX.callQ rfl ⟨h_1, h_2⟩ trivial k_3)
theorem s_BC_init_4 {w0 : Option zV} (p_1 : Q (.inl none) (n, K, mr, mi)) : zX c k_BC_init 4 [w0] [] (n, K, mr, mi) Q := 
  zX.ret rfl trivial p_1
theorem s_BP_init_0 {a0 : Nat} (h_1 : 64 ≤ a0) (h_2 : (K a0).1 ≠ 0) (k_3 : zCall c k_BP_init 1 4 [some (zR a0)] [] 0 k_Ki_init [zR a0] (n, K, mr, mi) Q) : zX c k_BP_init 0 [some (zR a0)] [] (n, K, mr, mi) Q := 
  zX.n rfl (zX.callQ rfl ⟨h_1, h_2⟩ trivial k_3)
theorem s_BP_init_4 {w0 : Option zV} (p_1 : Q (.inl none) (n, K, mr, mi)) : zX c k_BP_init 4 [w0] [] (n, K, mr, mi) Q := 
  zX.ret rfl trivial p_1
theorem s_Me_init_0 {a0 : Nat} (h_1 : 64 ≤ a0) (h_2 : (K a0).1 ≠ 0) (k_3 : zCall c k_Me_init 1 4 [some (zR a0)] [] 0 k_Ki_init [zR a0] (n, K, mr, mi) Q) : zX c k_Me_init 0 [some (zR a0)] [] (n, K, mr, mi) Q := 
  zX.n rfl (zX.callQ rfl ⟨h_1, h_2⟩ trivial k_3)
theorem s_Me_init_4 {w0 : Option zV} (p_1 : Q (.inl none) (n, K, mr, mi)) : zX c k_Me_init 4 [w0] [] (n, K, mr, mi) Q := 
  zX.ret rfl trivial p_1
theorem s_Br_init_0 {a0 : Nat} (h_1 : (K a0).1 ≠ 0) (p_2 : Q (.inl none) (n, K, mr, mi)) : zX c k_Br_init 0 [some (zR a0)] [] (n, K, mr, mi) Q := 
  zX.n rfl (zX.g rfl h_1 (zX.ret rfl trivial p_2))
theorem s_Mo_init_0 {a0 : Nat} {w1 : Option zV} (h_1 : (K a0).1 ≠ 0) (h_2 : 64 ≤ (n + 1)) (h_3 : ((zup (zup K n (106, 3)) (n + 1) (7, 0)) (n + 1)).1 ≠ 0) (k_4 : zCall c k_Mo_init 15 18 [some (zR a0), w1] [zR (n + 1), zI 0, zR n, zR n, zR a0] 0 k_TF_init [zR (n + 1)] ((n + 1) + 1, zup (zup K n (106, 3)) (n + 1) (7, 0), zup (zup mr n (fun _ => 0)) (n + 1) (fun _ => 0), zup (zup mi n (fun _ => 0)) (n + 1) (fun _ => 0)) Q) : zX c k_Mo_init 0 [some (zR a0), w1] [] (n, K, mr, mi) Q := 
  zX.n rfl (zX.g rfl h_1 (zX.n rfl (zX.n rfl (zX.g rfl (by decide) (zX.n rfl (zX.n rfl (zX.n rfl (zX.n rfl (zX.callQ rfl ⟨h_2, h_3⟩ trivial k_4)))))))))
theorem s_Mo_init_18 {a0 : Nat} {w1 : Option zV} {sa0 : Nat} {sa1 : Nat} {sa2 : Nat} {sx3 : Int} {sa4 : Nat} {N1 : Nat} {j5 : Nat} (h_2 : K sa2 = (106, N1)) (h_3 : 0 ≤ sx3) (h_4 : sx3 < (N1 : Int)) (h_6 : Int.toNat sx3 = j5) (h_7 : 64 ≤ sa2) (h_8 : (K sa4).1 = 7) (h_9 : 64 ≤ sa4) (h_10 : 64 ≤ n) (h_11 : ((zup K n (8, 0)) n).1 ≠ 0) (k_12 : zCall c k_Mo_init 25 28 [some (zR a0), w1] [zR n, zI 1, zR sa1, zR sa1, zR sa0] 0 k_Un_init [zR n] (n + 1, zup K n (8, 0), zup (zst mr sa2 j5 sa4) n (fun _ => 0), zup mi n (fun _ => 0)) Q) : zX c k_Mo_init 18 [some (zR a0), w1] [zR sa4, zI sx3, zR sa2, zR sa1, zR sa0] (n, K, mr, mi) Q := by
  subst h_6
  exact zX.g rfl ⟨N1, h_7, h_2, ⟨h_3, h_4⟩, h_8, h_9⟩ (zX.n rfl (zX.n rfl (zX.n rfl (zX.n rfl (zX.callQ rfl ⟨h_10, h_11⟩ trivial k_12)))))
theorem s_Mo_init_28 {a0 : Nat} {w1 : Option zV} {sa0 : Nat} {sa1 : Nat} {sa2 : Nat} {sx3 : Int} {sa4 : Nat} {N1 : Nat} {j5 : Nat} (h_2 : K sa2 = (106, N1)) (h_3 : 0 ≤ sx3) (h_4 : sx3 < (N1 : Int)) (h_6 : Int.toNat sx3 = j5) (h_7 : 64 ≤ sa2) (h_8 : (K sa4).1 = 8) (h_9 : 64 ≤ sa4) (h_10 : 64 ≤ n) (h_11 : ((zup K n (9, 0)) n).1 ≠ 0) (k_12 : zCall c k_Mo_init 35 38 [some (zR a0), w1] [zR n, zI 2, zR sa1, zR sa1, zR sa0] 0 k_Ra_init [zR n] (n + 1, zup K n (9, 0), zup (zst mr sa2 j5 sa4) n (fun _ => 0), zup mi n (fun _ => 0)) Q) : zX c k_Mo_init 28 [some (zR a0), w1] [zR sa4, zI sx3, zR sa2, zR sa1, zR sa0] (n, K, mr, mi) Q := by
  subst h_6
  exact zX.g rfl ⟨N1, h_7, h_2, ⟨h_3, h_4⟩, h_8, h_9⟩ (zX.n rfl (zX.n rfl (zX.n rfl (zX.n rfl (zX.callQ rfl ⟨h_10, h_11⟩ trivial k_12)))))
theorem s_Mo_init_38 {a0 : Nat} {w1 : Option zV} {sa0 : Nat} {sa1 : Nat} {sa2 : Nat} {sx3 : Int} {sa4 : Nat} {N1 : Nat} {j5 : Nat} (h_2 : K sa2 = (106, N1)) (h_3 : 0 ≤ sx3) (h_4 : sx3 < (N1 : Int)) (h_6 : Int.toNat sx3 = j5) (h_7 : 64 ≤ sa2) (h_8 : (K sa4).1 = 9) (h_9 : 64 ≤ sa4) (h_10 : K sa0 = (6, 13)) (h_11 : 64 ≤ sa0) (h_12 : 64 ≤ (n + 1)) (h_13 : ((zup (zup K n (107, 4)) (n + 1) (10, 0)) (n + 1)).1 ≠ 0) (k_14 : zCall c k_Mo_init 53 56 [some (zR a0), w1] [zR (n + 1), zI 0, zR n, zR n, zR a0] 0 k_Su_init [zR (n + 1)] ((n + 1) + 1, zup (zup K n (107, 4)) (n + 1) (10, 0), zup (zup (zst (zst mr sa2 j5 sa4) sa0 0 sa1) n (fun _ => 0)) (n + 1) (fun _ => 0), zup (zup mi n (fun _ => 0)) (n + 1) (fun _ => 0)) Q) : zX c k_Mo_init 38 [some (zR a0), w1] [zR sa4, zI sx3, zR sa2, zR sa1, zR sa0] (n, K, mr, mi) Q := by
  subst h_6
  exact zX.g rfl ⟨N1, h_7, h_2, ⟨h_3, h_4⟩, h_8, h_9⟩ (zX.g rfl ⟨h_11, h_10⟩ (zX.n rfl (zX.n rfl (zX.g rfl (by decide) (zX.n rfl (zX.n rfl (zX.n rfl (zX.n rfl (zX.callQ rfl ⟨h_12, h_13⟩ trivial k_14)))))))))
theorem s_Mo_init_56 {a0 : Nat} {w1 : Option zV} {sa0 : Nat} {sa1 : Nat} {sa2 : Nat} {sx3 : Int} {sa4 : Nat} {N1 : Nat} {j5 : Nat} (h_2 : K sa2 = (107, N1)) (h_3 : 0 ≤ sx3) (h_4 : sx3 < (N1 : Int)) (h_6 : Int.toNat sx3 = j5) (h_7 : 64 ≤ sa2) (h_8 : (K sa4).1 = 10) (h_9 : 64 ≤ sa4) (h_10 : 64 ≤ n) (h_11 : ((zup K n (11, 0)) n).1 ≠ 0) (k_12 : zCall c k_Mo_init 63 66 [some (zR a0), w1] [zR n, zI 1, zR sa1, zR sa1, zR sa0] 0 k_BC_init [zR n] (n + 1, zup K n (11, 0), zup (zst mr sa2 j5 sa4) n (fun _ => 0), zup mi n (fun _ => 0)) Q) : zX c k_Mo_init 56 [some (zR a0), w1] [zR sa4, zI sx3, zR sa2, zR sa1, zR sa0] (n, K, mr, mi) Q := by
  subst h_6
  exact zX.g rfl ⟨N1, h_7, h_2, ⟨h_3, h_4⟩, h_8, h_9⟩ (zX.n rfl (zX.n rfl (zX.n rfl (zX.n rfl (zX.callQ rfl ⟨h_10, h_11⟩ trivial k_12)))))
theorem s_Mo_init_66 {a0 : Nat} {w1 : Option zV} {sa0 : Nat} {sa1 : Nat} {sa2 : Nat} {sx3 : Int} {sa4 : Nat} {N1 : Nat} {j5 : Nat} (h_2 : K sa2 = (107, N1)) (h_3 : 0 ≤ sx3) (h_4 : sx3 < (N1 : Int)) (h_6 : Int.toNat sx3 = j5) (h_7 : 64 ≤ sa2) (h_8 : (K sa4).1 = 11) (h_9 : 64 ≤ sa4) (h_10 : 64 ≤ n) (h_11 : ((zup K n (12, 0)) n).1 ≠ 0) (k_12 : zCall c k_Mo_init 73 76 [some (zR a0), w1] [zR n, zI 2, zR sa1, zR sa1, zR sa0] 0 k_BP_init [zR n] (n + 1, zup K n (12, 0), zup (zst mr sa2 j5 sa4) n (fun _ => 0), zup mi n (fun _ => 0)) Q) : zX c k_Mo_init 66 [some (zR a0), w1] [zR sa4, zI sx3, zR sa2, zR sa1, zR sa0] (n, K, mr, mi) Q := by
  subst h_6
  exact zX.g rfl ⟨N1, h_7, h_2, ⟨h_3, h_4⟩, h_8, h_9⟩ (zX.n rfl (zX.n rfl (zX.n rfl (zX.n rfl (zX.callQ rfl ⟨h_10, h_11⟩ trivial k_12)))))
theorem s_Mo_init_76 {a0 : Nat} {w1 : Option zV} {sa0 : Nat} {sa1 : Nat} {sa2 : Nat} {sx3 : Int} {sa4 : Nat} {N1 : Nat} {j5 : Nat} (h_2 : K sa2 = (107, N1)) (h_3 : 0 ≤ sx3) (h_4 : sx3 < (N1 : Int)) (h_6 : Int.toNat sx3 = j5) (h_7 : 64 ≤ sa2) (h_8 : (K sa4).1 = 12) (h_9 : 64 ≤ sa4) (h_10 : 64 ≤ n) (h_11 : ((zup K n (13, 0)) n).1 ≠ 0) (k_12 : zCall c k_Mo_init 83 86 [some (zR a0), w1] [zR n, zI 3, zR sa1, zR sa1, zR sa0] 0 k_Me_init [zR n] (n + 1, zup K n (13, 0), zup (zst mr sa2 j5 sa4) n (fun _ => 0), zup mi n (fun _ => 0)) Q) : zX c k_Mo_init 76 [some (zR a0), w1] [zR sa4, zI sx3, zR sa2, zR sa1, zR sa0] (n, K, mr, mi) Q := by
  subst h_6
  exact zX.g rfl ⟨N1, h_7, h_2, ⟨h_3, h_4⟩, h_8, h_9⟩ (zX.n rfl (zX.n rfl (zX.n rfl (zX.n rfl (zX.callQ rfl ⟨h_10, h_11⟩ trivial k_12)))))
theorem s_Mo_init_86 {a0 : Nat} {w1 : Option zV} {sa0 : Nat} {sa1 : Nat} {sa2 : Nat} {sx3 : Int} {sa4 : Nat} {N1 : Nat} {j5 : Nat} (h_2 : K sa2 = (107, N1)) (h_3 : 0 ≤ sx3) (h_4 : sx3 < (N1 : Int)) (h_6 : Int.toNat sx3 = j5) (h_7 : 64 ≤ sa2) (h_8 : (K sa4).1 = 13) (h_9 : 64 ≤ sa4) (h_10 : K sa0 = (6, 13)) (h_11 : 64 ≤ sa0) (h_12 : (zup K n (108, 90)) a0 = (6, 13)) (h_13 : 64 ≤ a0) (h_14 : (zup (zup K n (108, 90)) (n + 2) (100, 8)) a0 = (6, 13)) (h_15 : (zup (zup (zup K n (108, 90)) (n + 2) (100, 8)) ((n + 2) + 1) (100, 7)) a0 = (6, 13)) (h_16 : (zup (zup (zup (zup K n (108, 90)) (n + 2) (100, 8)) ((n + 2) + 1) (100, 7)) (((n + 2) + 1) + 1) (100, 7)) a0 = (6, 13)) (h_17 : (zup (zup (zup (zup (zup K n (108, 90)) (n + 2) (100, 8)) ((n + 2) + 1) (100, 7)) (((n + 2) + 1) + 1) (100, 7)) ((((n + 2) + 1) + 1) + 1) (100, 240)) a0 = (6, 13)) (h_18 : (zup (zup (zup (zup (zup (zup K n (108, 90)) (n + 2) (100, 8)) ((n + 2) + 1) (100, 7)) (((n + 2) + 1) + 1) (100, 7)) ((((n + 2) + 1) + 1) + 1) (100, 240)) (((((n + 2) + 1) + 1) + 1) + 4) (100, 210)) a0 = (6, 13)) (h_19 : (zup (zup (zup (zup (zup (zup (zup K n (108, 90)) (n + 2) (100, 8)) ((n + 2) + 1) (100, 7)) (((n + 2) + 1) + 1) (100, 7)) ((((n + 2) + 1) + 1) + 1) (100, 240)) (((((n + 2) + 1) + 1) + 1) + 4) (100, 210)) ((((((n + 2) + 1) + 1) + 1) + 4) + 4) (100, 210)) a0 = (6, 13)) (p_20 : zX c k_Mo_init 152 [some (zR a0), some (zI 0)] [] (((((((n + 2) + 1) + 1) + 1) + 4) + 4) + 4, zup (zup (zup (zup (zup (zup (zup K n (108, 90)) (n + 2) (100, 8)) ((n + 2) + 1) (100, 7)) (((n + 2) + 1) + 1) (100, 7)) ((((n + 2) + 1) + 1) + 1) (100, 240)) (((((n + 2) + 1) + 1) + 1) + 4) (100, 210)) ((((((n + 2) + 1) + 1) + 1) + 4) + 4) (100, 210), zst (zup (zst (zup (zst (zup (zst (zup (zst (zup (zst (zup (zst (zup (zst (zst mr sa2 j5 sa4) sa0 1 sa1) n (fun _ => 0)) a0 2 n) (n + 2) (fun _ => 0)) a0 3 (n + 2)) ((n + 2) + 1) (fun _ => 0)) a0 4 ((n + 2) + 1)) (((n + 2) + 1) + 1) (fun _ => 0)) a0 5 (((n + 2) + 1) + 1)) ((((n + 2) + 1) + 1) + 1) (fun _ => 0)) a0 6 ((((n + 2) + 1) + 1) + 1)) (((((n + 2) + 1) + 1) + 1) + 4) (fun _ => 0)) a0 7 (((((n + 2) + 1) + 1) + 1) + 4)) ((((((n + 2) + 1) + 1) + 1) + 4) + 4) (fun _ => 0)) a0 8 ((((((n + 2) + 1) + 1) + 1) + 4) + 4), zup (zup (zup (zup (zup (zup (zup mi n (fun _ => 0)) (n + 2) (fun _ => 0)) ((n + 2) + 1) (fun _ => 0)) (((n + 2) + 1) + 1) (fun _ => 0)) ((((n + 2) + 1) + 1) + 1) (fun _ => 0)) (((((n + 2) + 1) + 1) + 1) + 4) (fun _ => 0)) ((((((n + 2) + 1) + 1) + 1) + 4) + 4) (fun _ => 0)) Q) : zX c k_Mo_init 86 [some (zR a0), w1] [zR sa4, zI sx3, zR sa2, zR sa1, zR sa0] (n, K, mr, mi) Q := by
  subst h_6
  exact zX.g rfl ⟨N1, h_7, h_2, ⟨h_3, h_4⟩, h_8, h_9⟩ (zX.g rfl ⟨h_11, h_10⟩ (zX.n rfl (zX.n rfl (zX.g rfl (by decide) (zX.g rfl ⟨h_13, h_12⟩ (zX.n rfl (zX.n rfl (zX.g rfl (by decide) (zX.g rfl ⟨h_13, h_14⟩ (zX.n rfl (zX.n rfl (zX.g rfl (by decide) (zX.g rfl ⟨h_13, h_15⟩ (zX.n rfl (zX.n rfl (zX.g rfl (by decide) (zX.g rfl ⟨h_13, h_16⟩ (zX.n rfl (zX.n rfl (zX.g rfl (by decide) (zX.g rfl ⟨h_13, h_17⟩ (zX.n rfl (zX.n rfl (zX.g rfl (by decide) (zX.g rfl ⟨h_13, h_18⟩ (zX.n rfl (zX.n rfl (zX.g rfl (by decide) (zX.g rfl ⟨h_13, h_19⟩ (zX.n rfl (zX.n rfl p_20)))))))))))))))))))))))))))))))
theorem s_Mo_init_152 {a0 : Nat} {x1 : Int} (p_1 : (90 : Int) ≤ x1 → zX c k_Mo_init 177 [some (zR a0), some (zI x1)] [] (n, K, mr, mi) Q) (p_2 : ¬ (90 : Int) ≤ x1 → zX c k_Mo_init 158 [some (zR a0), some (zI x1)] [] (n, K, mr, mi) Q) : zX c k_Mo_init 152 [some (zR a0), some (zI x1)] [] (n, K, mr, mi) Q := 
  zX.n rfl (zX.n rfl (zX.n rfl (zX.ite p_1 p_2)))
theorem s_Mo_init_158 {a0 : Nat} {x1 : Int} {A2 : Nat} (h_1 : K a0 = (6, 13)) (h_3 : mr a0 2 = A2) (h_4 : 64 ≤ n) (h_5 : ((zup K n (14, 7)) n).1 ≠ 0) (k_6 : zCall c k_Mo_init 167 170 [some (zR a0), some (zI x1)] [zR n, zI x1, zR A2] 0 k_Br_init [zR n] (n + 1, zup K n (14, 7), zup mr n (fun _ => 0), zup mi n (fun _ => 0)) Q) : zX c k_Mo_init 158 [some (zR a0), some (zI x1)] [] (n, K, mr, mi) Q := by
  subst h_3
  exact zX.n rfl (zX.g rfl h_1 (zX.n rfl (zX.n rfl (zX.n rfl (zX.callQ rfl ⟨h_4, h_5⟩ trivial k_6)))))
theorem s_Mo_init_170 {a0 : Nat} {x1 : Int} {sa0 : Nat} {sx1 : Int} {sa2 : Nat} {N1 : Nat} {j5 : Nat} (h_2 : K sa0 = (108, N1)) (h_3 : 0 ≤ sx1) (h_4 : sx1 < (N1 : Int)) (h_6 : Int.toNat sx1 = j5) (h_7 : 64 ≤ sa0) (h_8 : (K sa2).1 = 14) (h_9 : 64 ≤ sa2) (p_10 : zX c k_Mo_init 152 [some (zR a0), some (zI (zw (x1 + 1)))] [] (n, K, zst mr sa0 j5 sa2, mi) Q) : zX c k_Mo_init 170 [some (zR a0), some (zI x1)] [zR sa2, zI sx1, zR sa0] (n, K, mr, mi) Q := by
  subst h_6
  exact zX.g rfl ⟨N1, h_7, h_2, ⟨h_3, h_4⟩, h_8, h_9⟩ (zX.n rfl (zX.n rfl p_10))
theorem s_Mo_init_177 {w0 : Option zV} {w1 : Option zV} (p_1 : Q (.inl none) (n, K, mr, mi)) : zX c k_Mo_init 177 [w0, w1] [] (n, K, mr, mi) Q := 
  zX.ret rfl trivial p_1
theorem s_Pa_init_0 {a0 : Nat} (h_1 : (K a0).1 ≠ 0) (h_2 : (zup K n (100, 7)) a0 = (15, 10)) (h_3 : 64 ≤ a0) (h_4 : (zup (zup K n (100, 7)) (n + 1) (100, 7)) a0 = (15, 10)) (h_5 : (zup (zup (zup K n (100, 7)) (n + 1) (100, 7)) ((n + 1) + 1) (100, 7)) a0 = (15, 10)) (h_6 : (zup (zup (zup (zup K n (100, 7)) (n + 1) (100, 7)) ((n + 1) + 1) (100, 7)) (((n + 1) + 1) + 1) (100, 8)) a0 = (15, 10)) (p_7 : Q (.inl none) ((((n + 1) + 1) + 1) + 1, zup (zup (zup (zup K n (100, 7)) (n + 1) (100, 7)) ((n + 1) + 1) (100, 7)) (((n + 1) + 1) + 1) (100, 8), zst (zup (zst (zup (zst (zup (zst (zup mr n (fun _ => 0)) a0 0 n) (n + 1) (fun _ => 0)) a0 1 (n + 1)) ((n + 1) + 1) (fun _ => 0)) a0 2 ((n + 1) + 1)) (((n + 1) + 1) + 1) (fun _ => 0)) a0 3 (((n + 1) + 1) + 1), zup (zup (zup (zup mi n (fun _ => 0)) (n + 1) (fun _ => 0)) ((n + 1) + 1) (fun _ => 0)) (((n + 1) + 1) + 1) (fun _ => 0))) : zX c k_Pa_init 0 [some (zR a0)] [] (n, K, mr, mi) Q := 
  zX.n rfl (zX.g rfl h_1 (zX.n rfl (zX.n rfl (zX.g rfl (by decide) (zX.g rfl ⟨h_3, h_2⟩ (zX.n rfl (zX.n rfl (zX.g rfl (by decide) (zX.g rfl ⟨h_3, h_4⟩ (zX.n rfl (zX.n rfl (zX.g rfl (by decide) (zX.g rfl ⟨h_3, h_5⟩ (zX.n rfl (zX.n rfl (zX.g rfl (by decide) (zX.g rfl ⟨h_3, h_6⟩ (zX.ret rfl trivial p_7))))))))))))))))))
theorem s_Co_init_0 {a0 : Nat} (h_1 : (K a0).1 ≠ 0) (h_2 : (zup K n (100, 7)) a0 = (16, 3)) (h_3 : 64 ≤ a0) (p_4 : Q (.inl none) (n + 1, zup K n (100, 7), zst (zup mr n (fun _ => 0)) a0 0 n, zup mi n (fun _ => 0))) : zX c k_Co_init 0 [some (zR a0)] [] (n, K, mr, mi) Q := 
  zX.n rfl (zX.g rfl h_1 (zX.n rfl (zX.n rfl (zX.g rfl (by decide) (zX.g rfl ⟨h_3, h_2⟩ (zX.ret rfl trivial p_4))))))
theorem s_G_init_0 {a0 : Nat} (h_1 : (K a0).1 ≠ 0) (h_2 : (zup K n (110, 7)) a0 = (18, 12)) (h_3 : 64 ≤ a0) (h_4 : (zup (zup K n (110, 7)) (n + 1) (105, 10)) a0 = (18, 12)) (h_5 : (zup (zup (zup K n (110, 7)) (n + 1) (105, 10)) ((n + 1) + 1) (111, 6)) a0 = (18, 12)) (h_6 : (zup (zup (zup (zup K n (110, 7)) (n + 1) (105, 10)) ((n + 1) + 1) (111, 6)) (((n + 1) + 1) + 1) (112, 8)) a0 = (18, 12)) (p_7 : Q (.inl none) ((((n + 1) + 1) + 1) + 1, zup (zup (zup (zup K n (110, 7)) (n + 1) (105, 10)) ((n + 1) + 1) (111, 6)) (((n + 1) + 1) + 1) (112, 8), zst (zup (zst (zup (zst (zup (zst (zup mr n (fun _ => 0)) a0 0 n) (n + 1) (fun _ => 0)) a0 1 (n + 1)) ((n + 1) + 1) (fun _ => 0)) a0 2 ((n + 1) + 1)) (((n + 1) + 1) + 1) (fun _ => 0)) a0 3 (((n + 1) + 1) + 1), zup (zup (zup (zup mi n (fun _ => 0)) (n + 1) (fun _ => 0)) ((n + 1) + 1) (fun _ => 0)) (((n + 1) + 1) + 1) (fun _ => 0))) : zX c k_G_init 0 [some (zR a0)] [] (n, K, mr, mi) Q := 
  zX.n rfl (zX.g rfl h_1 (zX.n rfl (zX.n rfl (zX.g rfl (by decide) (zX.g rfl ⟨h_3, h_2⟩ (zX.n rfl (zX.n rfl (zX.g rfl (by decide) (zX.g rfl ⟨h_3, h_4⟩ (zX.n rfl (zX.n rfl (zX.g rfl (by decide) (zX.g rfl ⟨h_3, h_5⟩ (zX.n rfl (zX.n rfl (zX.g rfl (by decide) (zX.g rfl ⟨h_3, h_6⟩ (zX.ret rfl trivial p_7))))))))))))))))))
theorem s_G_find_0 {a0 : Nat} {a1 : Nat} {w2 : Option zV} (p_1 : zX c k_G_find 2 [some (zR a0), some (zR a1), some (zI 0)] [] (n, K, mr, mi) Q) : zX c k_G_find 0 [some (zR a0), some (zR a1), w2] [] (n, K, mr, mi) Q := 
  zX.n rfl (zX.n rfl p_1)
theorem s_G_find_2 {a0 : Nat} {a1 : Nat} {x2 : Int} (h_1 : K a0 = (18, 12)) (p_2 : (mi a0 8) ≤ x2 → zX c k_G_find 39 [some (zR a0), some (zR a1), some (zI x2)] [] (n, K, mr, mi) Q) (p_3 : ¬ (mi a0 8) ≤ x2 → zX c k_G_find 10 [some (zR a0), some (zR a1), some (zI x2)] [] (n, K, mr, mi) Q) : zX c k_G_find 2 [some (zR a0), some (zR a1), some (zI x2)] [] (n, K, mr, mi) Q := 
  zX.n rfl (zX.n rfl (zX.g rfl h_1 (zX.n rfl (zX.ite p_2 p_3))))
theorem s_G_find_10 {a0 : Nat} {a1 : Nat} {x2 : Int} {A2 : Nat} {N4 : Nat} {j8 : Nat} {A10 : Nat} {A13 : Nat} (h_1 : K a0 = (18, 12)) (h_3 : mr a0 0 = A2) (h_5 : K A2 = (110, N4)) (h_6 : 0 ≤ x2) (h_7 : x2 < (N4 : Int)) (h_9 : Int.toNat x2 = j8) (h_11 : mr A2 j8 = A10) (h_12 : K A10 = (19, 12)) (h_14 : mr A10 0 = A13) (h_15 : K A13 = (23, 4)) (k_16 : zCall c k_G_find 20 23 [some (zR a0), some (zR a1), some (zI x2)] [] 0 k_JStr_equals [zR A13, zR a1] (n, K, mr, mi) Q) : zX c k_G_find 10 [some (zR a0), some (zR a1), some (zI x2)] [] (n, K, mr, mi) Q := by
  subst h_3
  subst h_9
  subst h_11
  subst h_14
  exact zX.n rfl (zX.g rfl h_1 (zX.n rfl (zX.g rfl ⟨N4, h_5, h_6, h_7⟩ (zX.g rfl h_12 (zX.n rfl (zX.callQ rfl (congrArg Prod.fst h_15) trivial k_16))))))
theorem s_G_find_23 {a0 : Nat} {a1 : Nat} {x2 : Int} {sx0 : Int} (p_1 : sx0 = 0 → zX c k_G_find 33 [some (zR a0), some (zR a1), some (zI x2)] [] (n, K, mr, mi) Q) (p_2 : ¬ sx0 = 0 → zX c k_G_find 26 [some (zR a0), some (zR a1), some (zI x2)] [] (n, K, mr, mi) Q) : zX c k_G_find 23 [some (zR a0), some (zR a1), some (zI x2)] [zI sx0] (n, K, mr, mi) Q := 
  zX.n rfl (zX.ite p_1 p_2)
theorem s_G_find_26 {a0 : Nat} {w1 : Option zV} {x2 : Int} {A2 : Nat} {N4 : Nat} {j8 : Nat} {A10 : Nat} (h_1 : K a0 = (18, 12)) (h_3 : mr a0 0 = A2) (h_5 : K A2 = (110, N4)) (h_6 : 0 ≤ x2) (h_7 : x2 < (N4 : Int)) (h_9 : Int.toNat x2 = j8) (h_11 : mr A2 j8 = A10) (p_12 : Q (.inl (some (zR A10))) (n, K, mr, mi)) : zX c k_G_find 26 [some (zR a0), w1, some (zI x2)] [] (n, K, mr, mi) Q := by
  subst h_3
  subst h_9
  subst h_11
  exact zX.n rfl (zX.g rfl h_1 (zX.n rfl (zX.g rfl ⟨N4, h_5, h_6, h_7⟩ (zX.ret rfl trivial p_12))))
theorem s_G_find_33 {a0 : Nat} {a1 : Nat} {x2 : Int} (p_1 : zX c k_G_find 2 [some (zR a0), some (zR a1), some (zI (zw (x2 + 1)))] [] (n, K, mr, mi) Q) : zX c k_G_find 33 [some (zR a0), some (zR a1), some (zI x2)] [] (n, K, mr, mi) Q := 
  zX.n rfl (zX.n rfl p_1)
theorem s_G_find_39 {w0 : Option zV} {w1 : Option zV} {w2 : Option zV} (p_1 : Q (.inl (some (zR 0))) (n, K, mr, mi)) : zX c k_G_find 39 [w0, w1, w2] [] (n, K, mr, mi) Q := 
  zX.n rfl (zX.ret rfl trivial p_1)
theorem s_Pe_init_0 {a0 : Nat} {a1 : Nat} {x2 : Int} (h_1 : (K a0).1 ≠ 0) (h_2 : (zup K n (100, 6)) a0 = (19, 12)) (h_3 : 64 ≤ a0) (h_4 : (zup (zup K n (100, 6)) (n + 1) (100, 3)) a0 = (19, 12)) (h_5 : (zup (zup (zup K n (100, 6)) (n + 1) (100, 3)) ((n + 1) + 1) (100, 3)) a0 = (19, 12)) (p_6 : Q (.inl none) (((n + 1) + 1) + 1, zup (zup (zup K n (100, 6)) (n + 1) (100, 3)) ((n + 1) + 1) (100, 3), zst (zst (zup (zst (zup (zst (zup mr n (fun _ => 0)) a0 2 n) (n + 1) (fun _ => 0)) a0 3 (n + 1)) ((n + 1) + 1) (fun _ => 0)) a0 4 ((n + 1) + 1)) a0 0 a1, zst (zup (zup (zup mi n (fun _ => 0)) (n + 1) (fun _ => 0)) ((n + 1) + 1) (fun _ => 0)) a0 1 x2)) : zX c k_Pe_init 0 [some (zR a0), some (zR a1), some (zI x2)] [] (n, K, mr, mi) Q := 
  zX.n rfl (zX.g rfl h_1 (zX.n rfl (zX.n rfl (zX.g rfl (by decide) (zX.g rfl ⟨h_3, h_2⟩ (zX.n rfl (zX.n rfl (zX.g rfl (by decide) (zX.g rfl ⟨h_3, h_4⟩ (zX.n rfl (zX.n rfl (zX.g rfl (by decide) (zX.g rfl ⟨h_3, h_5⟩ (zX.n rfl (zX.n rfl (zX.g rfl ⟨h_3, h_5⟩ (zX.n rfl (zX.n rfl (zX.g rfl ⟨h_3, h_5⟩ (zX.ret rfl trivial p_6))))))))))))))))))))
theorem s_Pe_doesLike_0 {a0 : Nat} {x1 : Int} {w2 : Option zV} {w3 : Option zV} (p_1 : zX c k_Pe_doesLike 4 [some (zR a0), some (zI x1), some (zI 0), some (zI 0)] [] (n, K, mr, mi) Q) : zX c k_Pe_doesLike 0 [some (zR a0), some (zI x1), w2, w3] [] (n, K, mr, mi) Q := 
  zX.n rfl (zX.n rfl (zX.n rfl (zX.n rfl p_1)))
theorem s_Pe_doesLike_4 {a0 : Nat} {x1 : Int} {x2 : Int} {x3 : Int} (h_1 : K a0 = (19, 12)) (p_2 : (mi a0 5) ≤ x3 → zX c k_Pe_doesLike 38 [some (zR a0), some (zI x1), some (zI x2), some (zI x3)] [] (n, K, mr, mi) Q) (p_3 : ¬ (mi a0 5) ≤ x3 → zX c k_Pe_doesLike 12 [some (zR a0), some (zI x1), some (zI x2), some (zI x3)] [] (n, K, mr, mi) Q) : zX c k_Pe_doesLike 4 [some (zR a0), some (zI x1), some (zI x2), some (zI x3)] [] (n, K, mr, mi) Q := 
  zX.n rfl (zX.n rfl (zX.g rfl h_1 (zX.n rfl (zX.ite p_2 p_3))))
theorem s_Pe_doesLike_12 {a0 : Nat} {x1 : Int} {x2 : Int} {x3 : Int} (p_1 : ¬ x2 = 0 → zX c k_Pe_doesLike 26 [some (zR a0), some (zI x1), some (zI x2), some (zI x3)] [] (n, K, mr, mi) Q) (p_2 : x2 = 0 → zX c k_Pe_doesLike 16 [some (zR a0), some (zI x1), some (zI x2), some (zI x3)] [] (n, K, mr, mi) Q) : zX c k_Pe_doesLike 12 [some (zR a0), some (zI x1), some (zI x2), some (zI x3)] [] (n, K, mr, mi) Q := 
  zX.n rfl (zX.n rfl (zX.itn p_1 p_2))
theorem s_Pe_doesLike_16 {a0 : Nat} {x1 : Int} {w2 : Option zV} {x3 : Int} {A2 : Nat} {N4 : Nat} {j8 : Nat} (h_1 : K a0 = (19, 12)) (h_3 : mr a0 2 = A2) (h_5 : K A2 = (100, N4)) (h_6 : 0 ≤ x3) (h_7 : x3 < (N4 : Int)) (h_9 : Int.toNat x3 = j8) (p_10 : ¬ (mi A2 j8) = x1 → zX c k_Pe_doesLike 30 [some (zR a0), some (zI x1), w2, some (zI x3)] [] (n, K, mr, mi) Q) (p_11 : (mi A2 j8) = x1 → zX c k_Pe_doesLike 26 [some (zR a0), some (zI x1), w2, some (zI x3)] [] (n, K, mr, mi) Q) : zX c k_Pe_doesLike 16 [some (zR a0), some (zI x1), w2, some (zI x3)] [] (n, K, mr, mi) Q := by
  subst h_3
  subst h_9
  exact zX.n rfl (zX.g rfl h_1 (zX.n rfl (zX.g rfl ⟨N4, h_5, h_6, h_7⟩ (zX.n rfl (zX.n rfl (zX.itn p_10 p_11))))))
theorem s_Pe_doesLike_26 {a0 : Nat} {x1 : Int} {w2 : Option zV} {x3 : Int} (p_1 : zX c k_Pe_doesLike 31 [some (zR a0), some (zI x1), w2, some (zI x3)] [zI 1] (n, K, mr, mi) Q) : zX c k_Pe_doesLike 26 [some (zR a0), some (zI x1), w2, some (zI x3)] [] (n, K, mr, mi) Q := 
  zX.n rfl (zX.n rfl p_1)
theorem s_Pe_doesLike_30 {a0 : Nat} {x1 : Int} {w2 : Option zV} {x3 : Int} (p_1 : zX c k_Pe_doesLike 31 [some (zR a0), some (zI x1), w2, some (zI x3)] [zI 0] (n, K, mr, mi) Q) : zX c k_Pe_doesLike 30 [some (zR a0), some (zI x1), w2, some (zI x3)] [] (n, K, mr, mi) Q := 
  zX.n rfl p_1
theorem s_Pe_doesLike_31 {a0 : Nat} {x1 : Int} {w2 : Option zV} {x3 : Int} {sx0 : Int} (p_1 : zX c k_Pe_doesLike 4 [some (zR a0), some (zI x1), some (zI sx0), some (zI (zw (x3 + 1)))] [] (n, K, mr, mi) Q) : zX c k_Pe_doesLike 31 [some (zR a0), some (zI x1), w2, some (zI x3)] [zI sx0] (n, K, mr, mi) Q := 
  zX.n rfl (zX.n rfl (zX.n rfl p_1))
theorem s_Pe_doesLike_38 {w0 : Option zV} {w1 : Option zV} {x2 : Int} {w3 : Option zV} (h_1 : x2 = 0 ∨ x2 = 1) (p_2 : Q (.inl (some (zI x2))) (n, K, mr, mi)) : zX c k_Pe_doesLike 38 [w0, w1, some (zI x2), w3] [] (n, K, mr, mi) Q := 
  zX.n rfl (zX.ret rfl h_1 p_2)
theorem s_Mv_be_0 {a0 : Nat} {x1 : Int} {x2 : Int} {x3 : Int} (h_1 : K a0 = (1, 3)) (h_2 : 64 ≤ a0) (p_3 : Q (.inl none) (n, K, mr, zst (zst (zst mi a0 0 x1) a0 1 x2) a0 2 x3)) : zX c k_Mv_be 0 [some (zR a0), some (zI x1), some (zI x2), some (zI x3)] [] (n, K, mr, mi) Q := 
  zX.n rfl (zX.n rfl (zX.g rfl ⟨h_2, h_1⟩ (zX.n rfl (zX.n rfl (zX.g rfl ⟨h_2, h_1⟩ (zX.n rfl (zX.n rfl (zX.g rfl ⟨h_2, h_1⟩ (zX.ret rfl trivial p_3)))))))))
theorem s_Se_init_0 {a0 : Nat} (h_1 : (K a0).1 ≠ 0) (h_2 : (zup K n (100, 8)) a0 = (20, 2)) (h_3 : 64 ≤ a0) (p_4 : Q (.inl none) (n + 1, zup K n (100, 8), zst (zup mr n (fun _ => 0)) a0 0 n, zup mi n (fun _ => 0))) : zX c k_Se_init 0 [some (zR a0)] [] (n, K, mr, mi) Q := 
  zX.n rfl (zX.g rfl h_1 (zX.n rfl (zX.n rfl (zX.g rfl (by decide) (zX.g rfl ⟨h_3, h_2⟩ (zX.ret rfl trivial p_4))))))
theorem s_Sa_init_0 {a0 : Nat} (h_1 : (K a0).1 ≠ 0) (p_2 : Q (.inl none) (n, K, mr, mi)) : zX c k_Sa_init 0 [some (zR a0)] [] (n, K, mr, mi) Q := 
  zX.n rfl (zX.g rfl h_1 (zX.ret rfl trivial p_2))
theorem s_Pl_begin_0 {a0 : Nat} {a1 : Nat} {w2 : Option zV} (h_1 : K a0 = (5, 6)) (h_2 : 64 ≤ a0) (p_3 : zX c k_Pl_begin 12 [some (zR a0), some (zR a1), some (zI 0)] [] (n, K, mr, zst (zst mi a0 4 0) a0 5 0) Q) : zX c k_Pl_begin 0 [some (zR a0), some (zR a1), w2] [] (n, K, mr, mi) Q := 
  zX.n rfl (zX.n rfl (zX.g rfl ⟨h_2, h_1⟩ (zX.n rfl (zX.n rfl (zX.g rfl ⟨h_2, h_1⟩ (zX.n rfl (zX.n rfl p_3)))))))
theorem s_Pl_begin_12 {a0 : Nat} {a1 : Nat} {x2 : Int} (h_1 : K a1 = (18, 12)) (p_2 : (mi a1 8) ≤ x2 → zX c k_Pl_begin 71 [some (zR a0), some (zR a1), some (zI x2)] [] (n, K, mr, mi) Q) (p_3 : ¬ (mi a1 8) ≤ x2 → zX c k_Pl_begin 20 [some (zR a0), some (zR a1), some (zI x2)] [] (n, K, mr, mi) Q) : zX c k_Pl_begin 12 [some (zR a0), some (zR a1), some (zI x2)] [] (n, K, mr, mi) Q := 
  zX.n rfl (zX.n rfl (zX.g rfl h_1 (zX.n rfl (zX.ite p_2 p_3))))
theorem s_Pl_begin_20 {a0 : Nat} {a1 : Nat} {x2 : Int} {A2 : Nat} {A5 : Nat} {N7 : Nat} {j11 : Nat} {A13 : Nat} {N16 : Nat} {A20 : Nat} {A22 : Nat} {N25 : Nat} {A29 : Nat} {A31 : Nat} {N34 : Nat} (h_1 : K a0 = (5, 6)) (h_3 : mr a0 0 = A2) (h_4 : K a1 = (18, 12)) (h_6 : mr a1 0 = A5) (h_8 : K A5 = (110, N7)) (h_9 : 0 ≤ x2) (h_10 : x2 < (N7 : Int)) (h_12 : Int.toNat x2 = j11) (h_14 : mr A5 j11 = A13) (h_15 : K A13 = (19, 12)) (h_17 : K A2 = (100, N16)) (h_18 : x2 < (N16 : Int)) (h_19 : 64 ≤ A2) (h_21 : mr a0 1 = A20) (h_23 : mr A5 j11 = A22) (h_24 : K A22 = (19, 12)) (h_26 : K A20 = (100, N25)) (h_27 : x2 < (N25 : Int)) (h_28 : 64 ≤ A20) (h_30 : mr a0 2 = A29) (h_32 : mr A5 j11 = A31) (h_33 : K A31 = (19, 12)) (h_35 : K A29 = (100, N34)) (h_36 : x2 < (N34 : Int)) (h_37 : 64 ≤ A29) (p_38 : zX c k_Pl_begin 12 [some (zR a0), some (zR a1), some (zI (zw (x2 + 1)))] [] (n, K, mr, zst (zst (zst mi A2 j11 (mi A13 7)) A20 j11 ((zst mi A2 j11 (mi A13 7)) A22 8)) A29 j11 ((zst (zst mi A2 j11 (mi A13 7)) A20 j11 ((zst mi A2 j11 (mi A13 7)) A22 8)) A31 9)) Q) : zX c k_Pl_begin 20 [some (zR a0), some (zR a1), some (zI x2)] [] (n, K, mr, mi) Q := by
  subst h_3
  subst h_6
  subst h_12
  subst h_14
  subst h_21
  subst h_23
  subst h_30
  subst h_32
  exact zX.n rfl (zX.g rfl h_1 (zX.n rfl (zX.n rfl (zX.g rfl h_4 (zX.n rfl (zX.g rfl ⟨N7, h_8, h_9, h_10⟩ (zX.g rfl h_15 (zX.g rfl ⟨N16, h_19, h_17, h_9, h_18⟩ (zX.n rfl (zX.g rfl h_1 (zX.n rfl (zX.n rfl (zX.g rfl h_4 (zX.n rfl (zX.g rfl ⟨N7, h_8, h_9, h_10⟩ (zX.g rfl h_24 (zX.g rfl ⟨N25, h_28, h_26, h_9, h_27⟩ (zX.n rfl (zX.g rfl h_1 (zX.n rfl (zX.n rfl (zX.g rfl h_4 (zX.n rfl (zX.g rfl ⟨N7, h_8, h_9, h_10⟩ (zX.g rfl h_33 (zX.g rfl ⟨N34, h_37, h_35, h_9, h_36⟩ (zX.n rfl (zX.n rfl p_38))))))))))))))))))))))))))))
theorem s_Pl_begin_71 {w0 : Option zV} {w1 : Option zV} {w2 : Option zV} (p_1 : Q (.inl none) (n, K, mr, mi)) : zX c k_Pl_begin 71 [w0, w1, w2] [] (n, K, mr, mi) Q := 
  zX.ret rfl trivial p_1
theorem s_Pe_comes_0 {a0 : Nat} {x1 : Int} {w2 : Option zV} {w3 : Option zV} (p_1 : zX c k_Pe_comes 4 [some (zR a0), some (zI x1), some (zI 0), some (zI 0)] [] (n, K, mr, mi) Q) : zX c k_Pe_comes 0 [some (zR a0), some (zI x1), w2, w3] [] (n, K, mr, mi) Q := 
  zX.n rfl (zX.n rfl (zX.n rfl (zX.n rfl p_1)))
theorem s_Pe_comes_4 {a0 : Nat} {x1 : Int} {x2 : Int} {x3 : Int} (h_1 : K a0 = (19, 12)) (p_2 : (mi a0 6) ≤ x3 → zX c k_Pe_comes 38 [some (zR a0), some (zI x1), some (zI x2), some (zI x3)] [] (n, K, mr, mi) Q) (p_3 : ¬ (mi a0 6) ≤ x3 → zX c k_Pe_comes 12 [some (zR a0), some (zI x1), some (zI x2), some (zI x3)] [] (n, K, mr, mi) Q) : zX c k_Pe_comes 4 [some (zR a0), some (zI x1), some (zI x2), some (zI x3)] [] (n, K, mr, mi) Q := 
  zX.n rfl (zX.n rfl (zX.g rfl h_1 (zX.n rfl (zX.ite p_2 p_3))))
theorem s_Pe_comes_12 {a0 : Nat} {x1 : Int} {x2 : Int} {x3 : Int} (p_1 : ¬ x2 = 0 → zX c k_Pe_comes 26 [some (zR a0), some (zI x1), some (zI x2), some (zI x3)] [] (n, K, mr, mi) Q) (p_2 : x2 = 0 → zX c k_Pe_comes 16 [some (zR a0), some (zI x1), some (zI x2), some (zI x3)] [] (n, K, mr, mi) Q) : zX c k_Pe_comes 12 [some (zR a0), some (zI x1), some (zI x2), some (zI x3)] [] (n, K, mr, mi) Q := 
  zX.n rfl (zX.n rfl (zX.itn p_1 p_2))
theorem s_Pe_comes_16 {a0 : Nat} {x1 : Int} {w2 : Option zV} {x3 : Int} {A2 : Nat} {N4 : Nat} {j8 : Nat} (h_1 : K a0 = (19, 12)) (h_3 : mr a0 3 = A2) (h_5 : K A2 = (100, N4)) (h_6 : 0 ≤ x3) (h_7 : x3 < (N4 : Int)) (h_9 : Int.toNat x3 = j8) (p_10 : ¬ (mi A2 j8) = x1 → zX c k_Pe_comes 30 [some (zR a0), some (zI x1), w2, some (zI x3)] [] (n, K, mr, mi) Q) (p_11 : (mi A2 j8) = x1 → zX c k_Pe_comes 26 [some (zR a0), some (zI x1), w2, some (zI x3)] [] (n, K, mr, mi) Q) : zX c k_Pe_comes 16 [some (zR a0), some (zI x1), w2, some (zI x3)] [] (n, K, mr, mi) Q := by
  subst h_3
  subst h_9
  exact zX.n rfl (zX.g rfl h_1 (zX.n rfl (zX.g rfl ⟨N4, h_5, h_6, h_7⟩ (zX.n rfl (zX.n rfl (zX.itn p_10 p_11))))))
theorem s_Pe_comes_26 {a0 : Nat} {x1 : Int} {w2 : Option zV} {x3 : Int} (p_1 : zX c k_Pe_comes 31 [some (zR a0), some (zI x1), w2, some (zI x3)] [zI 1] (n, K, mr, mi) Q) : zX c k_Pe_comes 26 [some (zR a0), some (zI x1), w2, some (zI x3)] [] (n, K, mr, mi) Q := 
  zX.n rfl (zX.n rfl p_1)
theorem s_Pe_comes_30 {a0 : Nat} {x1 : Int} {w2 : Option zV} {x3 : Int} (p_1 : zX c k_Pe_comes 31 [some (zR a0), some (zI x1), w2, some (zI x3)] [zI 0] (n, K, mr, mi) Q) : zX c k_Pe_comes 30 [some (zR a0), some (zI x1), w2, some (zI x3)] [] (n, K, mr, mi) Q := 
  zX.n rfl p_1
theorem s_Pe_comes_31 {a0 : Nat} {x1 : Int} {w2 : Option zV} {x3 : Int} {sx0 : Int} (p_1 : zX c k_Pe_comes 4 [some (zR a0), some (zI x1), some (zI sx0), some (zI (zw (x3 + 1)))] [] (n, K, mr, mi) Q) : zX c k_Pe_comes 31 [some (zR a0), some (zI x1), w2, some (zI x3)] [zI sx0] (n, K, mr, mi) Q := 
  zX.n rfl (zX.n rfl (zX.n rfl p_1))
theorem s_Pe_comes_38 {w0 : Option zV} {w1 : Option zV} {x2 : Int} {w3 : Option zV} (h_1 : x2 = 0 ∨ x2 = 1) (p_2 : Q (.inl (some (zI x2))) (n, K, mr, mi)) : zX c k_Pe_comes 38 [w0, w1, some (zI x2), w3] [] (n, K, mr, mi) Q := 
  zX.n rfl (zX.ret rfl h_1 p_2)
theorem s_TF_colour_0 {w0 : Option zV} {w1 : Option zV} {a2 : Nat} {A2 : Nat} {N4 : Nat} (h_1 : K a2 = (19, 12)) (h_3 : mr a2 2 = A2) (h_5 : K A2 = (100, N4)) (h_6 : (0 : Int) < (N4 : Int)) (p_7 : Q (.inl (some (zI (mi A2 0)))) (n, K, mr, mi)) : zX c k_TF_colour 0 [w0, w1, some (zR a2)] [] (n, K, mr, mi) Q := by
  subst h_3
  exact zX.n rfl (zX.g rfl h_1 (zX.n rfl (zX.g rfl ⟨N4, h_5, (by decide), h_6⟩ (zX.ret rfl trivial p_7))))
theorem s_Mo_thereOf_0 {a0 : Nat} {x1 : Int} {w2 : Option zV} {w3 : Option zV} (p_1 : zX c k_Mo_thereOf 4 [some (zR a0), some (zI x1), some (zI 0), some (zI 0)] [] (n, K, mr, mi) Q) : zX c k_Mo_thereOf 0 [some (zR a0), some (zI x1), w2, w3] [] (n, K, mr, mi) Q := 
  zX.n rfl (zX.n rfl (zX.n rfl (zX.n rfl p_1)))
theorem s_Mo_thereOf_4 {a0 : Nat} {x1 : Int} {x2 : Int} {x3 : Int} {A2 : Nat} (h_1 : K a0 = (6, 13)) (h_3 : mr a0 9 = A2) (h_4 : K A2 = (18, 12)) (p_5 : (mi A2 5) ≤ x3 → zX c k_Mo_thereOf 58 [some (zR a0), some (zI x1), some (zI x2), some (zI x3)] [] (n, K, mr, mi) Q) (p_6 : ¬ (mi A2 5) ≤ x3 → zX c k_Mo_thereOf 15 [some (zR a0), some (zI x1), some (zI x2), some (zI x3)] [] (n, K, mr, mi) Q) : zX c k_Mo_thereOf 4 [some (zR a0), some (zI x1), some (zI x2), some (zI x3)] [] (n, K, mr, mi) Q := by
  subst h_3
  exact zX.n rfl (zX.n rfl (zX.g rfl h_1 (zX.g rfl h_4 (zX.n rfl (zX.ite p_5 p_6)))))
theorem s_Mo_thereOf_15 {a0 : Nat} {x1 : Int} {x2 : Int} {x3 : Int} {A2 : Nat} {N4 : Nat} {j8 : Nat} (h_1 : K a0 = (6, 13)) (h_3 : mr a0 3 = A2) (h_5 : K A2 = (100, N4)) (h_6 : 0 ≤ x3) (h_7 : x3 < (N4 : Int)) (h_9 : Int.toNat x3 = j8) (p_10 : (mi A2 j8) = ((-2)) → zX c k_Mo_thereOf 49 [some (zR a0), some (zI x1), some (zI x2), some (zI x3)] [zI x2] (n, K, mr, mi) Q) (p_11 : ¬ (mi A2 j8) = ((-2)) → zX c k_Mo_thereOf 27 [some (zR a0), some (zI x1), some (zI x2), some (zI x3)] [zI x2] (n, K, mr, mi) Q) : zX c k_Mo_thereOf 15 [some (zR a0), some (zI x1), some (zI x2), some (zI x3)] [] (n, K, mr, mi) Q := by
  subst h_3
  subst h_9
  exact zX.n rfl (zX.n rfl (zX.g rfl h_1 (zX.n rfl (zX.g rfl ⟨N4, h_5, h_6, h_7⟩ (zX.n rfl (zX.n rfl (zX.ite p_10 p_11)))))))
theorem s_Mo_thereOf_27 {a0 : Nat} {x1 : Int} {w2 : Option zV} {x3 : Int} {sx0 : Int} {A2 : Nat} {A4 : Nat} {N6 : Nat} {j10 : Nat} {N12 : Nat} {j16 : Nat} {A18 : Nat} (h_1 : K a0 = (6, 13)) (h_3 : mr a0 2 = A2) (h_5 : mr a0 3 = A4) (h_7 : K A4 = (100, N6)) (h_8 : 0 ≤ x3) (h_9 : x3 < (N6 : Int)) (h_11 : Int.toNat x3 = j10) (h_13 : K A2 = (108, N12)) (h_14 : 0 ≤ (mi A4 j10)) (h_15 : (mi A4 j10) < (N12 : Int)) (h_17 : Int.toNat (mi A4 j10) = j16) (h_19 : mr A2 j16 = A18) (h_20 : K A18 = (14, 7)) (p_21 : ¬ (mi A18 1) = x1 → zX c k_Mo_thereOf 49 [some (zR a0), some (zI x1), w2, some (zI x3)] [zI sx0] (n, K, mr, mi) Q) (p_22 : (mi A18 1) = x1 → zX c k_Mo_thereOf 45 [some (zR a0), some (zI x1), w2, some (zI x3)] [zI sx0] (n, K, mr, mi) Q) : zX c k_Mo_thereOf 27 [some (zR a0), some (zI x1), w2, some (zI x3)] [zI sx0] (n, K, mr, mi) Q := by
  subst h_3
  subst h_5
  subst h_11
  subst h_17
  subst h_19
  exact zX.n rfl (zX.g rfl h_1 (zX.n rfl (zX.g rfl h_1 (zX.n rfl (zX.g rfl ⟨N6, h_7, h_8, h_9⟩ (zX.g rfl ⟨N12, h_13, h_14, h_15⟩ (zX.g rfl h_20 (zX.n rfl (zX.n rfl (zX.itn p_21 p_22))))))))))
theorem s_Mo_thereOf_45 {a0 : Nat} {x1 : Int} {w2 : Option zV} {x3 : Int} {sx0 : Int} (p_1 : zX c k_Mo_thereOf 50 [some (zR a0), some (zI x1), w2, some (zI x3)] [zI 1, zI sx0] (n, K, mr, mi) Q) : zX c k_Mo_thereOf 45 [some (zR a0), some (zI x1), w2, some (zI x3)] [zI sx0] (n, K, mr, mi) Q := 
  zX.n rfl (zX.n rfl p_1)
theorem s_Mo_thereOf_49 {a0 : Nat} {x1 : Int} {w2 : Option zV} {x3 : Int} {sx0 : Int} (p_1 : zX c k_Mo_thereOf 50 [some (zR a0), some (zI x1), w2, some (zI x3)] [zI 0, zI sx0] (n, K, mr, mi) Q) : zX c k_Mo_thereOf 49 [some (zR a0), some (zI x1), w2, some (zI x3)] [zI sx0] (n, K, mr, mi) Q := 
  zX.n rfl p_1
theorem s_Mo_thereOf_50 {a0 : Nat} {x1 : Int} {w2 : Option zV} {x3 : Int} {sx0 : Int} {sx1 : Int} (p_1 : zX c k_Mo_thereOf 4 [some (zR a0), some (zI x1), some (zI (zw (sx0 + sx1))), some (zI (zw (x3 + 1)))] [] (n, K, mr, mi) Q) : zX c k_Mo_thereOf 50 [some (zR a0), some (zI x1), w2, some (zI x3)] [zI sx1, zI sx0] (n, K, mr, mi) Q := 
  zX.n rfl (zX.n rfl (zX.n rfl (zX.n rfl p_1)))
theorem s_Mo_thereOf_58 {w0 : Option zV} {w1 : Option zV} {x2 : Int} {w3 : Option zV} (p_1 : Q (.inl (some (zI x2))) (n, K, mr, mi)) : zX c k_Mo_thereOf 58 [w0, w1, some (zI x2), w3] [] (n, K, mr, mi) Q := 
  zX.n rfl (zX.ret rfl trivial p_1)
theorem s_Un_colour_0 {w0 : Option zV} {a1 : Nat} {a2 : Nat} {w3 : Option zV} (p_1 : zX c k_Un_colour 2 [w0, some (zR a1), some (zR a2), some (zI 0)] [] (n, K, mr, mi) Q) : zX c k_Un_colour 0 [w0, some (zR a1), some (zR a2), w3] [] (n, K, mr, mi) Q := 
  zX.n rfl (zX.n rfl p_1)
theorem s_Un_colour_2 {w0 : Option zV} {a1 : Nat} {a2 : Nat} {x3 : Int} (h_1 : K a2 = (19, 12)) (p_2 : (mi a2 5) ≤ x3 → zX c k_Un_colour 36 [w0, some (zR a1), some (zR a2), some (zI x3)] [] (n, K, mr, mi) Q) (p_3 : ¬ (mi a2 5) ≤ x3 → zX c k_Un_colour 10 [w0, some (zR a1), some (zR a2), some (zI x3)] [] (n, K, mr, mi) Q) : zX c k_Un_colour 2 [w0, some (zR a1), some (zR a2), some (zI x3)] [] (n, K, mr, mi) Q := 
  zX.n rfl (zX.n rfl (zX.g rfl h_1 (zX.n rfl (zX.ite p_2 p_3))))
theorem s_Un_colour_10 {w0 : Option zV} {a1 : Nat} {a2 : Nat} {x3 : Int} {A2 : Nat} {N4 : Nat} {j8 : Nat} (h_1 : K a2 = (19, 12)) (h_3 : mr a2 2 = A2) (h_5 : K A2 = (100, N4)) (h_6 : 0 ≤ x3) (h_7 : x3 < (N4 : Int)) (h_9 : Int.toNat x3 = j8) (h_10 : K a1 = (6, 13)) (k_11 : zCall c k_Un_colour 17 20 [w0, some (zR a1), some (zR a2), some (zI x3)] [] 0 k_Mo_thereOf [zR a1, zI (mi A2 j8)] (n, K, mr, mi) Q) : zX c k_Un_colour 10 [w0, some (zR a1), some (zR a2), some (zI x3)] [] (n, K, mr, mi) Q := by
  subst h_3
  subst h_9
  exact zX.n rfl (zX.n rfl (zX.g rfl h_1 (zX.n rfl (zX.g rfl ⟨N4, h_5, h_6, h_7⟩ (zX.callQ rfl (congrArg Prod.fst h_10) trivial k_11)))))
theorem s_Un_colour_20 {w0 : Option zV} {a1 : Nat} {a2 : Nat} {x3 : Int} {sx0 : Int} (p_1 : ¬ sx0 = 0 → zX c k_Un_colour 30 [w0, some (zR a1), some (zR a2), some (zI x3)] [] (n, K, mr, mi) Q) (p_2 : sx0 = 0 → zX c k_Un_colour 23 [w0, some (zR a1), some (zR a2), some (zI x3)] [] (n, K, mr, mi) Q) : zX c k_Un_colour 20 [w0, some (zR a1), some (zR a2), some (zI x3)] [zI sx0] (n, K, mr, mi) Q := 
  zX.n rfl (zX.itn p_1 p_2)
theorem s_Un_colour_23 {w0 : Option zV} {w1 : Option zV} {a2 : Nat} {x3 : Int} {A2 : Nat} {N4 : Nat} {j8 : Nat} (h_1 : K a2 = (19, 12)) (h_3 : mr a2 2 = A2) (h_5 : K A2 = (100, N4)) (h_6 : 0 ≤ x3) (h_7 : x3 < (N4 : Int)) (h_9 : Int.toNat x3 = j8) (p_10 : Q (.inl (some (zI (mi A2 j8)))) (n, K, mr, mi)) : zX c k_Un_colour 23 [w0, w1, some (zR a2), some (zI x3)] [] (n, K, mr, mi) Q := by
  subst h_3
  subst h_9
  exact zX.n rfl (zX.g rfl h_1 (zX.n rfl (zX.g rfl ⟨N4, h_5, h_6, h_7⟩ (zX.ret rfl trivial p_10))))
theorem s_Un_colour_30 {w0 : Option zV} {a1 : Nat} {a2 : Nat} {x3 : Int} (p_1 : zX c k_Un_colour 2 [w0, some (zR a1), some (zR a2), some (zI (zw (x3 + 1)))] [] (n, K, mr, mi) Q) : zX c k_Un_colour 30 [w0, some (zR a1), some (zR a2), some (zI x3)] [] (n, K, mr, mi) Q := 
  zX.n rfl (zX.n rfl p_1)
theorem s_Un_colour_36 {w0 : Option zV} {w1 : Option zV} {a2 : Nat} {w3 : Option zV} {A2 : Nat} {N4 : Nat} (h_1 : K a2 = (19, 12)) (h_3 : mr a2 2 = A2) (h_5 : K A2 = (100, N4)) (h_6 : (0 : Int) < (N4 : Int)) (p_7 : Q (.inl (some (zI (mi A2 0)))) (n, K, mr, mi)) : zX c k_Un_colour 36 [w0, w1, some (zR a2), w3] [] (n, K, mr, mi) Q := by
  subst h_3
  exact zX.n rfl (zX.g rfl h_1 (zX.n rfl (zX.g rfl ⟨N4, h_5, (by decide), h_6⟩ (zX.ret rfl trivial p_7))))
theorem s_Ra_colour_0 {w0 : Option zV} {a1 : Nat} {a2 : Nat} {w3 : Option zV} {w4 : Option zV} {A2 : Nat} {N4 : Nat} (h_1 : K a2 = (19, 12)) (h_3 : mr a2 2 = A2) (h_5 : K A2 = (100, N4)) (h_6 : (0 : Int) < (N4 : Int)) (p_7 : zX c k_Ra_colour 10 [w0, some (zR a1), some (zR a2), some (zI (mi A2 0)), some (zI 1)] [] (n, K, mr, mi) Q) : zX c k_Ra_colour 0 [w0, some (zR a1), some (zR a2), w3, w4] [] (n, K, mr, mi) Q := by
  subst h_3
  exact zX.n rfl (zX.g rfl h_1 (zX.n rfl (zX.g rfl ⟨N4, h_5, (by decide), h_6⟩ (zX.n rfl (zX.n rfl (zX.n rfl p_7))))))
theorem s_Ra_colour_10 {w0 : Option zV} {a1 : Nat} {a2 : Nat} {x3 : Int} {x4 : Int} (h_1 : K a2 = (19, 12)) (p_2 : (mi a2 5) ≤ x4 → zX c k_Ra_colour 52 [w0, some (zR a1), some (zR a2), some (zI x3), some (zI x4)] [] (n, K, mr, mi) Q) (p_3 : ¬ (mi a2 5) ≤ x4 → zX c k_Ra_colour 19 [w0, some (zR a1), some (zR a2), some (zI x3), some (zI x4)] [] (n, K, mr, mi) Q) : zX c k_Ra_colour 10 [w0, some (zR a1), some (zR a2), some (zI x3), some (zI x4)] [] (n, K, mr, mi) Q := 
  zX.n rfl (zX.n rfl (zX.g rfl h_1 (zX.n rfl (zX.ite p_2 p_3))))
theorem s_Ra_colour_19 {w0 : Option zV} {a1 : Nat} {a2 : Nat} {x3 : Int} {x4 : Int} {A2 : Nat} {N4 : Nat} {j8 : Nat} (h_1 : K a2 = (19, 12)) (h_3 : mr a2 2 = A2) (h_5 : K A2 = (100, N4)) (h_6 : 0 ≤ x4) (h_7 : x4 < (N4 : Int)) (h_9 : Int.toNat x4 = j8) (h_10 : K a1 = (6, 13)) (k_11 : zCall c k_Ra_colour 27 30 [w0, some (zR a1), some (zR a2), some (zI x3), some (zI x4)] [] 0 k_Mo_thereOf [zR a1, zI (mi A2 j8)] (n, K, mr, mi) Q) : zX c k_Ra_colour 19 [w0, some (zR a1), some (zR a2), some (zI x3), some (zI x4)] [] (n, K, mr, mi) Q := by
  subst h_3
  subst h_9
  exact zX.n rfl (zX.n rfl (zX.g rfl h_1 (zX.n rfl (zX.g rfl ⟨N4, h_5, h_6, h_7⟩ (zX.callQ rfl (congrArg Prod.fst h_10) trivial k_11)))))
theorem s_Ra_colour_30 {w0 : Option zV} {a1 : Nat} {a2 : Nat} {x3 : Int} {x4 : Int} {sx0 : Int} (h_1 : K a1 = (6, 13)) (k_2 : zCall c k_Ra_colour 32 35 [w0, some (zR a1), some (zR a2), some (zI x3), some (zI x4)] [zI sx0] 0 k_Mo_thereOf [zR a1, zI x3] (n, K, mr, mi) Q) : zX c k_Ra_colour 30 [w0, some (zR a1), some (zR a2), some (zI x3), some (zI x4)] [zI sx0] (n, K, mr, mi) Q := 
  zX.n rfl (zX.n rfl (zX.callQ rfl (congrArg Prod.fst h_1) trivial k_2))
theorem s_Ra_colour_35 {w0 : Option zV} {a1 : Nat} {a2 : Nat} {x3 : Int} {x4 : Int} {sx0 : Int} {sx1 : Int} (p_1 : sx1 ≤ sx0 → zX c k_Ra_colour 46 [w0, some (zR a1), some (zR a2), some (zI x3), some (zI x4)] [] (n, K, mr, mi) Q) (p_2 : ¬ sx1 ≤ sx0 → zX c k_Ra_colour 38 [w0, some (zR a1), some (zR a2), some (zI x3), some (zI x4)] [] (n, K, mr, mi) Q) : zX c k_Ra_colour 35 [w0, some (zR a1), some (zR a2), some (zI x3), some (zI x4)] [zI sx1, zI sx0] (n, K, mr, mi) Q := 
  zX.n rfl (zX.ite p_1 p_2)
theorem s_Ra_colour_38 {w0 : Option zV} {a1 : Nat} {a2 : Nat} {w3 : Option zV} {x4 : Int} {A2 : Nat} {N4 : Nat} {j8 : Nat} (h_1 : K a2 = (19, 12)) (h_3 : mr a2 2 = A2) (h_5 : K A2 = (100, N4)) (h_6 : 0 ≤ x4) (h_7 : x4 < (N4 : Int)) (h_9 : Int.toNat x4 = j8) (p_10 : zX c k_Ra_colour 46 [w0, some (zR a1), some (zR a2), some (zI (mi A2 j8)), some (zI x4)] [] (n, K, mr, mi) Q) : zX c k_Ra_colour 38 [w0, some (zR a1), some (zR a2), w3, some (zI x4)] [] (n, K, mr, mi) Q := by
  subst h_3
  subst h_9
  exact zX.n rfl (zX.g rfl h_1 (zX.n rfl (zX.g rfl ⟨N4, h_5, h_6, h_7⟩ (zX.n rfl p_10))))
theorem s_Ra_colour_46 {w0 : Option zV} {a1 : Nat} {a2 : Nat} {x3 : Int} {x4 : Int} (p_1 : zX c k_Ra_colour 10 [w0, some (zR a1), some (zR a2), some (zI x3), some (zI (zw (x4 + 1)))] [] (n, K, mr, mi) Q) : zX c k_Ra_colour 46 [w0, some (zR a1), some (zR a2), some (zI x3), some (zI x4)] [] (n, K, mr, mi) Q := 
  zX.n rfl (zX.n rfl p_1)
theorem s_Ra_colour_52 {w0 : Option zV} {w1 : Option zV} {w2 : Option zV} {x3 : Int} {w4 : Option zV} (p_1 : Q (.inl (some (zI x3))) (n, K, mr, mi)) : zX c k_Ra_colour 52 [w0, w1, w2, some (zI x3), w4] [] (n, K, mr, mi) Q := 
  zX.n rfl (zX.ret rfl trivial p_1)
theorem s_Br_begin_0 {a0 : Nat} {x1 : Int} {x2 : Int} {x3 : Int} (h_1 : K a0 = (14, 7)) (h_2 : 64 ≤ a0) (p_3 : Q (.inl none) (n, K, mr, zst (zst (zst (zst (zst (zst (zst mi a0 0 x1) a0 1 x2) a0 2 x3) a0 3 ((-2))) a0 4 0) a0 5 ((-1))) a0 6 ((-2)))) : zX c k_Br_begin 0 [some (zR a0), some (zI x1), some (zI x2), some (zI x3)] [] (n, K, mr, mi) Q := 
  zX.n rfl (zX.n rfl (zX.g rfl ⟨h_2, h_1⟩ (zX.n rfl (zX.n rfl (zX.g rfl ⟨h_2, h_1⟩ (zX.n rfl (zX.n rfl (zX.g rfl ⟨h_2, h_1⟩ (zX.n rfl (zX.n rfl (zX.g rfl ⟨h_2, h_1⟩ (zX.n rfl (zX.n rfl (zX.g rfl ⟨h_2, h_1⟩ (zX.n rfl (zX.n rfl (zX.g rfl ⟨h_2, h_1⟩ (zX.n rfl (zX.n rfl (zX.g rfl ⟨h_2, h_1⟩ (zX.ret rfl trivial p_3)))))))))))))))))))))
theorem s_Mo_firstFree_0 {a0 : Nat} {w1 : Option zV} (p_1 : zX c k_Mo_firstFree 2 [some (zR a0), some (zI 0)] [] (n, K, mr, mi) Q) : zX c k_Mo_firstFree 0 [some (zR a0), w1] [] (n, K, mr, mi) Q := 
  zX.n rfl (zX.n rfl p_1)
theorem s_Mo_firstFree_2 {a0 : Nat} {x1 : Int} {A2 : Nat} (h_1 : K a0 = (6, 13)) (h_3 : mr a0 9 = A2) (h_4 : K A2 = (18, 12)) (p_5 : (mi A2 5) ≤ x1 → zX c k_Mo_firstFree 32 [some (zR a0), some (zI x1)] [] (n, K, mr, mi) Q) (p_6 : ¬ (mi A2 5) ≤ x1 → zX c k_Mo_firstFree 13 [some (zR a0), some (zI x1)] [] (n, K, mr, mi) Q) : zX c k_Mo_firstFree 2 [some (zR a0), some (zI x1)] [] (n, K, mr, mi) Q := by
  subst h_3
  exact zX.n rfl (zX.n rfl (zX.g rfl h_1 (zX.g rfl h_4 (zX.n rfl (zX.ite p_5 p_6)))))
theorem s_Mo_firstFree_13 {a0 : Nat} {x1 : Int} {A2 : Nat} {N4 : Nat} {j8 : Nat} (h_1 : K a0 = (6, 13)) (h_3 : mr a0 3 = A2) (h_5 : K A2 = (100, N4)) (h_6 : 0 ≤ x1) (h_7 : x1 < (N4 : Int)) (h_9 : Int.toNat x1 = j8) (p_10 : ¬ (mi A2 j8) = ((-2)) → zX c k_Mo_firstFree 26 [some (zR a0), some (zI x1)] [] (n, K, mr, mi) Q) (p_11 : (mi A2 j8) = ((-2)) → zX c k_Mo_firstFree 24 [some (zR a0), some (zI x1)] [] (n, K, mr, mi) Q) : zX c k_Mo_firstFree 13 [some (zR a0), some (zI x1)] [] (n, K, mr, mi) Q := by
  subst h_3
  subst h_9
  exact zX.n rfl (zX.g rfl h_1 (zX.n rfl (zX.g rfl ⟨N4, h_5, h_6, h_7⟩ (zX.n rfl (zX.n rfl (zX.itn p_10 p_11))))))
theorem s_Mo_firstFree_24 {w0 : Option zV} {x1 : Int} (p_1 : Q (.inl (some (zI x1))) (n, K, mr, mi)) : zX c k_Mo_firstFree 24 [w0, some (zI x1)] [] (n, K, mr, mi) Q := 
  zX.n rfl (zX.ret rfl trivial p_1)
theorem s_Mo_firstFree_26 {a0 : Nat} {x1 : Int} (p_1 : zX c k_Mo_firstFree 2 [some (zR a0), some (zI (zw (x1 + 1)))] [] (n, K, mr, mi) Q) : zX c k_Mo_firstFree 26 [some (zR a0), some (zI x1)] [] (n, K, mr, mi) Q := 
  zX.n rfl (zX.n rfl p_1)
theorem s_Mo_firstFree_32 {w0 : Option zV} {w1 : Option zV} (p_1 : Q (.inl (some (zI 8))) (n, K, mr, mi)) : zX c k_Mo_firstFree 32 [w0, w1] [] (n, K, mr, mi) Q := 
  zX.n rfl (zX.ret rfl trivial p_1)
theorem s_Mo_puts_0 {a0 : Nat} {x1 : Int} {x2 : Int} {w3 : Option zV} (h_1 : K a0 = (6, 13)) (k_2 : zCall c k_Mo_puts 1 4 [some (zR a0), some (zI x1), some (zI x2), w3] [] 0 k_Mo_firstFree [zR a0] (n, K, mr, mi) Q) : zX c k_Mo_puts 0 [some (zR a0), some (zI x1), some (zI x2), w3] [] (n, K, mr, mi) Q := 
  zX.n rfl (zX.callQ rfl (congrArg Prod.fst h_1) trivial k_2)
theorem s_Mo_puts_4 {a0 : Nat} {x1 : Int} {x2 : Int} {w3 : Option zV} {sx0 : Int} {A2 : Nat} {N4 : Nat} {j8 : Nat} {A10 : Nat} {A14 : Nat} {N16 : Nat} {j20 : Nat} (h_1 : K a0 = (6, 13)) (h_3 : mr a0 2 = A2) (h_5 : K A2 = (108, N4)) (h_6 : 0 ≤ x2) (h_7 : x2 < (N4 : Int)) (h_9 : Int.toNat x2 = j8) (h_11 : mr A2 j8 = A10) (h_12 : K A10 = (14, 7)) (h_13 : 64 ≤ A10) (h_15 : mr a0 5 = A14) (h_17 : K A14 = (100, N16)) (h_18 : 0 ≤ x1) (h_19 : x1 < (N16 : Int)) (h_21 : Int.toNat x1 = j20) (h_22 : 64 ≤ A14) (p_23 : sx0 = (8 : Int) → zX c k_Mo_puts 35 [some (zR a0), some (zI x1), some (zI x2), some (zI sx0)] [] (n, K, mr, zst (zst mi A10 6 sx0) A14 j20 sx0) Q) (p_24 : ¬ sx0 = (8 : Int) → zX c k_Mo_puts 28 [some (zR a0), some (zI x1), some (zI x2), some (zI sx0)] [] (n, K, mr, zst (zst mi A10 6 sx0) A14 j20 sx0) Q) : zX c k_Mo_puts 4 [some (zR a0), some (zI x1), some (zI x2), w3] [zI sx0] (n, K, mr, mi) Q := by
  subst h_3
  subst h_9
  subst h_11
  subst h_15
  subst h_21
  exact zX.n rfl (zX.n rfl (zX.g rfl h_1 (zX.n rfl (zX.g rfl ⟨N4, h_5, h_6, h_7⟩ (zX.n rfl (zX.g rfl ⟨h_13, h_12⟩ (zX.n rfl (zX.g rfl h_1 (zX.n rfl (zX.n rfl (zX.g rfl ⟨N16, h_22, h_17, h_18, h_19⟩ (zX.n rfl (zX.n rfl (zX.n rfl (zX.ite p_23 p_24)))))))))))))))
theorem s_Mo_puts_28 {a0 : Nat} {w1 : Option zV} {x2 : Int} {x3 : Int} {A2 : Nat} {N4 : Nat} {j8 : Nat} (h_1 : K a0 = (6, 13)) (h_3 : mr a0 3 = A2) (h_5 : K A2 = (100, N4)) (h_6 : 0 ≤ x3) (h_7 : x3 < (N4 : Int)) (h_9 : Int.toNat x3 = j8) (h_10 : 64 ≤ A2) (p_11 : zX c k_Mo_puts 35 [some (zR a0), w1, some (zI x2), some (zI x3)] [] (n, K, mr, zst mi A2 j8 x2) Q) : zX c k_Mo_puts 28 [some (zR a0), w1, some (zI x2), some (zI x3)] [] (n, K, mr, mi) Q := by
  subst h_3
  subst h_9
  exact zX.n rfl (zX.g rfl h_1 (zX.n rfl (zX.n rfl (zX.g rfl ⟨N4, h_10, h_5, h_6, h_7⟩ p_11))))
theorem s_Mo_puts_35 {w0 : Option zV} {w1 : Option zV} {w2 : Option zV} {w3 : Option zV} (p_1 : Q (.inl none) (n, K, mr, mi)) : zX c k_Mo_puts 35 [w0, w1, w2, w3] [] (n, K, mr, mi) Q := 
  zX.ret rfl trivial p_1
theorem s_Mo_buys_0_TF {a0 : Nat} {a1 : Nat} {A2 : Nat} {N4 : Nat} {j8 : Nat} {A10 : Nat} {A13 : Nat} {A15 : Nat} {A18 : Nat} {N20 : Nat} {j24 : Nat} {N26 : Nat} {j30 : Nat} {A32 : Nat} (h_1 : K a0 = (6, 13)) (h_3 : mr a0 2 = A2) (h_5 : K A2 = (108, N4)) (h_6 : 0 ≤ (mi a0 12)) (h_7 : (mi a0 12) < (N4 : Int)) (h_9 : Int.toNat (mi a0 12) = j8) (h_11 : mr A2 j8 = A10) (h_12 : K a1 = (19, 12)) (h_14 : mr a0 0 = A13) (h_16 : mr a0 10 = A15) (h_17 : K A15 = (5, 6)) (h_19 : mr A15 1 = A18) (h_21 : K A18 = (100, N20)) (h_22 : 0 ≤ (mi a1 1)) (h_23 : (mi a1 1) < (N20 : Int)) (h_25 : Int.toNat (mi a1 1) = j24) (h_27 : K A13 = (106, N26)) (h_28 : 0 ≤ (mi A18 j24)) (h_29 : (mi A18 j24) < (N26 : Int)) (h_31 : Int.toNat (mi A18 j24) = j30) (h_33 : mr A13 j30 = A32) (h_34 : K A32 = (7, 0)) (k_35 : zCall c k_Mo_buys 32 35 [some (zR a0), some (zR a1)] [zI (mi a1 1), zR A10] 0 k_TF_colour [zR A32, zR a0, zR a1] (n, K, mr, mi) Q) : zX c k_Mo_buys 0 [some (zR a0), some (zR a1)] [] (n, K, mr, mi) Q := by
  subst h_3
  subst h_9
  subst h_11
  subst h_14
  subst h_16
  subst h_19
  subst h_25
  subst h_31
  subst h_33
  exact zX.n rfl (zX.g rfl h_1 (zX.n rfl (zX.g rfl h_1 (zX.g rfl ⟨N4, h_5, h_6, h_7⟩ (zX.n rfl (zX.g rfl h_12 (zX.n rfl (zX.g rfl h_1 (zX.n rfl (zX.g rfl h_1 (zX.g rfl h_17 (zX.n rfl (zX.g rfl h_12 (zX.g rfl ⟨N20, h_21, h_22, h_23⟩ (zX.g rfl ⟨N26, h_27, h_28, h_29⟩ (zX.n rfl (zX.n rfl (zX.callQ (M' := k_TF_colour) (Eq.trans (b := zdisp [7, 87, 8, 89, 9, 90] (K _).1 _ _ _) rfl (by rw [h_34]; rfl)) trivial (by exact trivial) k_35))))))))))))))))))
theorem s_Mo_buys_0_Un {a0 : Nat} {a1 : Nat} {A2 : Nat} {N4 : Nat} {j8 : Nat} {A10 : Nat} {A13 : Nat} {A15 : Nat} {A18 : Nat} {N20 : Nat} {j24 : Nat} {N26 : Nat} {j30 : Nat} {A32 : Nat} (h_1 : K a0 = (6, 13)) (h_3 : mr a0 2 = A2) (h_5 : K A2 = (108, N4)) (h_6 : 0 ≤ (mi a0 12)) (h_7 : (mi a0 12) < (N4 : Int)) (h_9 : Int.toNat (mi a0 12) = j8) (h_11 : mr A2 j8 = A10) (h_12 : K a1 = (19, 12)) (h_14 : mr a0 0 = A13) (h_16 : mr a0 10 = A15) (h_17 : K A15 = (5, 6)) (h_19 : mr A15 1 = A18) (h_21 : K A18 = (100, N20)) (h_22 : 0 ≤ (mi a1 1)) (h_23 : (mi a1 1) < (N20 : Int)) (h_25 : Int.toNat (mi a1 1) = j24) (h_27 : K A13 = (106, N26)) (h_28 : 0 ≤ (mi A18 j24)) (h_29 : (mi A18 j24) < (N26 : Int)) (h_31 : Int.toNat (mi A18 j24) = j30) (h_33 : mr A13 j30 = A32) (h_34 : K A32 = (8, 0)) (k_35 : zCall c k_Mo_buys 32 35 [some (zR a0), some (zR a1)] [zI (mi a1 1), zR A10] 0 k_Un_colour [zR A32, zR a0, zR a1] (n, K, mr, mi) Q) : zX c k_Mo_buys 0 [some (zR a0), some (zR a1)] [] (n, K, mr, mi) Q := by
  subst h_3
  subst h_9
  subst h_11
  subst h_14
  subst h_16
  subst h_19
  subst h_25
  subst h_31
  subst h_33
  exact zX.n rfl (zX.g rfl h_1 (zX.n rfl (zX.g rfl h_1 (zX.g rfl ⟨N4, h_5, h_6, h_7⟩ (zX.n rfl (zX.g rfl h_12 (zX.n rfl (zX.g rfl h_1 (zX.n rfl (zX.g rfl h_1 (zX.g rfl h_17 (zX.n rfl (zX.g rfl h_12 (zX.g rfl ⟨N20, h_21, h_22, h_23⟩ (zX.g rfl ⟨N26, h_27, h_28, h_29⟩ (zX.n rfl (zX.n rfl (zX.callQ (M' := k_Un_colour) (Eq.trans (b := zdisp [7, 87, 8, 89, 9, 90] (K _).1 _ _ _) rfl (by rw [h_34]; rfl)) trivial (by exact trivial) k_35))))))))))))))))))
theorem s_Mo_buys_0_Ra {a0 : Nat} {a1 : Nat} {A2 : Nat} {N4 : Nat} {j8 : Nat} {A10 : Nat} {A13 : Nat} {A15 : Nat} {A18 : Nat} {N20 : Nat} {j24 : Nat} {N26 : Nat} {j30 : Nat} {A32 : Nat} (h_1 : K a0 = (6, 13)) (h_3 : mr a0 2 = A2) (h_5 : K A2 = (108, N4)) (h_6 : 0 ≤ (mi a0 12)) (h_7 : (mi a0 12) < (N4 : Int)) (h_9 : Int.toNat (mi a0 12) = j8) (h_11 : mr A2 j8 = A10) (h_12 : K a1 = (19, 12)) (h_14 : mr a0 0 = A13) (h_16 : mr a0 10 = A15) (h_17 : K A15 = (5, 6)) (h_19 : mr A15 1 = A18) (h_21 : K A18 = (100, N20)) (h_22 : 0 ≤ (mi a1 1)) (h_23 : (mi a1 1) < (N20 : Int)) (h_25 : Int.toNat (mi a1 1) = j24) (h_27 : K A13 = (106, N26)) (h_28 : 0 ≤ (mi A18 j24)) (h_29 : (mi A18 j24) < (N26 : Int)) (h_31 : Int.toNat (mi A18 j24) = j30) (h_33 : mr A13 j30 = A32) (h_34 : K A32 = (9, 0)) (k_35 : zCall c k_Mo_buys 32 35 [some (zR a0), some (zR a1)] [zI (mi a1 1), zR A10] 0 k_Ra_colour [zR A32, zR a0, zR a1] (n, K, mr, mi) Q) : zX c k_Mo_buys 0 [some (zR a0), some (zR a1)] [] (n, K, mr, mi) Q := by
  subst h_3
  subst h_9
  subst h_11
  subst h_14
  subst h_16
  subst h_19
  subst h_25
  subst h_31
  subst h_33
  exact zX.n rfl (zX.g rfl h_1 (zX.n rfl (zX.g rfl h_1 (zX.g rfl ⟨N4, h_5, h_6, h_7⟩ (zX.n rfl (zX.g rfl h_12 (zX.n rfl (zX.g rfl h_1 (zX.n rfl (zX.g rfl h_1 (zX.g rfl h_17 (zX.n rfl (zX.g rfl h_12 (zX.g rfl ⟨N20, h_21, h_22, h_23⟩ (zX.g rfl ⟨N26, h_27, h_28, h_29⟩ (zX.n rfl (zX.n rfl (zX.callQ (M' := k_Ra_colour) (Eq.trans (b := zdisp [7, 87, 8, 89, 9, 90] (K _).1 _ _ _) rfl (by rw [h_34]; rfl)) trivial (by exact trivial) k_35))))))))))))))))))
theorem s_Mo_buys_35 {a0 : Nat} {a1 : Nat} {sa0 : Nat} {sx1 : Int} {sx2 : Int} (h_1 : K a0 = (6, 13)) (h_2 : K sa0 = (14, 7)) (k_3 : zCall c k_Mo_buys 39 42 [some (zR a0), some (zR a1)] [] 0 k_Br_begin [zR sa0, zI sx1, zI sx2, zI (mi a0 11)] (n, K, mr, mi) Q) : zX c k_Mo_buys 35 [some (zR a0), some (zR a1)] [zI sx2, zI sx1, zR sa0] (n, K, mr, mi) Q := 
  zX.n rfl (zX.g rfl h_1 (zX.callQ rfl (congrArg Prod.fst h_2) trivial k_3))
theorem s_Mo_buys_42 {a0 : Nat} {a1 : Nat} {A2 : Nat} {N5 : Nat} {j9 : Nat} (h_1 : K a0 = (6, 13)) (h_3 : mr a0 4 = A2) (h_4 : K a1 = (19, 12)) (h_6 : K A2 = (100, N5)) (h_7 : 0 ≤ (mi a1 1)) (h_8 : (mi a1 1) < (N5 : Int)) (h_10 : Int.toNat (mi a1 1) = j9) (h_11 : 64 ≤ A2) (h_12 : 64 ≤ a0) (k_13 : zCall c k_Mo_buys 76 79 [some (zR a0), some (zR a1)] [] 0 k_Mo_puts [zR a0, zI ((zst (zst mi A2 j9 (mi a0 12)) a0 12 (zw (((zst mi A2 j9 (mi a0 12)) a0 12) + 1))) a1 1), zI (zw (((zst (zst mi A2 j9 (mi a0 12)) a0 12 (zw (((zst mi A2 j9 (mi a0 12)) a0 12) + 1))) a0 12) - 1))] (n, K, mr, zst (zst mi A2 j9 (mi a0 12)) a0 12 (zw (((zst mi A2 j9 (mi a0 12)) a0 12) + 1))) Q) : zX c k_Mo_buys 42 [some (zR a0), some (zR a1)] [] (n, K, mr, mi) Q := by
  subst h_3
  subst h_10
  exact zX.n rfl (zX.g rfl h_1 (zX.n rfl (zX.g rfl h_4 (zX.n rfl (zX.g rfl h_1 (zX.g rfl ⟨N5, h_11, h_6, h_7, h_8⟩ (zX.n rfl (zX.n rfl (zX.g rfl h_1 (zX.n rfl (zX.n rfl (zX.g rfl ⟨h_12, h_1⟩ (zX.n rfl (zX.n rfl (zX.g rfl h_4 (zX.n rfl (zX.g rfl h_1 (zX.n rfl (zX.n rfl (zX.callQ rfl (congrArg Prod.fst h_1) trivial k_13))))))))))))))))))))
theorem s_Mo_buys_79 {w0 : Option zV} {w1 : Option zV} (p_1 : Q (.inl none) (n, K, mr, mi)) : zX c k_Mo_buys 79 [w0, w1] [] (n, K, mr, mi) Q := 
  zX.ret rfl trivial p_1
theorem s_Mo_comes_0 {a0 : Nat} {a1 : Nat} {w2 : Option zV} {A2 : Nat} {N5 : Nat} {j9 : Nat} (h_1 : K a0 = (6, 13)) (h_3 : mr a0 4 = A2) (h_4 : K a1 = (19, 12)) (h_6 : K A2 = (100, N5)) (h_7 : 0 ≤ (mi a1 1)) (h_8 : (mi a1 1) < (N5 : Int)) (h_10 : Int.toNat (mi a1 1) = j9) (p_11 : ¬ (mi A2 j9) = ((-2)) → zX c k_Mo_comes 24 [some (zR a0), some (zR a1), some (zI (mi A2 j9))] [] (n, K, mr, mi) Q) (p_12 : (mi A2 j9) = ((-2)) → zX c k_Mo_comes 16 [some (zR a0), some (zR a1), some (zI (mi A2 j9))] [] (n, K, mr, mi) Q) : zX c k_Mo_comes 0 [some (zR a0), some (zR a1), w2] [] (n, K, mr, mi) Q := by
  subst h_3
  subst h_10
  exact zX.n rfl (zX.g rfl h_1 (zX.n rfl (zX.g rfl h_4 (zX.g rfl ⟨N5, h_6, h_7, h_8⟩ (zX.n rfl (zX.n rfl (zX.n rfl (zX.n rfl (zX.itn p_11 p_12)))))))))
theorem s_Mo_comes_16 {a0 : Nat} {a1 : Nat} {w2 : Option zV} (h_1 : K a0 = (6, 13)) (k_2 : zCall c k_Mo_comes 18 21 [some (zR a0), some (zR a1), w2] [] 0 k_Mo_buys [zR a0, zR a1] (n, K, mr, mi) Q) : zX c k_Mo_comes 16 [some (zR a0), some (zR a1), w2] [] (n, K, mr, mi) Q := 
  zX.n rfl (zX.n rfl (zX.callQ rfl (congrArg Prod.fst h_1) trivial k_2))
theorem s_Mo_comes_21 {w0 : Option zV} {w1 : Option zV} {w2 : Option zV} (p_1 : zX c k_Mo_comes 61 [w0, w1, w2] [] (n, K, mr, mi) Q) : zX c k_Mo_comes 21 [w0, w1, w2] [] (n, K, mr, mi) Q := 
  zX.n rfl p_1
theorem s_Mo_comes_24 {a0 : Nat} {a1 : Nat} {x2 : Int} {A2 : Nat} {N4 : Nat} {j8 : Nat} {A10 : Nat} (h_1 : K a0 = (6, 13)) (h_3 : mr a0 2 = A2) (h_5 : K A2 = (108, N4)) (h_6 : 0 ≤ x2) (h_7 : x2 < (N4 : Int)) (h_9 : Int.toNat x2 = j8) (h_11 : mr A2 j8 = A10) (h_12 : K A10 = (14, 7)) (p_13 : (mi A10 6) = (9 : Int) → zX c k_Mo_comes 52 [some (zR a0), some (zR a1), some (zI x2)] [] (n, K, mr, mi) Q) (p_14 : ¬ (mi A10 6) = (9 : Int) → zX c k_Mo_comes 38 [some (zR a0), some (zR a1), some (zI x2)] [] (n, K, mr, mi) Q) : zX c k_Mo_comes 24 [some (zR a0), some (zR a1), some (zI x2)] [] (n, K, mr, mi) Q := by
  subst h_3
  subst h_9
  subst h_11
  exact zX.n rfl (zX.g rfl h_1 (zX.n rfl (zX.g rfl ⟨N4, h_5, h_6, h_7⟩ (zX.g rfl h_12 (zX.n rfl (zX.n rfl (zX.ite p_13 p_14)))))))
theorem s_Mo_comes_38 {a0 : Nat} {a1 : Nat} {x2 : Int} {A2 : Nat} {N4 : Nat} {j8 : Nat} {A10 : Nat} (h_1 : K a0 = (6, 13)) (h_3 : mr a0 2 = A2) (h_5 : K A2 = (108, N4)) (h_6 : 0 ≤ x2) (h_7 : x2 < (N4 : Int)) (h_9 : Int.toNat x2 = j8) (h_11 : mr A2 j8 = A10) (h_12 : K A10 = (14, 7)) (p_13 : ¬ (mi A10 6) = (8 : Int) → zX c k_Mo_comes 61 [some (zR a0), some (zR a1), some (zI x2)] [] (n, K, mr, mi) Q) (p_14 : (mi A10 6) = (8 : Int) → zX c k_Mo_comes 52 [some (zR a0), some (zR a1), some (zI x2)] [] (n, K, mr, mi) Q) : zX c k_Mo_comes 38 [some (zR a0), some (zR a1), some (zI x2)] [] (n, K, mr, mi) Q := by
  subst h_3
  subst h_9
  subst h_11
  exact zX.n rfl (zX.g rfl h_1 (zX.n rfl (zX.g rfl ⟨N4, h_5, h_6, h_7⟩ (zX.g rfl h_12 (zX.n rfl (zX.n rfl (zX.itn p_13 p_14)))))))
theorem s_Mo_comes_52 {a0 : Nat} {a1 : Nat} {x2 : Int} (h_1 : K a1 = (19, 12)) (h_2 : K a0 = (6, 13)) (k_3 : zCall c k_Mo_comes 58 61 [some (zR a0), some (zR a1), some (zI x2)] [] 0 k_Mo_puts [zR a0, zI (mi a1 1), zI x2] (n, K, mr, mi) Q) : zX c k_Mo_comes 52 [some (zR a0), some (zR a1), some (zI x2)] [] (n, K, mr, mi) Q := 
  zX.n rfl (zX.n rfl (zX.g rfl h_1 (zX.n rfl (zX.callQ rfl (congrArg Prod.fst h_2) trivial k_3))))
theorem s_Mo_comes_61 {w0 : Option zV} {w1 : Option zV} {w2 : Option zV} (p_1 : Q (.inl none) (n, K, mr, mi)) : zX c k_Mo_comes 61 [w0, w1, w2] [] (n, K, mr, mi) Q := 
  zX.ret rfl trivial p_1
theorem s_Pe_isHere_0 {a0 : Nat} {x1 : Int} {w2 : Option zV} {w3 : Option zV} (p_1 : zX c k_Pe_isHere 4 [some (zR a0), some (zI x1), some (zI 0), some (zI 0)] [] (n, K, mr, mi) Q) : zX c k_Pe_isHere 0 [some (zR a0), some (zI x1), w2, w3] [] (n, K, mr, mi) Q := 
  zX.n rfl (zX.n rfl (zX.n rfl (zX.n rfl p_1)))
theorem s_Pe_isHere_4 {a0 : Nat} {x1 : Int} {x2 : Int} {x3 : Int} (h_1 : K a0 = (19, 12)) (p_2 : (mi a0 6) ≤ x3 → zX c k_Pe_isHere 47 [some (zR a0), some (zI x1), some (zI x2), some (zI x3)] [] (n, K, mr, mi) Q) (p_3 : ¬ (mi a0 6) ≤ x3 → zX c k_Pe_isHere 12 [some (zR a0), some (zI x1), some (zI x2), some (zI x3)] [] (n, K, mr, mi) Q) : zX c k_Pe_isHere 4 [some (zR a0), some (zI x1), some (zI x2), some (zI x3)] [] (n, K, mr, mi) Q := 
  zX.n rfl (zX.n rfl (zX.g rfl h_1 (zX.n rfl (zX.ite p_2 p_3))))
theorem s_Pe_isHere_12 {a0 : Nat} {x1 : Int} {x2 : Int} {x3 : Int} (p_1 : ¬ x2 = 0 → zX c k_Pe_isHere 35 [some (zR a0), some (zI x1), some (zI x2), some (zI x3)] [] (n, K, mr, mi) Q) (p_2 : x2 = 0 → zX c k_Pe_isHere 16 [some (zR a0), some (zI x1), some (zI x2), some (zI x3)] [] (n, K, mr, mi) Q) : zX c k_Pe_isHere 12 [some (zR a0), some (zI x1), some (zI x2), some (zI x3)] [] (n, K, mr, mi) Q := 
  zX.n rfl (zX.n rfl (zX.itn p_1 p_2))
theorem s_Pe_isHere_16 {a0 : Nat} {x1 : Int} {w2 : Option zV} {x3 : Int} {A2 : Nat} {N4 : Nat} {j8 : Nat} {A10 : Nat} {N12 : Nat} (h_1 : K a0 = (19, 12)) (h_3 : mr a0 3 = A2) (h_5 : K A2 = (100, N4)) (h_6 : 0 ≤ x3) (h_7 : x3 < (N4 : Int)) (h_9 : Int.toNat x3 = j8) (h_11 : mr a0 4 = A10) (h_13 : K A10 = (100, N12)) (h_14 : x3 < (N12 : Int)) (k_15 : zCall c k_Pe_isHere 29 32 [some (zR a0), some (zI x1), w2, some (zI x3)] [] 0 k_B_in [zI x1, zI (mi A2 j8), zI (mi A10 j8)] (n, K, mr, mi) Q) : zX c k_Pe_isHere 16 [some (zR a0), some (zI x1), w2, some (zI x3)] [] (n, K, mr, mi) Q := by
  subst h_3
  subst h_9
  subst h_11
  exact zX.n rfl (zX.n rfl (zX.g rfl h_1 (zX.n rfl (zX.g rfl ⟨N4, h_5, h_6, h_7⟩ (zX.n rfl (zX.g rfl h_1 (zX.n rfl (zX.g rfl ⟨N12, h_13, h_6, h_14⟩ (zX.callQ rfl trivial trivial k_15)))))))))
theorem s_Pe_isHere_32 {a0 : Nat} {x1 : Int} {w2 : Option zV} {x3 : Int} {sx0 : Int} (p_1 : sx0 = 0 → zX c k_Pe_isHere 39 [some (zR a0), some (zI x1), w2, some (zI x3)] [] (n, K, mr, mi) Q) (p_2 : ¬ sx0 = 0 → zX c k_Pe_isHere 35 [some (zR a0), some (zI x1), w2, some (zI x3)] [] (n, K, mr, mi) Q) : zX c k_Pe_isHere 32 [some (zR a0), some (zI x1), w2, some (zI x3)] [zI sx0] (n, K, mr, mi) Q := 
  zX.n rfl (zX.ite p_1 p_2)
theorem s_Pe_isHere_35 {a0 : Nat} {x1 : Int} {w2 : Option zV} {x3 : Int} (p_1 : zX c k_Pe_isHere 40 [some (zR a0), some (zI x1), w2, some (zI x3)] [zI 1] (n, K, mr, mi) Q) : zX c k_Pe_isHere 35 [some (zR a0), some (zI x1), w2, some (zI x3)] [] (n, K, mr, mi) Q := 
  zX.n rfl (zX.n rfl p_1)
theorem s_Pe_isHere_39 {a0 : Nat} {x1 : Int} {w2 : Option zV} {x3 : Int} (p_1 : zX c k_Pe_isHere 40 [some (zR a0), some (zI x1), w2, some (zI x3)] [zI 0] (n, K, mr, mi) Q) : zX c k_Pe_isHere 39 [some (zR a0), some (zI x1), w2, some (zI x3)] [] (n, K, mr, mi) Q := 
  zX.n rfl p_1
theorem s_Pe_isHere_40 {a0 : Nat} {x1 : Int} {w2 : Option zV} {x3 : Int} {sx0 : Int} (p_1 : zX c k_Pe_isHere 4 [some (zR a0), some (zI x1), some (zI sx0), some (zI (zw (x3 + 1)))] [] (n, K, mr, mi) Q) : zX c k_Pe_isHere 40 [some (zR a0), some (zI x1), w2, some (zI x3)] [zI sx0] (n, K, mr, mi) Q := 
  zX.n rfl (zX.n rfl (zX.n rfl p_1))
theorem s_Pe_isHere_47 {w0 : Option zV} {w1 : Option zV} {x2 : Int} {w3 : Option zV} (h_1 : x2 = 0 ∨ x2 = 1) (p_2 : Q (.inl (some (zI x2))) (n, K, mr, mi)) : zX c k_Pe_isHere 47 [w0, w1, some (zI x2), w3] [] (n, K, mr, mi) Q := 
  zX.n rfl (zX.ret rfl h_1 p_2)
theorem s_Mo_isOld_0 {a0 : Nat} {x1 : Int} {A2 : Nat} {N4 : Nat} {j8 : Nat} (h_1 : K a0 = (6, 13)) (h_3 : mr a0 4 = A2) (h_5 : K A2 = (100, N4)) (h_6 : 0 ≤ x1) (h_7 : x1 < (N4 : Int)) (h_9 : Int.toNat x1 = j8) (p_10 : (mi A2 j8) = ((-2)) → zX c k_Mo_isOld 46 [some (zR a0), some (zI x1)] [] (n, K, mr, mi) Q) (p_11 : ¬ (mi A2 j8) = ((-2)) → zX c k_Mo_isOld 11 [some (zR a0), some (zI x1)] [] (n, K, mr, mi) Q) : zX c k_Mo_isOld 0 [some (zR a0), some (zI x1)] [] (n, K, mr, mi) Q := by
  subst h_3
  subst h_9
  exact zX.n rfl (zX.g rfl h_1 (zX.n rfl (zX.g rfl ⟨N4, h_5, h_6, h_7⟩ (zX.n rfl (zX.n rfl (zX.ite p_10 p_11))))))
theorem s_Mo_isOld_11 {a0 : Nat} {x1 : Int} {A2 : Nat} {A4 : Nat} {N6 : Nat} {j10 : Nat} {N12 : Nat} {j16 : Nat} {A18 : Nat} {A21 : Nat} {A24 : Nat} {N26 : Nat} (h_1 : K a0 = (6, 13)) (h_3 : mr a0 2 = A2) (h_5 : mr a0 4 = A4) (h_7 : K A4 = (100, N6)) (h_8 : 0 ≤ x1) (h_9 : x1 < (N6 : Int)) (h_11 : Int.toNat x1 = j10) (h_13 : K A2 = (108, N12)) (h_14 : 0 ≤ (mi A4 j10)) (h_15 : (mi A4 j10) < (N12 : Int)) (h_17 : Int.toNat (mi A4 j10) = j16) (h_19 : mr A2 j16 = A18) (h_20 : K A18 = (14, 7)) (h_22 : mr a0 10 = A21) (h_23 : K A21 = (5, 6)) (h_25 : mr A21 2 = A24) (h_27 : K A24 = (100, N26)) (h_28 : x1 < (N26 : Int)) (p_29 : (zw ((mi a0 11) - (mi A18 2))) < (mi A24 j10) → zX c k_Mo_isOld 46 [some (zR a0), some (zI x1)] [] (n, K, mr, mi) Q) (p_30 : ¬ (zw ((mi a0 11) - (mi A18 2))) < (mi A24 j10) → zX c k_Mo_isOld 42 [some (zR a0), some (zI x1)] [] (n, K, mr, mi) Q) : zX c k_Mo_isOld 11 [some (zR a0), some (zI x1)] [] (n, K, mr, mi) Q := by
  subst h_3
  subst h_5
  subst h_11
  subst h_17
  subst h_19
  subst h_22
  subst h_25
  exact zX.n rfl (zX.g rfl h_1 (zX.n rfl (zX.g rfl h_1 (zX.n rfl (zX.g rfl h_1 (zX.n rfl (zX.g rfl ⟨N6, h_7, h_8, h_9⟩ (zX.g rfl ⟨N12, h_13, h_14, h_15⟩ (zX.g rfl h_20 (zX.n rfl (zX.n rfl (zX.g rfl h_1 (zX.g rfl h_23 (zX.n rfl (zX.g rfl ⟨N26, h_27, h_8, h_28⟩ (zX.n rfl (zX.ite p_29 p_30)))))))))))))))))
theorem s_Mo_isOld_42 {w0 : Option zV} {w1 : Option zV} (p_1 : zX c k_Mo_isOld 47 [w0, w1] [zI 1] (n, K, mr, mi) Q) : zX c k_Mo_isOld 42 [w0, w1] [] (n, K, mr, mi) Q := 
  zX.n rfl (zX.n rfl p_1)
theorem s_Mo_isOld_46 {w0 : Option zV} {w1 : Option zV} (p_1 : zX c k_Mo_isOld 47 [w0, w1] [zI 0] (n, K, mr, mi) Q) : zX c k_Mo_isOld 46 [w0, w1] [] (n, K, mr, mi) Q := 
  zX.n rfl p_1
theorem s_Mo_isOld_47 {w0 : Option zV} {w1 : Option zV} {sx0 : Int} (h_1 : sx0 = 0 ∨ sx0 = 1) (p_2 : Q (.inl (some (zI sx0))) (n, K, mr, mi)) : zX c k_Mo_isOld 47 [w0, w1] [zI sx0] (n, K, mr, mi) Q := 
  zX.ret rfl h_1 p_2
theorem s_Br_isThere_0 {a0 : Nat} (h_1 : K a0 = (14, 7)) (k_2 : zCall c k_Br_isThere 7 10 [some (zR a0)] [] 0 k_B_in [zI (mi a0 6), zI 0, zI 7] (n, K, mr, mi) Q) : zX c k_Br_isThere 0 [some (zR a0)] [] (n, K, mr, mi) Q := 
  zX.n rfl (zX.g rfl h_1 (zX.n rfl (zX.n rfl (zX.callQ rfl trivial trivial k_2))))
theorem s_Br_isThere_10 {w0 : Option zV} {sx0 : Int} (h_1 : sx0 = 0 ∨ sx0 = 1) (p_2 : Q (.inl (some (zI sx0))) (n, K, mr, mi)) : zX c k_Br_isThere 10 [w0] [zI sx0] (n, K, mr, mi) Q := 
  zX.ret rfl h_1 p_2
theorem s_Mo_leaves_0 {a0 : Nat} {x1 : Int} {A2 : Nat} {N4 : Nat} {j8 : Nat} {A10 : Nat} (h_1 : K a0 = (6, 13)) (h_3 : mr a0 2 = A2) (h_5 : K A2 = (108, N4)) (h_6 : 0 ≤ x1) (h_7 : x1 < (N4 : Int)) (h_9 : Int.toNat x1 = j8) (h_11 : mr A2 j8 = A10) (h_12 : K A10 = (14, 7)) (k_13 : zCall c k_Mo_leaves 6 9 [some (zR a0), some (zI x1)] [] 0 k_Br_isThere [zR A10] (n, K, mr, mi) Q) : zX c k_Mo_leaves 0 [some (zR a0), some (zI x1)] [] (n, K, mr, mi) Q := by
  subst h_3
  subst h_9
  subst h_11
  exact zX.n rfl (zX.g rfl h_1 (zX.n rfl (zX.g rfl ⟨N4, h_5, h_6, h_7⟩ (zX.callQ rfl (congrArg Prod.fst h_12) trivial k_13))))
theorem s_Mo_leaves_9 {a0 : Nat} {x1 : Int} {sx0 : Int} (p_1 : sx0 = 0 → zX c k_Mo_leaves 28 [some (zR a0), some (zI x1)] [] (n, K, mr, mi) Q) (p_2 : ¬ sx0 = 0 → zX c k_Mo_leaves 12 [some (zR a0), some (zI x1)] [] (n, K, mr, mi) Q) : zX c k_Mo_leaves 9 [some (zR a0), some (zI x1)] [zI sx0] (n, K, mr, mi) Q := 
  zX.n rfl (zX.ite p_1 p_2)
theorem s_Mo_leaves_12 {a0 : Nat} {x1 : Int} {A2 : Nat} {A4 : Nat} {N6 : Nat} {j10 : Nat} {A12 : Nat} {N15 : Nat} {j19 : Nat} (h_1 : K a0 = (6, 13)) (h_3 : mr a0 3 = A2) (h_5 : mr a0 2 = A4) (h_7 : K A4 = (108, N6)) (h_8 : 0 ≤ x1) (h_9 : x1 < (N6 : Int)) (h_11 : Int.toNat x1 = j10) (h_13 : mr A4 j10 = A12) (h_14 : K A12 = (14, 7)) (h_16 : K A2 = (100, N15)) (h_17 : 0 ≤ (mi A12 6)) (h_18 : (mi A12 6) < (N15 : Int)) (h_20 : Int.toNat (mi A12 6) = j19) (h_21 : 64 ≤ A2) (p_22 : zX c k_Mo_leaves 28 [some (zR a0), some (zI x1)] [] (n, K, mr, zst mi A2 j19 ((-2))) Q) : zX c k_Mo_leaves 12 [some (zR a0), some (zI x1)] [] (n, K, mr, mi) Q := by
  subst h_3
  subst h_5
  subst h_11
  subst h_13
  subst h_20
  exact zX.n rfl (zX.g rfl h_1 (zX.n rfl (zX.g rfl h_1 (zX.n rfl (zX.g rfl ⟨N6, h_7, h_8, h_9⟩ (zX.g rfl h_14 (zX.n rfl (zX.g rfl ⟨N15, h_21, h_16, h_17, h_18⟩ p_22))))))))
theorem s_Mo_leaves_28 {w0 : Option zV} {w1 : Option zV} (p_1 : Q (.inl none) (n, K, mr, mi)) : zX c k_Mo_leaves 28 [w0, w1] [] (n, K, mr, mi) Q := 
  zX.ret rfl trivial p_1
theorem s_Mo_renews_0 {a0 : Nat} {a1 : Nat} {w2 : Option zV} {A2 : Nat} {A4 : Nat} {N7 : Nat} {j11 : Nat} {N13 : Nat} {j17 : Nat} {A19 : Nat} (h_1 : K a0 = (6, 13)) (h_3 : mr a0 2 = A2) (h_5 : mr a0 4 = A4) (h_6 : K a1 = (19, 12)) (h_8 : K A4 = (100, N7)) (h_9 : 0 ≤ (mi a1 1)) (h_10 : (mi a1 1) < (N7 : Int)) (h_12 : Int.toNat (mi a1 1) = j11) (h_14 : K A2 = (108, N13)) (h_15 : 0 ≤ (mi A4 j11)) (h_16 : (mi A4 j11) < (N13 : Int)) (h_18 : Int.toNat (mi A4 j11) = j17) (h_20 : mr A2 j17 = A19) (k_21 : zCall c k_Mo_renews 25 28 [some (zR a0), some (zR a1), some (zR A19)] [] 0 k_Mo_leaves [zR a0, zI (mi A4 j11)] (n, K, mr, mi) Q) : zX c k_Mo_renews 0 [some (zR a0), some (zR a1), w2] [] (n, K, mr, mi) Q := by
  subst h_3
  subst h_5
  subst h_12
  subst h_18
  subst h_20
  exact zX.n rfl (zX.g rfl h_1 (zX.n rfl (zX.g rfl h_1 (zX.n rfl (zX.g rfl h_6 (zX.g rfl ⟨N7, h_8, h_9, h_10⟩ (zX.g rfl ⟨N13, h_14, h_15, h_16⟩ (zX.n rfl (zX.n rfl (zX.n rfl (zX.g rfl h_1 (zX.n rfl (zX.g rfl h_6 (zX.g rfl ⟨N7, h_8, h_9, h_10⟩ (zX.callQ rfl (congrArg Prod.fst h_1) trivial k_21)))))))))))))))
theorem s_Mo_renews_28 {a0 : Nat} {a1 : Nat} {a2 : Nat} (h_1 : K a0 = (6, 13)) (h_2 : K a2 = (14, 7)) (h_3 : 64 ≤ a2) (k_4 : zCall c k_Mo_renews 44 47 [some (zR a0), some (zR a1), some (zR a2)] [] 0 k_Mo_buys [zR a0, zR a1] (n, K, mr, zst (zst mi a2 3 (mi a0 11)) a2 6 ((-2))) Q) : zX c k_Mo_renews 28 [some (zR a0), some (zR a1), some (zR a2)] [] (n, K, mr, mi) Q := 
  zX.n rfl (zX.n rfl (zX.g rfl h_1 (zX.g rfl ⟨h_3, h_2⟩ (zX.n rfl (zX.n rfl (zX.g rfl ⟨h_3, h_2⟩ (zX.n rfl (zX.n rfl (zX.callQ rfl (congrArg Prod.fst h_1) trivial k_4)))))))))
theorem s_Mo_renews_47 {w0 : Option zV} {w1 : Option zV} {w2 : Option zV} (p_1 : Q (.inl none) (n, K, mr, mi)) : zX c k_Mo_renews 47 [w0, w1, w2] [] (n, K, mr, mi) Q := 
  zX.ret rfl trivial p_1
theorem s_Mo_moves_0 {a0 : Nat} {a1 : Nat} {w2 : Option zV} (h_1 : K a1 = (1, 3)) (h_2 : K a0 = (6, 13)) (p_3 : (mi a1 0) = (mi a0 11) → zX c k_Mo_moves 12 [some (zR a0), some (zR a1), w2] [] (n, K, mr, mi) Q) (p_4 : ¬ (mi a1 0) = (mi a0 11) → zX c k_Mo_moves 11 [some (zR a0), some (zR a1), w2] [] (n, K, mr, mi) Q) : zX c k_Mo_moves 0 [some (zR a0), some (zR a1), w2] [] (n, K, mr, mi) Q := 
  zX.n rfl (zX.g rfl h_1 (zX.n rfl (zX.g rfl h_2 (zX.n rfl (zX.ite p_3 p_4)))))
theorem s_Mo_moves_11 {w0 : Option zV} {w1 : Option zV} {w2 : Option zV} (p_1 : Q (.inl none) (n, K, mr, mi)) : zX c k_Mo_moves 11 [w0, w1, w2] [] (n, K, mr, mi) Q := 
  zX.ret rfl trivial p_1
theorem s_Mo_moves_12 {a0 : Nat} {a1 : Nat} {w2 : Option zV} {A2 : Nat} {N5 : Nat} {j9 : Nat} {j13 : Nat} {j18 : Nat} {j22 : Nat} (h_1 : K a0 = (6, 13)) (h_3 : mr a0 3 = A2) (h_4 : K a1 = (1, 3)) (h_6 : K A2 = (100, N5)) (h_7 : 0 ≤ (mi a1 1)) (h_8 : (mi a1 1) < (N5 : Int)) (h_10 : Int.toNat (mi a1 1) = j9) (h_11 : 0 ≤ (mi a1 2)) (h_12 : (mi a1 2) < (N5 : Int)) (h_14 : Int.toNat (mi a1 2) = j13) (h_15 : 64 ≤ A2) (h_16 : 0 ≤ ((zst mi A2 j9 (mi A2 j13)) a1 2)) (h_17 : ((zst mi A2 j9 (mi A2 j13)) a1 2) < (N5 : Int)) (h_19 : Int.toNat ((zst mi A2 j9 (mi A2 j13)) a1 2) = j18) (h_20 : 0 ≤ ((zst (zst mi A2 j9 (mi A2 j13)) A2 j18 (mi A2 j9)) a1 1)) (h_21 : ((zst (zst mi A2 j9 (mi A2 j13)) A2 j18 (mi A2 j9)) a1 1) < (N5 : Int)) (h_23 : Int.toNat ((zst (zst mi A2 j9 (mi A2 j13)) A2 j18 (mi A2 j9)) a1 1) = j22) (p_24 : ((zst (zst mi A2 j9 (mi A2 j13)) A2 j18 (mi A2 j9)) A2 j22) = ((-2)) → zX c k_Mo_moves 85 [some (zR a0), some (zR a1), some (zI (mi A2 j9))] [] (n, K, mr, zst (zst mi A2 j9 (mi A2 j13)) A2 j18 (mi A2 j9)) Q) (p_25 : ¬ ((zst (zst mi A2 j9 (mi A2 j13)) A2 j18 (mi A2 j9)) A2 j22) = ((-2)) → zX c k_Mo_moves 64 [some (zR a0), some (zR a1), some (zI (mi A2 j9))] [] (n, K, mr, zst (zst mi A2 j9 (mi A2 j13)) A2 j18 (mi A2 j9)) Q) : zX c k_Mo_moves 12 [some (zR a0), some (zR a1), w2] [] (n, K, mr, mi) Q := by
  subst h_3
  subst h_10
  subst h_14
  subst h_19
  subst h_23
  exact zX.n rfl (zX.g rfl h_1 (zX.n rfl (zX.g rfl h_4 (zX.g rfl ⟨N5, h_6, h_7, h_8⟩ (zX.n rfl (zX.n rfl (zX.g rfl h_1 (zX.n rfl (zX.g rfl h_4 (zX.n rfl (zX.g rfl h_1 (zX.n rfl (zX.g rfl h_4 (zX.g rfl ⟨N5, h_6, h_11, h_12⟩ (zX.g rfl ⟨N5, h_15, h_6, h_7, h_8⟩ (zX.n rfl (zX.g rfl h_1 (zX.n rfl (zX.g rfl h_4 (zX.n rfl (zX.g rfl ⟨N5, h_15, h_6, h_16, h_17⟩ (zX.n rfl (zX.g rfl h_1 (zX.n rfl (zX.g rfl h_4 (zX.g rfl ⟨N5, h_6, h_20, h_21⟩ (zX.n rfl (zX.n rfl (zX.ite p_24 p_25)))))))))))))))))))))))))))))
theorem s_Mo_moves_64 {a0 : Nat} {a1 : Nat} {x2 : Int} {A2 : Nat} {A4 : Nat} {N7 : Nat} {j11 : Nat} {N13 : Nat} {j17 : Nat} {A19 : Nat} (h_1 : K a0 = (6, 13)) (h_3 : mr a0 2 = A2) (h_5 : mr a0 3 = A4) (h_6 : K a1 = (1, 3)) (h_8 : K A4 = (100, N7)) (h_9 : 0 ≤ (mi a1 1)) (h_10 : (mi a1 1) < (N7 : Int)) (h_12 : Int.toNat (mi a1 1) = j11) (h_14 : K A2 = (108, N13)) (h_15 : 0 ≤ (mi A4 j11)) (h_16 : (mi A4 j11) < (N13 : Int)) (h_18 : Int.toNat (mi A4 j11) = j17) (h_20 : mr A2 j17 = A19) (h_21 : K A19 = (14, 7)) (h_22 : 64 ≤ A19) (p_23 : zX c k_Mo_moves 85 [some (zR a0), some (zR a1), some (zI x2)] [] (n, K, mr, zst mi A19 6 (mi a1 1)) Q) : zX c k_Mo_moves 64 [some (zR a0), some (zR a1), some (zI x2)] [] (n, K, mr, mi) Q := by
  subst h_3
  subst h_5
  subst h_12
  subst h_18
  subst h_20
  exact zX.n rfl (zX.g rfl h_1 (zX.n rfl (zX.g rfl h_1 (zX.n rfl (zX.g rfl h_6 (zX.g rfl ⟨N7, h_8, h_9, h_10⟩ (zX.g rfl ⟨N13, h_14, h_15, h_16⟩ (zX.n rfl (zX.g rfl h_6 (zX.g rfl ⟨h_22, h_21⟩ p_23))))))))))
theorem s_Mo_moves_85 {a0 : Nat} {a1 : Nat} {x2 : Int} (p_1 : x2 = ((-2)) → zX c k_Mo_moves 104 [some (zR a0), some (zR a1), some (zI x2)] [] (n, K, mr, mi) Q) (p_2 : ¬ x2 = ((-2)) → zX c k_Mo_moves 91 [some (zR a0), some (zR a1), some (zI x2)] [] (n, K, mr, mi) Q) : zX c k_Mo_moves 85 [some (zR a0), some (zR a1), some (zI x2)] [] (n, K, mr, mi) Q := 
  zX.n rfl (zX.n rfl (zX.n rfl (zX.ite p_1 p_2)))
theorem s_Mo_moves_91 {a0 : Nat} {a1 : Nat} {x2 : Int} {A2 : Nat} {N4 : Nat} {j8 : Nat} {A10 : Nat} (h_1 : K a0 = (6, 13)) (h_3 : mr a0 2 = A2) (h_5 : K A2 = (108, N4)) (h_6 : 0 ≤ x2) (h_7 : x2 < (N4 : Int)) (h_9 : Int.toNat x2 = j8) (h_11 : mr A2 j8 = A10) (h_12 : K a1 = (1, 3)) (h_13 : K A10 = (14, 7)) (h_14 : 64 ≤ A10) (p_15 : zX c k_Mo_moves 104 [some (zR a0), some (zR a1), some (zI x2)] [] (n, K, mr, zst mi A10 6 (mi a1 2)) Q) : zX c k_Mo_moves 91 [some (zR a0), some (zR a1), some (zI x2)] [] (n, K, mr, mi) Q := by
  subst h_3
  subst h_9
  subst h_11
  exact zX.n rfl (zX.g rfl h_1 (zX.n rfl (zX.g rfl ⟨N4, h_5, h_6, h_7⟩ (zX.n rfl (zX.g rfl h_12 (zX.g rfl ⟨h_14, h_13⟩ p_15))))))
theorem s_Mo_moves_104 {w0 : Option zV} {w1 : Option zV} {w2 : Option zV} (p_1 : Q (.inl none) (n, K, mr, mi)) : zX c k_Mo_moves 104 [w0, w1, w2] [] (n, K, mr, mi) Q := 
  zX.ret rfl trivial p_1
theorem s_Pl_move_0 {a0 : Nat} {x1 : Int} {A2 : Nat} {N4 : Nat} {j8 : Nat} {A10 : Nat} (h_1 : K a0 = (5, 6)) (h_3 : mr a0 3 = A2) (h_5 : K A2 = (105, N4)) (h_6 : 0 ≤ x1) (h_7 : x1 < (N4 : Int)) (h_9 : Int.toNat x1 = j8) (h_11 : mr A2 j8 = A10) (p_12 : Q (.inl (some (zR A10))) (n, K, mr, mi)) : zX c k_Pl_move 0 [some (zR a0), some (zI x1)] [] (n, K, mr, mi) Q := by
  subst h_3
  subst h_9
  subst h_11
  exact zX.n rfl (zX.g rfl h_1 (zX.n rfl (zX.g rfl ⟨N4, h_5, h_6, h_7⟩ (zX.ret rfl trivial p_12))))
theorem s_Su_uses_0 {w0 : Option zV} {w1 : Option zV} {x2 : Int} {w3 : Option zV} (p_1 : Q (.inl (some (zI x2))) (n, K, mr, mi)) : zX c k_Su_uses 0 [w0, w1, some (zI x2), w3] [] (n, K, mr, mi) Q := 
  zX.n rfl (zX.ret rfl trivial p_1)
theorem s_Mo_stands_0 {a0 : Nat} {x1 : Int} {A2 : Nat} {N4 : Nat} {j8 : Nat} (h_1 : K a0 = (6, 13)) (h_3 : mr a0 3 = A2) (h_5 : K A2 = (100, N4)) (h_6 : 0 ≤ x1) (h_7 : x1 < (N4 : Int)) (h_9 : Int.toNat x1 = j8) (p_10 : Q (.inl (some (zI (mi A2 j8)))) (n, K, mr, mi)) : zX c k_Mo_stands 0 [some (zR a0), some (zI x1)] [] (n, K, mr, mi) Q := by
  subst h_3
  subst h_9
  exact zX.n rfl (zX.g rfl h_1 (zX.n rfl (zX.g rfl ⟨N4, h_5, h_6, h_7⟩ (zX.ret rfl trivial p_10))))
theorem s_Mo_brush_0 {a0 : Nat} {x1 : Int} {A2 : Nat} {N4 : Nat} {j8 : Nat} {A10 : Nat} (h_1 : K a0 = (6, 13)) (h_3 : mr a0 2 = A2) (h_5 : K A2 = (108, N4)) (h_6 : 0 ≤ x1) (h_7 : x1 < (N4 : Int)) (h_9 : Int.toNat x1 = j8) (h_11 : mr A2 j8 = A10) (p_12 : Q (.inl (some (zR A10))) (n, K, mr, mi)) : zX c k_Mo_brush 0 [some (zR a0), some (zI x1)] [] (n, K, mr, mi) Q := by
  subst h_3
  subst h_9
  subst h_11
  exact zX.n rfl (zX.g rfl h_1 (zX.n rfl (zX.g rfl ⟨N4, h_5, h_6, h_7⟩ (zX.ret rfl trivial p_12))))
theorem s_BC_uses_0 {w0 : Option zV} {a1 : Nat} {x2 : Int} {w3 : Option zV} {w4 : Option zV} (p_1 : zX c k_BC_uses 3 [w0, some (zR a1), some (zI x2), (zkill w3), some (zI 0)] [] (n, K, mr, mi) Q) : zX c k_BC_uses 0 [w0, some (zR a1), some (zI x2), w3, w4] [] (n, K, mr, mi) Q := 
  zX.n rfl (zX.n rfl p_1)
theorem s_BC_uses_3 {w0 : Option zV} {a1 : Nat} {x2 : Int} {w3 : Option zV} {x4 : Int} (p_1 : (8 : Int) ≤ x4 → zX c k_BC_uses 58 [w0, some (zR a1), some (zI x2), w3, some (zI x4)] [] (n, K, mr, mi) Q) (p_2 : ¬ (8 : Int) ≤ x4 → zX c k_BC_uses 10 [w0, some (zR a1), some (zI x2), w3, some (zI x4)] [] (n, K, mr, mi) Q) : zX c k_BC_uses 3 [w0, some (zR a1), some (zI x2), w3, some (zI x4)] [] (n, K, mr, mi) Q := 
  zX.n rfl (zX.n rfl (zX.n rfl (zX.ite p_1 p_2)))
theorem s_BC_uses_10 {w0 : Option zV} {a1 : Nat} {x2 : Int} {w3 : Option zV} {x4 : Int} (h_1 : K a1 = (6, 13)) (k_2 : zCall c k_BC_uses 13 16 [w0, some (zR a1), some (zI x2), w3, some (zI x4)] [] 0 k_Mo_stands [zR a1, zI x4] (n, K, mr, mi) Q) : zX c k_BC_uses 10 [w0, some (zR a1), some (zI x2), w3, some (zI x4)] [] (n, K, mr, mi) Q := 
  zX.n rfl (zX.n rfl (zX.callQ rfl (congrArg Prod.fst h_1) trivial k_2))
theorem s_BC_uses_16 {w0 : Option zV} {a1 : Nat} {x2 : Int} {w3 : Option zV} {x4 : Int} {sx0 : Int} (p_1 : sx0 = ((-2)) → zX c k_BC_uses 52 [w0, some (zR a1), some (zI x2), w3, some (zI x4)] [] (n, K, mr, mi) Q) (p_2 : ¬ sx0 = ((-2)) → zX c k_BC_uses 21 [w0, some (zR a1), some (zI x2), w3, some (zI x4)] [] (n, K, mr, mi) Q) : zX c k_BC_uses 16 [w0, some (zR a1), some (zI x2), w3, some (zI x4)] [zI sx0] (n, K, mr, mi) Q := 
  zX.n rfl (zX.n rfl (zX.ite p_1 p_2))
theorem s_BC_uses_21 {w0 : Option zV} {a1 : Nat} {x2 : Int} {w3 : Option zV} {x4 : Int} (h_1 : K a1 = (6, 13)) (k_2 : zCall c k_BC_uses 25 28 [w0, some (zR a1), some (zI x2), w3, some (zI x4)] [zR a1] 0 k_Mo_stands [zR a1, zI x4] (n, K, mr, mi) Q) : zX c k_BC_uses 21 [w0, some (zR a1), some (zI x2), w3, some (zI x4)] [] (n, K, mr, mi) Q := 
  zX.n rfl (zX.n rfl (zX.n rfl (zX.callQ rfl (congrArg Prod.fst h_1) trivial k_2)))
theorem s_BC_uses_28 {w0 : Option zV} {a1 : Nat} {x2 : Int} {w3 : Option zV} {x4 : Int} {sa0 : Nat} {sx1 : Int} (h_1 : K sa0 = (6, 13)) (k_2 : zCall c k_BC_uses 28 31 [w0, some (zR a1), some (zI x2), w3, some (zI x4)] [] 0 k_Mo_brush [zR sa0, zI sx1] (n, K, mr, mi) Q) : zX c k_BC_uses 28 [w0, some (zR a1), some (zI x2), w3, some (zI x4)] [zI sx1, zR sa0] (n, K, mr, mi) Q := 
  zX.callQ rfl (congrArg Prod.fst h_1) trivial k_2
theorem s_BC_uses_31 {w0 : Option zV} {a1 : Nat} {x2 : Int} {w3 : Option zV} {x4 : Int} {sa0 : Nat} (h_1 : K sa0 = (14, 7)) (h_2 : K a1 = (6, 13)) (k_3 : zCall c k_BC_uses 36 39 [w0, some (zR a1), some (zI x2), w3, some (zI x4)] [zI (mi sa0 1)] 0 k_Mo_brush [zR a1, zI x2] (n, K, mr, mi) Q) : zX c k_BC_uses 31 [w0, some (zR a1), some (zI x2), w3, some (zI x4)] [zR sa0] (n, K, mr, mi) Q := 
  zX.g rfl h_1 (zX.n rfl (zX.n rfl (zX.callQ rfl (congrArg Prod.fst h_2) trivial k_3)))
theorem s_BC_uses_39 {w0 : Option zV} {a1 : Nat} {x2 : Int} {w3 : Option zV} {x4 : Int} {sx0 : Int} {sa1 : Nat} (h_1 : K sa1 = (14, 7)) (p_2 : ¬ sx0 = (mi sa1 1) → zX c k_BC_uses 52 [w0, some (zR a1), some (zI x2), w3, some (zI x4)] [] (n, K, mr, mi) Q) (p_3 : sx0 = (mi sa1 1) → zX c k_BC_uses 45 [w0, some (zR a1), some (zI x2), w3, some (zI x4)] [] (n, K, mr, mi) Q) : zX c k_BC_uses 39 [w0, some (zR a1), some (zI x2), w3, some (zI x4)] [zR sa1, zI sx0] (n, K, mr, mi) Q := 
  zX.g rfl h_1 (zX.n rfl (zX.itn p_2 p_3))
theorem s_BC_uses_45 {w0 : Option zV} {a1 : Nat} {w2 : Option zV} {w3 : Option zV} {x4 : Int} (h_1 : K a1 = (6, 13)) (k_2 : zCall c k_BC_uses 48 51 [w0, some (zR a1), w2, w3, some (zI x4)] [] 0 k_Mo_stands [zR a1, zI x4] (n, K, mr, mi) Q) : zX c k_BC_uses 45 [w0, some (zR a1), w2, w3, some (zI x4)] [] (n, K, mr, mi) Q := 
  zX.n rfl (zX.n rfl (zX.callQ rfl (congrArg Prod.fst h_1) trivial k_2))
theorem s_BC_uses_51 {w0 : Option zV} {w1 : Option zV} {w2 : Option zV} {w3 : Option zV} {w4 : Option zV} {sx0 : Int} (p_1 : Q (.inl (some (zI sx0))) (n, K, mr, mi)) : zX c k_BC_uses 51 [w0, w1, w2, w3, w4] [zI sx0] (n, K, mr, mi) Q := 
  zX.ret rfl trivial p_1
theorem s_BC_uses_52 {w0 : Option zV} {a1 : Nat} {x2 : Int} {w3 : Option zV} {x4 : Int} (p_1 : zX c k_BC_uses 3 [w0, some (zR a1), some (zI x2), (zkill w3), some (zI (zw (x4 + 1)))] [] (n, K, mr, mi) Q) : zX c k_BC_uses 52 [w0, some (zR a1), some (zI x2), w3, some (zI x4)] [] (n, K, mr, mi) Q := 
  zX.n rfl (zX.n rfl p_1)
theorem s_BC_uses_58 {w0 : Option zV} {w1 : Option zV} {x2 : Int} {w3 : Option zV} {w4 : Option zV} (p_1 : Q (.inl (some (zI x2))) (n, K, mr, mi)) : zX c k_BC_uses 58 [w0, w1, some (zI x2), w3, w4] [] (n, K, mr, mi) Q := 
  zX.n rfl (zX.ret rfl trivial p_1)
theorem s_BP_uses_0 {w0 : Option zV} {a1 : Nat} {x2 : Int} {x3 : Int} (h_1 : K a1 = (6, 13)) (k_2 : zCall c k_BP_uses 2 5 [w0, some (zR a1), some (zI x2), some (zI x3)] [] 0 k_Mo_stands [zR a1, zI x3] (n, K, mr, mi) Q) : zX c k_BP_uses 0 [w0, some (zR a1), some (zI x2), some (zI x3)] [] (n, K, mr, mi) Q := 
  zX.n rfl (zX.n rfl (zX.callQ rfl (congrArg Prod.fst h_1) trivial k_2))
theorem s_BP_uses_5 {w0 : Option zV} {a1 : Nat} {x2 : Int} {x3 : Int} {sx0 : Int} (p_1 : ¬ sx0 = ((-2)) → zX c k_BP_uses 14 [w0, some (zR a1), some (zI x2), some (zI x3)] [] (n, K, mr, mi) Q) (p_2 : sx0 = ((-2)) → zX c k_BP_uses 10 [w0, some (zR a1), some (zI x2), some (zI x3)] [] (n, K, mr, mi) Q) : zX c k_BP_uses 5 [w0, some (zR a1), some (zI x2), some (zI x3)] [zI sx0] (n, K, mr, mi) Q := 
  zX.n rfl (zX.n rfl (zX.itn p_1 p_2))
theorem s_BP_uses_10 {w0 : Option zV} {w1 : Option zV} {x2 : Int} {w3 : Option zV} (p_1 : zX c k_BP_uses 19 [w0, w1, some (zI x2), w3] [zI x2] (n, K, mr, mi) Q) : zX c k_BP_uses 10 [w0, w1, some (zI x2), w3] [] (n, K, mr, mi) Q := 
  zX.n rfl (zX.n rfl p_1)
theorem s_BP_uses_14 {w0 : Option zV} {a1 : Nat} {w2 : Option zV} {x3 : Int} (h_1 : K a1 = (6, 13)) (k_2 : zCall c k_BP_uses 16 19 [w0, some (zR a1), w2, some (zI x3)] [] 0 k_Mo_stands [zR a1, zI x3] (n, K, mr, mi) Q) : zX c k_BP_uses 14 [w0, some (zR a1), w2, some (zI x3)] [] (n, K, mr, mi) Q := 
  zX.n rfl (zX.n rfl (zX.callQ rfl (congrArg Prod.fst h_1) trivial k_2))
theorem s_BP_uses_19 {w0 : Option zV} {w1 : Option zV} {w2 : Option zV} {w3 : Option zV} {sx0 : Int} (p_1 : Q (.inl (some (zI sx0))) (n, K, mr, mi)) : zX c k_BP_uses 19 [w0, w1, w2, w3] [zI sx0] (n, K, mr, mi) Q := 
  zX.ret rfl trivial p_1
theorem s_Me_uses_0 {w0 : Option zV} {w1 : Option zV} {x2 : Int} {w3 : Option zV} (p_1 : Q (.inl (some (zI x2))) (n, K, mr, mi)) : zX c k_Me_uses 0 [w0, w1, some (zI x2), w3] [] (n, K, mr, mi) Q := 
  zX.n rfl (zX.ret rfl trivial p_1)
theorem s_Ki_isMessy_0 {w0 : Option zV} (p_1 : Q (.inl (some (zI 0))) (n, K, mr, mi)) : zX c k_Ki_isMessy 0 [w0] [] (n, K, mr, mi) Q := 
  zX.n rfl (zX.ret rfl (Or.inl rfl) p_1)
theorem s_Me_isMessy_0 {w0 : Option zV} (p_1 : Q (.inl (some (zI 1))) (n, K, mr, mi)) : zX c k_Me_isMessy 0 [w0] [] (n, K, mr, mi) Q := 
  zX.n rfl (zX.ret rfl (Or.inr rfl) p_1)
theorem s_Mo_use_0 {a0 : Nat} {a1 : Nat} {w2 : Option zV} {w3 : Option zV} {w4 : Option zV} {A2 : Nat} {N5 : Nat} {j9 : Nat} {A11 : Nat} {A13 : Nat} {A16 : Nat} {N18 : Nat} {N21 : Nat} {j25 : Nat} {A27 : Nat} {A29 : Nat} {N31 : Nat} {j35 : Nat} {A37 : Nat} (h_1 : K a0 = (6, 13)) (h_3 : mr a0 4 = A2) (h_4 : K a1 = (19, 12)) (h_6 : K A2 = (100, N5)) (h_7 : 0 ≤ (mi a1 1)) (h_8 : (mi a1 1) < (N5 : Int)) (h_10 : Int.toNat (mi a1 1) = j9) (h_12 : mr a0 1 = A11) (h_14 : mr a0 10 = A13) (h_15 : K A13 = (5, 6)) (h_17 : mr A13 0 = A16) (h_19 : K A16 = (100, N18)) (h_20 : (mi a1 1) < (N18 : Int)) (h_22 : K A11 = (107, N21)) (h_23 : 0 ≤ (mi A16 j9)) (h_24 : (mi A16 j9) < (N21 : Int)) (h_26 : Int.toNat (mi A16 j9) = j25) (h_28 : mr A11 j25 = A27) (h_30 : mr a0 2 = A29) (h_32 : K A29 = (108, N31)) (h_33 : 0 ≤ (mi A2 j9)) (h_34 : (mi A2 j9) < (N31 : Int)) (h_36 : Int.toNat (mi A2 j9) = j35) (h_38 : mr A29 j35 = A37) (h_39 : K A37 = (14, 7)) (k_40 : zCall c k_Mo_use 34 37 [some (zR a0), some (zR a1), some (zI (mi A2 j9)), some (zR A27), w4] [] 0 k_Br_isThere [zR A37] (n, K, mr, mi) Q) : zX c k_Mo_use 0 [some (zR a0), some (zR a1), w2, w3, w4] [] (n, K, mr, mi) Q := by
  subst h_3
  subst h_10
  subst h_12
  subst h_14
  subst h_17
  subst h_26
  subst h_28
  subst h_30
  subst h_36
  subst h_38
  exact zX.n rfl (zX.g rfl h_1 (zX.n rfl (zX.g rfl h_4 (zX.g rfl ⟨N5, h_6, h_7, h_8⟩ (zX.n rfl (zX.n rfl (zX.g rfl h_1 (zX.n rfl (zX.g rfl h_1 (zX.g rfl h_15 (zX.n rfl (zX.g rfl h_4 (zX.g rfl ⟨N18, h_19, h_7, h_20⟩ (zX.g rfl ⟨N21, h_22, h_23, h_24⟩ (zX.n rfl (zX.n rfl (zX.g rfl h_1 (zX.n rfl (zX.g rfl ⟨N31, h_32, h_33, h_34⟩ (zX.callQ rfl (congrArg Prod.fst h_39) trivial k_40))))))))))))))))))))
theorem s_Mo_use_37 {a0 : Nat} {a1 : Nat} {x2 : Int} {a3 : Nat} {w4 : Option zV} {sx0 : Int} (p_1 : sx0 = 0 → zX c k_Mo_use 58 [some (zR a0), some (zR a1), some (zI x2), some (zR a3), w4] [] (n, K, mr, mi) Q) (p_2 : ¬ sx0 = 0 → zX c k_Mo_use 40 [some (zR a0), some (zR a1), some (zI x2), some (zR a3), w4] [] (n, K, mr, mi) Q) : zX c k_Mo_use 37 [some (zR a0), some (zR a1), some (zI x2), some (zR a3), w4] [zI sx0] (n, K, mr, mi) Q := 
  zX.n rfl (zX.ite p_1 p_2)
theorem s_Mo_use_40_Su {a0 : Nat} {a1 : Nat} {x2 : Int} {a3 : Nat} {w4 : Option zV} {A2 : Nat} {N5 : Nat} {j9 : Nat} (h_1 : K a0 = (6, 13)) (h_3 : mr a0 5 = A2) (h_4 : K a1 = (19, 12)) (h_6 : K A2 = (100, N5)) (h_7 : 0 ≤ (mi a1 1)) (h_8 : (mi a1 1) < (N5 : Int)) (h_10 : Int.toNat (mi a1 1) = j9) (h_11 : K a3 = (10, 0)) (k_12 : zCall c k_Mo_use 52 55 [some (zR a0), some (zR a1), some (zI x2), some (zR a3), w4] [] 0 k_Su_uses [zR a3, zR a0, zI x2, zI (mi A2 j9)] (n, K, mr, mi) Q) : zX c k_Mo_use 40 [some (zR a0), some (zR a1), some (zI x2), some (zR a3), w4] [] (n, K, mr, mi) Q := by
  subst h_3
  subst h_10
  exact zX.n rfl (zX.n rfl (zX.n rfl (zX.n rfl (zX.g rfl h_1 (zX.n rfl (zX.g rfl h_4 (zX.g rfl ⟨N5, h_6, h_7, h_8⟩ (zX.callQ (M' := k_Su_uses) (Eq.trans (b := zdisp [10, 103, 11, 106, 12, 107, 13, 108] (K _).1 _ _ _) rfl (by rw [h_11]; rfl)) trivial (by exact trivial) k_12))))))))
theorem s_Mo_use_40_BC {a0 : Nat} {a1 : Nat} {x2 : Int} {a3 : Nat} {w4 : Option zV} {A2 : Nat} {N5 : Nat} {j9 : Nat} (h_1 : K a0 = (6, 13)) (h_3 : mr a0 5 = A2) (h_4 : K a1 = (19, 12)) (h_6 : K A2 = (100, N5)) (h_7 : 0 ≤ (mi a1 1)) (h_8 : (mi a1 1) < (N5 : Int)) (h_10 : Int.toNat (mi a1 1) = j9) (h_11 : K a3 = (11, 0)) (k_12 : zCall c k_Mo_use 52 55 [some (zR a0), some (zR a1), some (zI x2), some (zR a3), w4] [] 0 k_BC_uses [zR a3, zR a0, zI x2, zI (mi A2 j9)] (n, K, mr, mi) Q) : zX c k_Mo_use 40 [some (zR a0), some (zR a1), some (zI x2), some (zR a3), w4] [] (n, K, mr, mi) Q := by
  subst h_3
  subst h_10
  exact zX.n rfl (zX.n rfl (zX.n rfl (zX.n rfl (zX.g rfl h_1 (zX.n rfl (zX.g rfl h_4 (zX.g rfl ⟨N5, h_6, h_7, h_8⟩ (zX.callQ (M' := k_BC_uses) (Eq.trans (b := zdisp [10, 103, 11, 106, 12, 107, 13, 108] (K _).1 _ _ _) rfl (by rw [h_11]; rfl)) trivial (by exact trivial) k_12))))))))
theorem s_Mo_use_40_BP {a0 : Nat} {a1 : Nat} {x2 : Int} {a3 : Nat} {w4 : Option zV} {A2 : Nat} {N5 : Nat} {j9 : Nat} (h_1 : K a0 = (6, 13)) (h_3 : mr a0 5 = A2) (h_4 : K a1 = (19, 12)) (h_6 : K A2 = (100, N5)) (h_7 : 0 ≤ (mi a1 1)) (h_8 : (mi a1 1) < (N5 : Int)) (h_10 : Int.toNat (mi a1 1) = j9) (h_11 : K a3 = (12, 0)) (k_12 : zCall c k_Mo_use 52 55 [some (zR a0), some (zR a1), some (zI x2), some (zR a3), w4] [] 0 k_BP_uses [zR a3, zR a0, zI x2, zI (mi A2 j9)] (n, K, mr, mi) Q) : zX c k_Mo_use 40 [some (zR a0), some (zR a1), some (zI x2), some (zR a3), w4] [] (n, K, mr, mi) Q := by
  subst h_3
  subst h_10
  exact zX.n rfl (zX.n rfl (zX.n rfl (zX.n rfl (zX.g rfl h_1 (zX.n rfl (zX.g rfl h_4 (zX.g rfl ⟨N5, h_6, h_7, h_8⟩ (zX.callQ (M' := k_BP_uses) (Eq.trans (b := zdisp [10, 103, 11, 106, 12, 107, 13, 108] (K _).1 _ _ _) rfl (by rw [h_11]; rfl)) trivial (by exact trivial) k_12))))))))
theorem s_Mo_use_40_Me {a0 : Nat} {a1 : Nat} {x2 : Int} {a3 : Nat} {w4 : Option zV} {A2 : Nat} {N5 : Nat} {j9 : Nat} (h_1 : K a0 = (6, 13)) (h_3 : mr a0 5 = A2) (h_4 : K a1 = (19, 12)) (h_6 : K A2 = (100, N5)) (h_7 : 0 ≤ (mi a1 1)) (h_8 : (mi a1 1) < (N5 : Int)) (h_10 : Int.toNat (mi a1 1) = j9) (h_11 : K a3 = (13, 0)) (k_12 : zCall c k_Mo_use 52 55 [some (zR a0), some (zR a1), some (zI x2), some (zR a3), w4] [] 0 k_Me_uses [zR a3, zR a0, zI x2, zI (mi A2 j9)] (n, K, mr, mi) Q) : zX c k_Mo_use 40 [some (zR a0), some (zR a1), some (zI x2), some (zR a3), w4] [] (n, K, mr, mi) Q := by
  subst h_3
  subst h_10
  exact zX.n rfl (zX.n rfl (zX.n rfl (zX.n rfl (zX.g rfl h_1 (zX.n rfl (zX.g rfl h_4 (zX.g rfl ⟨N5, h_6, h_7, h_8⟩ (zX.callQ (M' := k_Me_uses) (Eq.trans (b := zdisp [10, 103, 11, 106, 12, 107, 13, 108] (K _).1 _ _ _) rfl (by rw [h_11]; rfl)) trivial (by exact trivial) k_12))))))))
theorem s_Mo_use_55 {a0 : Nat} {a1 : Nat} {x2 : Int} {a3 : Nat} {w4 : Option zV} {sx0 : Int} (p_1 : zX c k_Mo_use 59 [some (zR a0), some (zR a1), some (zI x2), some (zR a3), w4] [zI sx0] (n, K, mr, mi) Q) : zX c k_Mo_use 55 [some (zR a0), some (zR a1), some (zI x2), some (zR a3), w4] [zI sx0] (n, K, mr, mi) Q := 
  zX.n rfl p_1
theorem s_Mo_use_58 {a0 : Nat} {a1 : Nat} {x2 : Int} {a3 : Nat} {w4 : Option zV} (p_1 : zX c k_Mo_use 59 [some (zR a0), some (zR a1), some (zI x2), some (zR a3), w4] [zI x2] (n, K, mr, mi) Q) : zX c k_Mo_use 58 [some (zR a0), some (zR a1), some (zI x2), some (zR a3), w4] [] (n, K, mr, mi) Q := 
  zX.n rfl p_1
theorem s_Mo_use_59_Su {a0 : Nat} {a1 : Nat} {x2 : Int} {a3 : Nat} {w4 : Option zV} {sx0 : Int} {A2 : Nat} {N4 : Nat} {j8 : Nat} {A10 : Nat} {A15 : Nat} (h_1 : K a0 = (6, 13)) (h_3 : mr a0 2 = A2) (h_5 : K A2 = (108, N4)) (h_6 : 0 ≤ sx0) (h_7 : sx0 < (N4 : Int)) (h_9 : Int.toNat sx0 = j8) (h_11 : mr A2 j8 = A10) (h_12 : K A10 = (14, 7)) (h_13 : K a1 = (19, 12)) (h_14 : 64 ≤ A10) (h_16 : mr A2 j8 = A15) (h_17 : K A15 = (14, 7)) (h_18 : 64 ≤ A15) (h_19 : K a3 = (10, 0)) (k_20 : zCall c k_Mo_use 95 98 [some (zR a0), some (zR a1), some (zI x2), some (zR a3), some (zI sx0)] [] 0 k_Ki_isMessy [zR a3] (n, K, mr, zst (zst mi A10 4 (zw ((mi A10 4) + (mi a1 10)))) A15 5 ((zst mi A10 4 (zw ((mi A10 4) + (mi a1 10)))) a0 11)) Q) : zX c k_Mo_use 59 [some (zR a0), some (zR a1), some (zI x2), some (zR a3), w4] [zI sx0] (n, K, mr, mi) Q := by
  subst h_3
  subst h_9
  subst h_11
  subst h_16
  exact zX.n rfl (zX.n rfl (zX.g rfl h_1 (zX.n rfl (zX.g rfl ⟨N4, h_5, h_6, h_7⟩ (zX.n rfl (zX.g rfl h_12 (zX.n rfl (zX.g rfl h_13 (zX.n rfl (zX.g rfl ⟨h_14, h_12⟩ (zX.n rfl (zX.g rfl h_1 (zX.n rfl (zX.g rfl ⟨N4, h_5, h_6, h_7⟩ (zX.n rfl (zX.g rfl h_1 (zX.g rfl ⟨h_18, h_17⟩ (zX.n rfl (zX.callQ (M' := k_Ki_isMessy) (Eq.trans (b := zdisp [10, 109, 11, 109, 12, 109, 13, 110] (K _).1 _ _ _) rfl (by rw [h_19]; rfl)) trivial (by exact trivial) k_20)))))))))))))))))))
theorem s_Mo_use_59_BC {a0 : Nat} {a1 : Nat} {x2 : Int} {a3 : Nat} {w4 : Option zV} {sx0 : Int} {A2 : Nat} {N4 : Nat} {j8 : Nat} {A10 : Nat} {A15 : Nat} (h_1 : K a0 = (6, 13)) (h_3 : mr a0 2 = A2) (h_5 : K A2 = (108, N4)) (h_6 : 0 ≤ sx0) (h_7 : sx0 < (N4 : Int)) (h_9 : Int.toNat sx0 = j8) (h_11 : mr A2 j8 = A10) (h_12 : K A10 = (14, 7)) (h_13 : K a1 = (19, 12)) (h_14 : 64 ≤ A10) (h_16 : mr A2 j8 = A15) (h_17 : K A15 = (14, 7)) (h_18 : 64 ≤ A15) (h_19 : K a3 = (11, 0)) (k_20 : zCall c k_Mo_use 95 98 [some (zR a0), some (zR a1), some (zI x2), some (zR a3), some (zI sx0)] [] 0 k_Ki_isMessy [zR a3] (n, K, mr, zst (zst mi A10 4 (zw ((mi A10 4) + (mi a1 10)))) A15 5 ((zst mi A10 4 (zw ((mi A10 4) + (mi a1 10)))) a0 11)) Q) : zX c k_Mo_use 59 [some (zR a0), some (zR a1), some (zI x2), some (zR a3), w4] [zI sx0] (n, K, mr, mi) Q := by
  subst h_3
  subst h_9
  subst h_11
  subst h_16
  exact zX.n rfl (zX.n rfl (zX.g rfl h_1 (zX.n rfl (zX.g rfl ⟨N4, h_5, h_6, h_7⟩ (zX.n rfl (zX.g rfl h_12 (zX.n rfl (zX.g rfl h_13 (zX.n rfl (zX.g rfl ⟨h_14, h_12⟩ (zX.n rfl (zX.g rfl h_1 (zX.n rfl (zX.g rfl ⟨N4, h_5, h_6, h_7⟩ (zX.n rfl (zX.g rfl h_1 (zX.g rfl ⟨h_18, h_17⟩ (zX.n rfl (zX.callQ (M' := k_Ki_isMessy) (Eq.trans (b := zdisp [10, 109, 11, 109, 12, 109, 13, 110] (K _).1 _ _ _) rfl (by rw [h_19]; rfl)) trivial (by exact trivial) k_20)))))))))))))))))))
theorem s_Mo_use_59_BP {a0 : Nat} {a1 : Nat} {x2 : Int} {a3 : Nat} {w4 : Option zV} {sx0 : Int} {A2 : Nat} {N4 : Nat} {j8 : Nat} {A10 : Nat} {A15 : Nat} (h_1 : K a0 = (6, 13)) (h_3 : mr a0 2 = A2) (h_5 : K A2 = (108, N4)) (h_6 : 0 ≤ sx0) (h_7 : sx0 < (N4 : Int)) (h_9 : Int.toNat sx0 = j8) (h_11 : mr A2 j8 = A10) (h_12 : K A10 = (14, 7)) (h_13 : K a1 = (19, 12)) (h_14 : 64 ≤ A10) (h_16 : mr A2 j8 = A15) (h_17 : K A15 = (14, 7)) (h_18 : 64 ≤ A15) (h_19 : K a3 = (12, 0)) (k_20 : zCall c k_Mo_use 95 98 [some (zR a0), some (zR a1), some (zI x2), some (zR a3), some (zI sx0)] [] 0 k_Ki_isMessy [zR a3] (n, K, mr, zst (zst mi A10 4 (zw ((mi A10 4) + (mi a1 10)))) A15 5 ((zst mi A10 4 (zw ((mi A10 4) + (mi a1 10)))) a0 11)) Q) : zX c k_Mo_use 59 [some (zR a0), some (zR a1), some (zI x2), some (zR a3), w4] [zI sx0] (n, K, mr, mi) Q := by
  subst h_3
  subst h_9
  subst h_11
  subst h_16
  exact zX.n rfl (zX.n rfl (zX.g rfl h_1 (zX.n rfl (zX.g rfl ⟨N4, h_5, h_6, h_7⟩ (zX.n rfl (zX.g rfl h_12 (zX.n rfl (zX.g rfl h_13 (zX.n rfl (zX.g rfl ⟨h_14, h_12⟩ (zX.n rfl (zX.g rfl h_1 (zX.n rfl (zX.g rfl ⟨N4, h_5, h_6, h_7⟩ (zX.n rfl (zX.g rfl h_1 (zX.g rfl ⟨h_18, h_17⟩ (zX.n rfl (zX.callQ (M' := k_Ki_isMessy) (Eq.trans (b := zdisp [10, 109, 11, 109, 12, 109, 13, 110] (K _).1 _ _ _) rfl (by rw [h_19]; rfl)) trivial (by exact trivial) k_20)))))))))))))))))))
theorem s_Mo_use_59_Me {a0 : Nat} {a1 : Nat} {x2 : Int} {a3 : Nat} {w4 : Option zV} {sx0 : Int} {A2 : Nat} {N4 : Nat} {j8 : Nat} {A10 : Nat} {A15 : Nat} (h_1 : K a0 = (6, 13)) (h_3 : mr a0 2 = A2) (h_5 : K A2 = (108, N4)) (h_6 : 0 ≤ sx0) (h_7 : sx0 < (N4 : Int)) (h_9 : Int.toNat sx0 = j8) (h_11 : mr A2 j8 = A10) (h_12 : K A10 = (14, 7)) (h_13 : K a1 = (19, 12)) (h_14 : 64 ≤ A10) (h_16 : mr A2 j8 = A15) (h_17 : K A15 = (14, 7)) (h_18 : 64 ≤ A15) (h_19 : K a3 = (13, 0)) (k_20 : zCall c k_Mo_use 95 98 [some (zR a0), some (zR a1), some (zI x2), some (zR a3), some (zI sx0)] [] 0 k_Me_isMessy [zR a3] (n, K, mr, zst (zst mi A10 4 (zw ((mi A10 4) + (mi a1 10)))) A15 5 ((zst mi A10 4 (zw ((mi A10 4) + (mi a1 10)))) a0 11)) Q) : zX c k_Mo_use 59 [some (zR a0), some (zR a1), some (zI x2), some (zR a3), w4] [zI sx0] (n, K, mr, mi) Q := by
  subst h_3
  subst h_9
  subst h_11
  subst h_16
  exact zX.n rfl (zX.n rfl (zX.g rfl h_1 (zX.n rfl (zX.g rfl ⟨N4, h_5, h_6, h_7⟩ (zX.n rfl (zX.g rfl h_12 (zX.n rfl (zX.g rfl h_13 (zX.n rfl (zX.g rfl ⟨h_14, h_12⟩ (zX.n rfl (zX.g rfl h_1 (zX.n rfl (zX.g rfl ⟨N4, h_5, h_6, h_7⟩ (zX.n rfl (zX.g rfl h_1 (zX.g rfl ⟨h_18, h_17⟩ (zX.n rfl (zX.callQ (M' := k_Me_isMessy) (Eq.trans (b := zdisp [10, 109, 11, 109, 12, 109, 13, 110] (K _).1 _ _ _) rfl (by rw [h_19]; rfl)) trivial (by exact trivial) k_20)))))))))))))))))))
theorem s_Mo_use_98 {a0 : Nat} {a1 : Nat} {x2 : Int} {w3 : Option zV} {x4 : Int} {sx0 : Int} (p_1 : sx0 = 0 → zX c k_Mo_use 127 [some (zR a0), some (zR a1), some (zI x2), w3, some (zI x4)] [] (n, K, mr, mi) Q) (p_2 : ¬ sx0 = 0 → zX c k_Mo_use 101 [some (zR a0), some (zR a1), some (zI x2), w3, some (zI x4)] [] (n, K, mr, mi) Q) : zX c k_Mo_use 98 [some (zR a0), some (zR a1), some (zI x2), w3, some (zI x4)] [zI sx0] (n, K, mr, mi) Q := 
  zX.n rfl (zX.ite p_1 p_2)
theorem s_Mo_use_101 {a0 : Nat} {a1 : Nat} {x2 : Int} {w3 : Option zV} {x4 : Int} {A2 : Nat} {N4 : Nat} {j8 : Nat} {A10 : Nat} (h_1 : K a0 = (6, 13)) (h_3 : mr a0 2 = A2) (h_5 : K A2 = (108, N4)) (h_6 : 0 ≤ x2) (h_7 : x2 < (N4 : Int)) (h_9 : Int.toNat x2 = j8) (h_11 : mr A2 j8 = A10) (h_12 : K A10 = (14, 7)) (k_13 : zCall c k_Mo_use 107 110 [some (zR a0), some (zR a1), some (zI x2), w3, some (zI x4)] [] 0 k_Br_isThere [zR A10] (n, K, mr, mi) Q) : zX c k_Mo_use 101 [some (zR a0), some (zR a1), some (zI x2), w3, some (zI x4)] [] (n, K, mr, mi) Q := by
  subst h_3
  subst h_9
  subst h_11
  exact zX.n rfl (zX.g rfl h_1 (zX.n rfl (zX.g rfl ⟨N4, h_5, h_6, h_7⟩ (zX.callQ rfl (congrArg Prod.fst h_12) trivial k_13))))
theorem s_Mo_use_110 {a0 : Nat} {a1 : Nat} {x2 : Int} {w3 : Option zV} {x4 : Int} {sx0 : Int} (p_1 : sx0 = 0 → zX c k_Mo_use 127 [some (zR a0), some (zR a1), some (zI x2), w3, some (zI x4)] [] (n, K, mr, mi) Q) (p_2 : ¬ sx0 = 0 → zX c k_Mo_use 113 [some (zR a0), some (zR a1), some (zI x2), w3, some (zI x4)] [] (n, K, mr, mi) Q) : zX c k_Mo_use 110 [some (zR a0), some (zR a1), some (zI x2), w3, some (zI x4)] [zI sx0] (n, K, mr, mi) Q := 
  zX.n rfl (zX.ite p_1 p_2)
theorem s_Mo_use_113 {a0 : Nat} {a1 : Nat} {x2 : Int} {w3 : Option zV} {x4 : Int} (h_1 : K a0 = (6, 13)) (k_2 : zCall c k_Mo_use 115 118 [some (zR a0), some (zR a1), some (zI x2), w3, some (zI x4)] [] 0 k_Mo_leaves [zR a0, zI x2] (n, K, mr, mi) Q) : zX c k_Mo_use 113 [some (zR a0), some (zR a1), some (zI x2), w3, some (zI x4)] [] (n, K, mr, mi) Q := 
  zX.n rfl (zX.n rfl (zX.callQ rfl (congrArg Prod.fst h_1) trivial k_2))
theorem s_Mo_use_118 {a0 : Nat} {a1 : Nat} {x2 : Int} {w3 : Option zV} {x4 : Int} (h_1 : K a1 = (19, 12)) (h_2 : K a0 = (6, 13)) (k_3 : zCall c k_Mo_use 124 127 [some (zR a0), some (zR a1), some (zI x2), w3, some (zI x4)] [] 0 k_Mo_puts [zR a0, zI (mi a1 1), zI x2] (n, K, mr, mi) Q) : zX c k_Mo_use 118 [some (zR a0), some (zR a1), some (zI x2), w3, some (zI x4)] [] (n, K, mr, mi) Q := 
  zX.n rfl (zX.n rfl (zX.g rfl h_1 (zX.n rfl (zX.callQ rfl (congrArg Prod.fst h_2) trivial k_3))))
theorem s_Mo_use_127 {w0 : Option zV} {w1 : Option zV} {w2 : Option zV} {w3 : Option zV} {x4 : Int} (p_1 : Q (.inl (some (zI x4))) (n, K, mr, mi)) : zX c k_Mo_use 127 [w0, w1, w2, w3, some (zI x4)] [] (n, K, mr, mi) Q := 
  zX.n rfl (zX.ret rfl trivial p_1)
theorem s_Mo_keep_0 {a0 : Nat} {w1 : Option zV} (p_1 : zX c k_Mo_keep 2 [some (zR a0), some (zI 0)] [] (n, K, mr, mi) Q) : zX c k_Mo_keep 0 [some (zR a0), w1] [] (n, K, mr, mi) Q := 
  zX.n rfl (zX.n rfl p_1)
theorem s_Mo_keep_2 {a0 : Nat} {x1 : Int} (p_1 : (8 : Int) ≤ x1 → zX c k_Mo_keep 50 [some (zR a0), some (zI x1)] [] (n, K, mr, mi) Q) (p_2 : ¬ (8 : Int) ≤ x1 → zX c k_Mo_keep 8 [some (zR a0), some (zI x1)] [] (n, K, mr, mi) Q) : zX c k_Mo_keep 2 [some (zR a0), some (zI x1)] [] (n, K, mr, mi) Q := 
  zX.n rfl (zX.n rfl (zX.n rfl (zX.ite p_1 p_2)))
theorem s_Mo_keep_8 {a0 : Nat} {x1 : Int} {A2 : Nat} {A4 : Nat} (h_1 : K a0 = (6, 13)) (h_3 : mr a0 6 = A2) (h_5 : mr a0 9 = A4) (h_6 : K A4 = (18, 12)) (p_7 : (mi A4 5) ≤ x1 → zX c k_Mo_keep 41 [some (zR a0), some (zI x1)] [zI (zw ((zw (8 * (mi a0 11))) + x1)), zR A2] (n, K, mr, mi) Q) (p_8 : ¬ (mi A4 5) ≤ x1 → zX c k_Mo_keep 32 [some (zR a0), some (zI x1)] [zI (zw ((zw (8 * (mi a0 11))) + x1)), zR A2] (n, K, mr, mi) Q) : zX c k_Mo_keep 8 [some (zR a0), some (zI x1)] [] (n, K, mr, mi) Q := by
  subst h_3
  subst h_5
  exact zX.n rfl (zX.g rfl h_1 (zX.n rfl (zX.n rfl (zX.g rfl h_1 (zX.n rfl (zX.n rfl (zX.n rfl (zX.n rfl (zX.n rfl (zX.g rfl h_1 (zX.g rfl h_6 (zX.n rfl (zX.ite p_7 p_8)))))))))))))
theorem s_Mo_keep_32 {a0 : Nat} {x1 : Int} {sa0 : Nat} {sx1 : Int} {A2 : Nat} {N4 : Nat} {j8 : Nat} (h_1 : K a0 = (6, 13)) (h_3 : mr a0 3 = A2) (h_5 : K A2 = (100, N4)) (h_6 : 0 ≤ x1) (h_7 : x1 < (N4 : Int)) (h_9 : Int.toNat x1 = j8) (p_10 : zX c k_Mo_keep 43 [some (zR a0), some (zI x1)] [zI (mi A2 j8), zI sx1, zR sa0] (n, K, mr, mi) Q) : zX c k_Mo_keep 32 [some (zR a0), some (zI x1)] [zI sx1, zR sa0] (n, K, mr, mi) Q := by
  subst h_3
  subst h_9
  exact zX.n rfl (zX.g rfl h_1 (zX.n rfl (zX.g rfl ⟨N4, h_5, h_6, h_7⟩ (zX.n rfl p_10))))
theorem s_Mo_keep_41 {a0 : Nat} {x1 : Int} {sa0 : Nat} {sx1 : Int} (p_1 : zX c k_Mo_keep 43 [some (zR a0), some (zI x1)] [zI ((-2)), zI sx1, zR sa0] (n, K, mr, mi) Q) : zX c k_Mo_keep 41 [some (zR a0), some (zI x1)] [zI sx1, zR sa0] (n, K, mr, mi) Q := 
  zX.n rfl p_1
theorem s_Mo_keep_43 {a0 : Nat} {x1 : Int} {sa0 : Nat} {sx1 : Int} {sx2 : Int} {N1 : Nat} {j5 : Nat} (h_2 : K sa0 = (100, N1)) (h_3 : 0 ≤ sx1) (h_4 : sx1 < (N1 : Int)) (h_6 : Int.toNat sx1 = j5) (h_7 : 64 ≤ sa0) (p_8 : zX c k_Mo_keep 2 [some (zR a0), some (zI (zw (x1 + 1)))] [] (n, K, mr, zst mi sa0 j5 sx2) Q) : zX c k_Mo_keep 43 [some (zR a0), some (zI x1)] [zI sx2, zI sx1, zR sa0] (n, K, mr, mi) Q := by
  subst h_6
  exact zX.g rfl ⟨N1, h_7, h_2, h_3, h_4⟩ (zX.n rfl (zX.n rfl p_8))
theorem s_Mo_keep_50 {a0 : Nat} {w1 : Option zV} (p_1 : zX c k_Mo_keep 52 [some (zR a0), some (zI 0)] [] (n, K, mr, mi) Q) : zX c k_Mo_keep 50 [some (zR a0), w1] [] (n, K, mr, mi) Q := 
  zX.n rfl (zX.n rfl p_1)
theorem s_Mo_keep_52 {a0 : Nat} {x1 : Int} {A2 : Nat} (h_1 : K a0 = (6, 13)) (h_3 : mr a0 9 = A2) (h_4 : K A2 = (18, 12)) (p_5 : (mi A2 8) ≤ x1 → zX c k_Mo_keep 113 [some (zR a0), some (zI x1)] [] (n, K, mr, mi) Q) (p_6 : ¬ (mi A2 8) ≤ x1 → zX c k_Mo_keep 63 [some (zR a0), some (zI x1)] [] (n, K, mr, mi) Q) : zX c k_Mo_keep 52 [some (zR a0), some (zI x1)] [] (n, K, mr, mi) Q := by
  subst h_3
  exact zX.n rfl (zX.n rfl (zX.g rfl h_1 (zX.g rfl h_4 (zX.n rfl (zX.ite p_5 p_6)))))
theorem s_Mo_keep_63 {a0 : Nat} {x1 : Int} {A2 : Nat} {A4 : Nat} {N6 : Nat} {j10 : Nat} (h_1 : K a0 = (6, 13)) (h_3 : mr a0 7 = A2) (h_5 : mr a0 4 = A4) (h_7 : K A4 = (100, N6)) (h_8 : 0 ≤ x1) (h_9 : x1 < (N6 : Int)) (h_11 : Int.toNat x1 = j10) (p_12 : ¬ (mi A4 j10) = ((-2)) → zX c k_Mo_keep 92 [some (zR a0), some (zI x1)] [zI (zw ((zw (7 * (mi a0 11))) + x1)), zR A2] (n, K, mr, mi) Q) (p_13 : (mi A4 j10) = ((-2)) → zX c k_Mo_keep 87 [some (zR a0), some (zI x1)] [zI (zw ((zw (7 * (mi a0 11))) + x1)), zR A2] (n, K, mr, mi) Q) : zX c k_Mo_keep 63 [some (zR a0), some (zI x1)] [] (n, K, mr, mi) Q := by
  subst h_3
  subst h_5
  subst h_11
  exact zX.n rfl (zX.g rfl h_1 (zX.n rfl (zX.n rfl (zX.g rfl h_1 (zX.n rfl (zX.n rfl (zX.n rfl (zX.n rfl (zX.g rfl h_1 (zX.n rfl (zX.g rfl ⟨N6, h_7, h_8, h_9⟩ (zX.n rfl (zX.n rfl (zX.itn p_12 p_13))))))))))))))
theorem s_Mo_keep_87 {a0 : Nat} {x1 : Int} {sa0 : Nat} {sx1 : Int} (p_1 : zX c k_Mo_keep 106 [some (zR a0), some (zI x1)] [zI ((-2)), zI sx1, zR sa0] (n, K, mr, mi) Q) : zX c k_Mo_keep 87 [some (zR a0), some (zI x1)] [zI sx1, zR sa0] (n, K, mr, mi) Q := 
  zX.n rfl (zX.n rfl p_1)
theorem s_Mo_keep_92 {a0 : Nat} {x1 : Int} {sa0 : Nat} {sx1 : Int} {A2 : Nat} {A4 : Nat} {N6 : Nat} {j10 : Nat} {N12 : Nat} {j16 : Nat} {A18 : Nat} (h_1 : K a0 = (6, 13)) (h_3 : mr a0 2 = A2) (h_5 : mr a0 4 = A4) (h_7 : K A4 = (100, N6)) (h_8 : 0 ≤ x1) (h_9 : x1 < (N6 : Int)) (h_11 : Int.toNat x1 = j10) (h_13 : K A2 = (108, N12)) (h_14 : 0 ≤ (mi A4 j10)) (h_15 : (mi A4 j10) < (N12 : Int)) (h_17 : Int.toNat (mi A4 j10) = j16) (h_19 : mr A2 j16 = A18) (h_20 : K A18 = (14, 7)) (p_21 : zX c k_Mo_keep 106 [some (zR a0), some (zI x1)] [zI (mi A18 6), zI sx1, zR sa0] (n, K, mr, mi) Q) : zX c k_Mo_keep 92 [some (zR a0), some (zI x1)] [zI sx1, zR sa0] (n, K, mr, mi) Q := by
  subst h_3
  subst h_5
  subst h_11
  subst h_17
  subst h_19
  exact zX.n rfl (zX.g rfl h_1 (zX.n rfl (zX.g rfl h_1 (zX.n rfl (zX.g rfl ⟨N6, h_7, h_8, h_9⟩ (zX.g rfl ⟨N12, h_13, h_14, h_15⟩ (zX.g rfl h_20 p_21)))))))
theorem s_Mo_keep_106 {a0 : Nat} {x1 : Int} {sa0 : Nat} {sx1 : Int} {sx2 : Int} {N1 : Nat} {j5 : Nat} (h_2 : K sa0 = (100, N1)) (h_3 : 0 ≤ sx1) (h_4 : sx1 < (N1 : Int)) (h_6 : Int.toNat sx1 = j5) (h_7 : 64 ≤ sa0) (p_8 : zX c k_Mo_keep 52 [some (zR a0), some (zI (zw (x1 + 1)))] [] (n, K, mr, zst mi sa0 j5 sx2) Q) : zX c k_Mo_keep 106 [some (zR a0), some (zI x1)] [zI sx2, zI sx1, zR sa0] (n, K, mr, mi) Q := by
  subst h_6
  exact zX.g rfl ⟨N1, h_7, h_2, h_3, h_4⟩ (zX.n rfl (zX.n rfl p_8))
theorem s_Mo_keep_113 {w0 : Option zV} {w1 : Option zV} (p_1 : Q (.inl none) (n, K, mr, mi)) : zX c k_Mo_keep 113 [w0, w1] [] (n, K, mr, mi) Q := 
  zX.ret rfl trivial p_1
theorem s_Pe_goes_0 {a0 : Nat} {x1 : Int} {w2 : Option zV} {w3 : Option zV} (p_1 : zX c k_Pe_goes 4 [some (zR a0), some (zI x1), some (zI 0), some (zI 0)] [] (n, K, mr, mi) Q) : zX c k_Pe_goes 0 [some (zR a0), some (zI x1), w2, w3] [] (n, K, mr, mi) Q := 
  zX.n rfl (zX.n rfl (zX.n rfl (zX.n rfl p_1)))
theorem s_Pe_goes_4 {a0 : Nat} {x1 : Int} {x2 : Int} {x3 : Int} (h_1 : K a0 = (19, 12)) (p_2 : (mi a0 6) ≤ x3 → zX c k_Pe_goes 38 [some (zR a0), some (zI x1), some (zI x2), some (zI x3)] [] (n, K, mr, mi) Q) (p_3 : ¬ (mi a0 6) ≤ x3 → zX c k_Pe_goes 12 [some (zR a0), some (zI x1), some (zI x2), some (zI x3)] [] (n, K, mr, mi) Q) : zX c k_Pe_goes 4 [some (zR a0), some (zI x1), some (zI x2), some (zI x3)] [] (n, K, mr, mi) Q := 
  zX.n rfl (zX.n rfl (zX.g rfl h_1 (zX.n rfl (zX.ite p_2 p_3))))
theorem s_Pe_goes_12 {a0 : Nat} {x1 : Int} {x2 : Int} {x3 : Int} (p_1 : ¬ x2 = 0 → zX c k_Pe_goes 26 [some (zR a0), some (zI x1), some (zI x2), some (zI x3)] [] (n, K, mr, mi) Q) (p_2 : x2 = 0 → zX c k_Pe_goes 16 [some (zR a0), some (zI x1), some (zI x2), some (zI x3)] [] (n, K, mr, mi) Q) : zX c k_Pe_goes 12 [some (zR a0), some (zI x1), some (zI x2), some (zI x3)] [] (n, K, mr, mi) Q := 
  zX.n rfl (zX.n rfl (zX.itn p_1 p_2))
theorem s_Pe_goes_16 {a0 : Nat} {x1 : Int} {w2 : Option zV} {x3 : Int} {A2 : Nat} {N4 : Nat} {j8 : Nat} (h_1 : K a0 = (19, 12)) (h_3 : mr a0 4 = A2) (h_5 : K A2 = (100, N4)) (h_6 : 0 ≤ x3) (h_7 : x3 < (N4 : Int)) (h_9 : Int.toNat x3 = j8) (p_10 : ¬ (mi A2 j8) = x1 → zX c k_Pe_goes 30 [some (zR a0), some (zI x1), w2, some (zI x3)] [] (n, K, mr, mi) Q) (p_11 : (mi A2 j8) = x1 → zX c k_Pe_goes 26 [some (zR a0), some (zI x1), w2, some (zI x3)] [] (n, K, mr, mi) Q) : zX c k_Pe_goes 16 [some (zR a0), some (zI x1), w2, some (zI x3)] [] (n, K, mr, mi) Q := by
  subst h_3
  subst h_9
  exact zX.n rfl (zX.g rfl h_1 (zX.n rfl (zX.g rfl ⟨N4, h_5, h_6, h_7⟩ (zX.n rfl (zX.n rfl (zX.itn p_10 p_11))))))
theorem s_Pe_goes_26 {a0 : Nat} {x1 : Int} {w2 : Option zV} {x3 : Int} (p_1 : zX c k_Pe_goes 31 [some (zR a0), some (zI x1), w2, some (zI x3)] [zI 1] (n, K, mr, mi) Q) : zX c k_Pe_goes 26 [some (zR a0), some (zI x1), w2, some (zI x3)] [] (n, K, mr, mi) Q := 
  zX.n rfl (zX.n rfl p_1)
theorem s_Pe_goes_30 {a0 : Nat} {x1 : Int} {w2 : Option zV} {x3 : Int} (p_1 : zX c k_Pe_goes 31 [some (zR a0), some (zI x1), w2, some (zI x3)] [zI 0] (n, K, mr, mi) Q) : zX c k_Pe_goes 30 [some (zR a0), some (zI x1), w2, some (zI x3)] [] (n, K, mr, mi) Q := 
  zX.n rfl p_1
theorem s_Pe_goes_31 {a0 : Nat} {x1 : Int} {w2 : Option zV} {x3 : Int} {sx0 : Int} (p_1 : zX c k_Pe_goes 4 [some (zR a0), some (zI x1), some (zI sx0), some (zI (zw (x3 + 1)))] [] (n, K, mr, mi) Q) : zX c k_Pe_goes 31 [some (zR a0), some (zI x1), w2, some (zI x3)] [zI sx0] (n, K, mr, mi) Q := 
  zX.n rfl (zX.n rfl (zX.n rfl p_1))
theorem s_Pe_goes_38 {w0 : Option zV} {w1 : Option zV} {x2 : Int} {w3 : Option zV} (h_1 : x2 = 0 ∨ x2 = 1) (p_2 : Q (.inl (some (zI x2))) (n, K, mr, mi)) : zX c k_Pe_goes 38 [w0, w1, some (zI x2), w3] [] (n, K, mr, mi) Q := 
  zX.n rfl (zX.ret rfl h_1 p_2)
theorem s_Mo_goes_0 {a0 : Nat} {x1 : Int} {w2 : Option zV} {A2 : Nat} {N4 : Nat} {j8 : Nat} (h_1 : K a0 = (6, 13)) (h_3 : mr a0 4 = A2) (h_5 : K A2 = (100, N4)) (h_6 : 0 ≤ x1) (h_7 : x1 < (N4 : Int)) (h_9 : Int.toNat x1 = j8) (k_10 : zCall c k_Mo_goes 9 12 [some (zR a0), some (zI x1), some (zI (mi A2 j8))] [] 0 k_Mo_leaves [zR a0, zI (mi A2 j8)] (n, K, mr, mi) Q) : zX c k_Mo_goes 0 [some (zR a0), some (zI x1), w2] [] (n, K, mr, mi) Q := by
  subst h_3
  subst h_9
  exact zX.n rfl (zX.g rfl h_1 (zX.n rfl (zX.g rfl ⟨N4, h_5, h_6, h_7⟩ (zX.n rfl (zX.n rfl (zX.n rfl (zX.callQ rfl (congrArg Prod.fst h_1) trivial k_10)))))))
theorem s_Mo_goes_12 {a0 : Nat} {w1 : Option zV} {x2 : Int} {A2 : Nat} {N4 : Nat} {j8 : Nat} {A10 : Nat} (h_1 : K a0 = (6, 13)) (h_3 : mr a0 2 = A2) (h_5 : K A2 = (108, N4)) (h_6 : 0 ≤ x2) (h_7 : x2 < (N4 : Int)) (h_9 : Int.toNat x2 = j8) (h_11 : mr A2 j8 = A10) (h_12 : K A10 = (14, 7)) (h_13 : 64 ≤ A10) (p_14 : Q (.inl none) (n, K, mr, zst mi A10 6 9)) : zX c k_Mo_goes 12 [some (zR a0), w1, some (zI x2)] [] (n, K, mr, mi) Q := by
  subst h_3
  subst h_9
  subst h_11
  exact zX.n rfl (zX.g rfl h_1 (zX.n rfl (zX.g rfl ⟨N4, h_5, h_6, h_7⟩ (zX.n rfl (zX.g rfl ⟨h_13, h_12⟩ (zX.ret rfl trivial p_14))))))
theorem s_Mo_run_0 {a0 : Nat} {a1 : Nat} {a2 : Nat} {a3 : Nat} {w4 : Option zV} (h_1 : K a0 = (6, 13)) (h_2 : 64 ≤ a0) (p_3 : zX c k_Mo_run 18 [some (zR a0), some (zR a1), some (zR a2), some (zR a3), some (zI 0)] [] (n, K, zst (zst mr a0 9 a1) a0 10 a2, zst mi a0 12 0) Q) : zX c k_Mo_run 0 [some (zR a0), some (zR a1), some (zR a2), some (zR a3), w4] [] (n, K, mr, mi) Q := 
  zX.n rfl (zX.n rfl (zX.g rfl ⟨h_2, h_1⟩ (zX.n rfl (zX.n rfl (zX.g rfl ⟨h_2, h_1⟩ (zX.n rfl (zX.n rfl (zX.g rfl ⟨h_2, h_1⟩ (zX.n rfl (zX.n rfl p_3))))))))))
theorem s_Mo_run_18 {a0 : Nat} {a1 : Nat} {a2 : Nat} {a3 : Nat} {x4 : Int} (p_1 : (8 : Int) ≤ x4 → zX c k_Mo_run 40 [some (zR a0), some (zR a1), some (zR a2), some (zR a3), some (zI x4)] [] (n, K, mr, mi) Q) (p_2 : ¬ (8 : Int) ≤ x4 → zX c k_Mo_run 25 [some (zR a0), some (zR a1), some (zR a2), some (zR a3), some (zI x4)] [] (n, K, mr, mi) Q) : zX c k_Mo_run 18 [some (zR a0), some (zR a1), some (zR a2), some (zR a3), some (zI x4)] [] (n, K, mr, mi) Q := 
  zX.n rfl (zX.n rfl (zX.n rfl (zX.ite p_1 p_2)))
theorem s_Mo_run_25 {a0 : Nat} {a1 : Nat} {a2 : Nat} {a3 : Nat} {x4 : Int} {A2 : Nat} {N4 : Nat} {j8 : Nat} (h_1 : K a0 = (6, 13)) (h_3 : mr a0 3 = A2) (h_5 : K A2 = (100, N4)) (h_6 : 0 ≤ x4) (h_7 : x4 < (N4 : Int)) (h_9 : Int.toNat x4 = j8) (h_10 : 64 ≤ A2) (p_11 : zX c k_Mo_run 18 [some (zR a0), some (zR a1), some (zR a2), some (zR a3), some (zI (zw (x4 + 1)))] [] (n, K, mr, zst mi A2 j8 ((-2))) Q) : zX c k_Mo_run 25 [some (zR a0), some (zR a1), some (zR a2), some (zR a3), some (zI x4)] [] (n, K, mr, mi) Q := by
  subst h_3
  subst h_9
  exact zX.n rfl (zX.g rfl h_1 (zX.n rfl (zX.n rfl (zX.g rfl ⟨N4, h_10, h_5, h_6, h_7⟩ (zX.n rfl (zX.n rfl p_11))))))
theorem s_Mo_run_40 {a0 : Nat} {a1 : Nat} {a2 : Nat} {a3 : Nat} {w4 : Option zV} (p_1 : zX c k_Mo_run 43 [some (zR a0), some (zR a1), some (zR a2), some (zR a3), some (zI 0)] [] (n, K, mr, mi) Q) : zX c k_Mo_run 40 [some (zR a0), some (zR a1), some (zR a2), some (zR a3), w4] [] (n, K, mr, mi) Q := 
  zX.n rfl (zX.n rfl p_1)
theorem s_Mo_run_43 {a0 : Nat} {a1 : Nat} {a2 : Nat} {a3 : Nat} {x4 : Int} (p_1 : (7 : Int) ≤ x4 → zX c k_Mo_run 65 [some (zR a0), some (zR a1), some (zR a2), some (zR a3), some (zI x4)] [] (n, K, mr, mi) Q) (p_2 : ¬ (7 : Int) ≤ x4 → zX c k_Mo_run 50 [some (zR a0), some (zR a1), some (zR a2), some (zR a3), some (zI x4)] [] (n, K, mr, mi) Q) : zX c k_Mo_run 43 [some (zR a0), some (zR a1), some (zR a2), some (zR a3), some (zI x4)] [] (n, K, mr, mi) Q := 
  zX.n rfl (zX.n rfl (zX.n rfl (zX.ite p_1 p_2)))
theorem s_Mo_run_50 {a0 : Nat} {a1 : Nat} {a2 : Nat} {a3 : Nat} {x4 : Int} {A2 : Nat} {N4 : Nat} {j8 : Nat} (h_1 : K a0 = (6, 13)) (h_3 : mr a0 4 = A2) (h_5 : K A2 = (100, N4)) (h_6 : 0 ≤ x4) (h_7 : x4 < (N4 : Int)) (h_9 : Int.toNat x4 = j8) (h_10 : 64 ≤ A2) (p_11 : zX c k_Mo_run 43 [some (zR a0), some (zR a1), some (zR a2), some (zR a3), some (zI (zw (x4 + 1)))] [] (n, K, mr, zst mi A2 j8 ((-2))) Q) : zX c k_Mo_run 50 [some (zR a0), some (zR a1), some (zR a2), some (zR a3), some (zI x4)] [] (n, K, mr, mi) Q := by
  subst h_3
  subst h_9
  exact zX.n rfl (zX.g rfl h_1 (zX.n rfl (zX.n rfl (zX.g rfl ⟨N4, h_10, h_5, h_6, h_7⟩ (zX.n rfl (zX.n rfl p_11))))))
theorem s_Mo_run_65 {a0 : Nat} {a1 : Nat} {a2 : Nat} {a3 : Nat} {w4 : Option zV} (h_1 : K a0 = (6, 13)) (h_2 : 64 ≤ a0) (p_3 : zX c k_Mo_run 70 [some (zR a0), some (zR a1), some (zR a2), some (zR a3), w4] [] (n, K, mr, zst mi a0 11 0) Q) : zX c k_Mo_run 65 [some (zR a0), some (zR a1), some (zR a2), some (zR a3), w4] [] (n, K, mr, mi) Q := 
  zX.n rfl (zX.n rfl (zX.g rfl ⟨h_2, h_1⟩ p_3))
theorem s_Mo_run_70 {a0 : Nat} {a1 : Nat} {a2 : Nat} {a3 : Nat} {w4 : Option zV} (h_1 : K a0 = (6, 13)) (h_2 : K a1 = (18, 12)) (p_3 : (mi a1 4) ≤ (mi a0 11) → zX c k_Mo_run 385 [some (zR a0), some (zR a1), some (zR a2), some (zR a3), w4] [] (n, K, mr, mi) Q) (p_4 : ¬ (mi a1 4) ≤ (mi a0 11) → zX c k_Mo_run 81 [some (zR a0), some (zR a1), some (zR a2), some (zR a3), w4] [] (n, K, mr, mi) Q) : zX c k_Mo_run 70 [some (zR a0), some (zR a1), some (zR a2), some (zR a3), w4] [] (n, K, mr, mi) Q := 
  zX.n rfl (zX.g rfl h_1 (zX.n rfl (zX.g rfl h_2 (zX.n rfl (zX.ite p_3 p_4)))))
theorem s_Mo_run_81 {a0 : Nat} {a1 : Nat} {a2 : Nat} {a3 : Nat} {w4 : Option zV} (p_1 : zX c k_Mo_run 84 [some (zR a0), some (zR a1), some (zR a2), some (zR a3), some (zI 0)] [] (n, K, mr, mi) Q) : zX c k_Mo_run 81 [some (zR a0), some (zR a1), some (zR a2), some (zR a3), w4] [] (n, K, mr, mi) Q := 
  zX.n rfl (zX.n rfl p_1)
theorem s_Mo_run_84 {a0 : Nat} {a1 : Nat} {a2 : Nat} {a3 : Nat} {x4 : Int} (h_1 : K a1 = (18, 12)) (p_2 : (mi a1 8) ≤ x4 → zX c k_Mo_run 127 [some (zR a0), some (zR a1), some (zR a2), some (zR a3), some (zI x4)] [] (n, K, mr, mi) Q) (p_3 : ¬ (mi a1 8) ≤ x4 → zX c k_Mo_run 93 [some (zR a0), some (zR a1), some (zR a2), some (zR a3), some (zI x4)] [] (n, K, mr, mi) Q) : zX c k_Mo_run 84 [some (zR a0), some (zR a1), some (zR a2), some (zR a3), some (zI x4)] [] (n, K, mr, mi) Q := 
  zX.n rfl (zX.n rfl (zX.g rfl h_1 (zX.n rfl (zX.ite p_2 p_3))))
theorem s_Mo_run_93 {a0 : Nat} {a1 : Nat} {a2 : Nat} {a3 : Nat} {x4 : Int} {A2 : Nat} {N4 : Nat} {j8 : Nat} {A10 : Nat} (h_1 : K a1 = (18, 12)) (h_3 : mr a1 0 = A2) (h_5 : K A2 = (110, N4)) (h_6 : 0 ≤ x4) (h_7 : x4 < (N4 : Int)) (h_9 : Int.toNat x4 = j8) (h_11 : mr A2 j8 = A10) (h_12 : K a0 = (6, 13)) (h_13 : K A10 = (19, 12)) (k_14 : zCall c k_Mo_run 104 107 [some (zR a0), some (zR a1), some (zR a2), some (zR a3), some (zI x4)] [] 0 k_Pe_comes [zR A10, zI (mi a0 11)] (n, K, mr, mi) Q) : zX c k_Mo_run 93 [some (zR a0), some (zR a1), some (zR a2), some (zR a3), some (zI x4)] [] (n, K, mr, mi) Q := by
  subst h_3
  subst h_9
  subst h_11
  exact zX.n rfl (zX.g rfl h_1 (zX.n rfl (zX.g rfl ⟨N4, h_5, h_6, h_7⟩ (zX.n rfl (zX.g rfl h_12 (zX.callQ rfl (congrArg Prod.fst h_13) trivial k_14))))))
theorem s_Mo_run_107 {a0 : Nat} {a1 : Nat} {a2 : Nat} {a3 : Nat} {x4 : Int} {sx0 : Int} (p_1 : sx0 = 0 → zX c k_Mo_run 121 [some (zR a0), some (zR a1), some (zR a2), some (zR a3), some (zI x4)] [] (n, K, mr, mi) Q) (p_2 : ¬ sx0 = 0 → zX c k_Mo_run 110 [some (zR a0), some (zR a1), some (zR a2), some (zR a3), some (zI x4)] [] (n, K, mr, mi) Q) : zX c k_Mo_run 107 [some (zR a0), some (zR a1), some (zR a2), some (zR a3), some (zI x4)] [zI sx0] (n, K, mr, mi) Q := 
  zX.n rfl (zX.ite p_1 p_2)
theorem s_Mo_run_110 {a0 : Nat} {a1 : Nat} {a2 : Nat} {a3 : Nat} {x4 : Int} {A2 : Nat} {N4 : Nat} {j8 : Nat} {A10 : Nat} (h_1 : K a1 = (18, 12)) (h_3 : mr a1 0 = A2) (h_5 : K A2 = (110, N4)) (h_6 : 0 ≤ x4) (h_7 : x4 < (N4 : Int)) (h_9 : Int.toNat x4 = j8) (h_11 : mr A2 j8 = A10) (h_12 : K a0 = (6, 13)) (k_13 : zCall c k_Mo_run 118 121 [some (zR a0), some (zR a1), some (zR a2), some (zR a3), some (zI x4)] [] 0 k_Mo_comes [zR a0, zR A10] (n, K, mr, mi) Q) : zX c k_Mo_run 110 [some (zR a0), some (zR a1), some (zR a2), some (zR a3), some (zI x4)] [] (n, K, mr, mi) Q := by
  subst h_3
  subst h_9
  subst h_11
  exact zX.n rfl (zX.n rfl (zX.g rfl h_1 (zX.n rfl (zX.g rfl ⟨N4, h_5, h_6, h_7⟩ (zX.callQ rfl (congrArg Prod.fst h_12) trivial k_13)))))
theorem s_Mo_run_121 {a0 : Nat} {a1 : Nat} {a2 : Nat} {a3 : Nat} {x4 : Int} (p_1 : zX c k_Mo_run 84 [some (zR a0), some (zR a1), some (zR a2), some (zR a3), some (zI (zw (x4 + 1)))] [] (n, K, mr, mi) Q) : zX c k_Mo_run 121 [some (zR a0), some (zR a1), some (zR a2), some (zR a3), some (zI x4)] [] (n, K, mr, mi) Q := 
  zX.n rfl (zX.n rfl p_1)
theorem s_Mo_run_127 {a0 : Nat} {a1 : Nat} {a2 : Nat} {a3 : Nat} {w4 : Option zV} (p_1 : zX c k_Mo_run 130 [some (zR a0), some (zR a1), some (zR a2), some (zR a3), some (zI 0)] [] (n, K, mr, mi) Q) : zX c k_Mo_run 127 [some (zR a0), some (zR a1), some (zR a2), some (zR a3), w4] [] (n, K, mr, mi) Q := 
  zX.n rfl (zX.n rfl p_1)
theorem s_Mo_run_130 {a0 : Nat} {a1 : Nat} {a2 : Nat} {a3 : Nat} {x4 : Int} (h_1 : K a1 = (18, 12)) (p_2 : (mi a1 8) ≤ x4 → zX c k_Mo_run 182 [some (zR a0), some (zR a1), some (zR a2), some (zR a3), some (zI x4)] [] (n, K, mr, mi) Q) (p_3 : ¬ (mi a1 8) ≤ x4 → zX c k_Mo_run 139 [some (zR a0), some (zR a1), some (zR a2), some (zR a3), some (zI x4)] [] (n, K, mr, mi) Q) : zX c k_Mo_run 130 [some (zR a0), some (zR a1), some (zR a2), some (zR a3), some (zI x4)] [] (n, K, mr, mi) Q := 
  zX.n rfl (zX.n rfl (zX.g rfl h_1 (zX.n rfl (zX.ite p_2 p_3))))
theorem s_Mo_run_139 {a0 : Nat} {a1 : Nat} {a2 : Nat} {a3 : Nat} {x4 : Int} {A2 : Nat} {N4 : Nat} {j8 : Nat} {A10 : Nat} (h_1 : K a1 = (18, 12)) (h_3 : mr a1 0 = A2) (h_5 : K A2 = (110, N4)) (h_6 : 0 ≤ x4) (h_7 : x4 < (N4 : Int)) (h_9 : Int.toNat x4 = j8) (h_11 : mr A2 j8 = A10) (h_12 : K a0 = (6, 13)) (h_13 : K A10 = (19, 12)) (k_14 : zCall c k_Mo_run 150 153 [some (zR a0), some (zR a1), some (zR a2), some (zR a3), some (zI x4)] [] 0 k_Pe_isHere [zR A10, zI (mi a0 11)] (n, K, mr, mi) Q) : zX c k_Mo_run 139 [some (zR a0), some (zR a1), some (zR a2), some (zR a3), some (zI x4)] [] (n, K, mr, mi) Q := by
  subst h_3
  subst h_9
  subst h_11
  exact zX.n rfl (zX.g rfl h_1 (zX.n rfl (zX.g rfl ⟨N4, h_5, h_6, h_7⟩ (zX.n rfl (zX.g rfl h_12 (zX.callQ rfl (congrArg Prod.fst h_13) trivial k_14))))))
theorem s_Mo_run_153 {a0 : Nat} {a1 : Nat} {a2 : Nat} {a3 : Nat} {x4 : Int} {sx0 : Int} (p_1 : sx0 = 0 → zX c k_Mo_run 176 [some (zR a0), some (zR a1), some (zR a2), some (zR a3), some (zI x4)] [] (n, K, mr, mi) Q) (p_2 : ¬ sx0 = 0 → zX c k_Mo_run 156 [some (zR a0), some (zR a1), some (zR a2), some (zR a3), some (zI x4)] [] (n, K, mr, mi) Q) : zX c k_Mo_run 153 [some (zR a0), some (zR a1), some (zR a2), some (zR a3), some (zI x4)] [zI sx0] (n, K, mr, mi) Q := 
  zX.n rfl (zX.ite p_1 p_2)
theorem s_Mo_run_156 {a0 : Nat} {a1 : Nat} {a2 : Nat} {a3 : Nat} {x4 : Int} (h_1 : K a0 = (6, 13)) (k_2 : zCall c k_Mo_run 159 162 [some (zR a0), some (zR a1), some (zR a2), some (zR a3), some (zI x4)] [] 0 k_Mo_isOld [zR a0, zI x4] (n, K, mr, mi) Q) : zX c k_Mo_run 156 [some (zR a0), some (zR a1), some (zR a2), some (zR a3), some (zI x4)] [] (n, K, mr, mi) Q := 
  zX.n rfl (zX.n rfl (zX.callQ rfl (congrArg Prod.fst h_1) trivial k_2))
theorem s_Mo_run_162 {a0 : Nat} {a1 : Nat} {a2 : Nat} {a3 : Nat} {x4 : Int} {sx0 : Int} (p_1 : sx0 = 0 → zX c k_Mo_run 176 [some (zR a0), some (zR a1), some (zR a2), some (zR a3), some (zI x4)] [] (n, K, mr, mi) Q) (p_2 : ¬ sx0 = 0 → zX c k_Mo_run 165 [some (zR a0), some (zR a1), some (zR a2), some (zR a3), some (zI x4)] [] (n, K, mr, mi) Q) : zX c k_Mo_run 162 [some (zR a0), some (zR a1), some (zR a2), some (zR a3), some (zI x4)] [zI sx0] (n, K, mr, mi) Q := 
  zX.n rfl (zX.ite p_1 p_2)
theorem s_Mo_run_165 {a0 : Nat} {a1 : Nat} {a2 : Nat} {a3 : Nat} {x4 : Int} {A2 : Nat} {N4 : Nat} {j8 : Nat} {A10 : Nat} (h_1 : K a1 = (18, 12)) (h_3 : mr a1 0 = A2) (h_5 : K A2 = (110, N4)) (h_6 : 0 ≤ x4) (h_7 : x4 < (N4 : Int)) (h_9 : Int.toNat x4 = j8) (h_11 : mr A2 j8 = A10) (h_12 : K a0 = (6, 13)) (k_13 : zCall c k_Mo_run 173 176 [some (zR a0), some (zR a1), some (zR a2), some (zR a3), some (zI x4)] [] 0 k_Mo_renews [zR a0, zR A10] (n, K, mr, mi) Q) : zX c k_Mo_run 165 [some (zR a0), some (zR a1), some (zR a2), some (zR a3), some (zI x4)] [] (n, K, mr, mi) Q := by
  subst h_3
  subst h_9
  subst h_11
  exact zX.n rfl (zX.n rfl (zX.g rfl h_1 (zX.n rfl (zX.g rfl ⟨N4, h_5, h_6, h_7⟩ (zX.callQ rfl (congrArg Prod.fst h_12) trivial k_13)))))
theorem s_Mo_run_176 {a0 : Nat} {a1 : Nat} {a2 : Nat} {a3 : Nat} {x4 : Int} (p_1 : zX c k_Mo_run 130 [some (zR a0), some (zR a1), some (zR a2), some (zR a3), some (zI (zw (x4 + 1)))] [] (n, K, mr, mi) Q) : zX c k_Mo_run 176 [some (zR a0), some (zR a1), some (zR a2), some (zR a3), some (zI x4)] [] (n, K, mr, mi) Q := 
  zX.n rfl (zX.n rfl p_1)
theorem s_Mo_run_182 {a0 : Nat} {a1 : Nat} {a2 : Nat} {a3 : Nat} {w4 : Option zV} (p_1 : zX c k_Mo_run 185 [some (zR a0), some (zR a1), some (zR a2), some (zR a3), some (zI 0)] [] (n, K, mr, mi) Q) : zX c k_Mo_run 182 [some (zR a0), some (zR a1), some (zR a2), some (zR a3), w4] [] (n, K, mr, mi) Q := 
  zX.n rfl (zX.n rfl p_1)
theorem s_Mo_run_185 {a0 : Nat} {a1 : Nat} {a2 : Nat} {a3 : Nat} {x4 : Int} (h_1 : K a1 = (18, 12)) (p_2 : (mi a1 9) ≤ x4 → zX c k_Mo_run 211 [some (zR a0), some (zR a1), some (zR a2), some (zR a3), some (zI x4)] [] (n, K, mr, mi) Q) (p_3 : ¬ (mi a1 9) ≤ x4 → zX c k_Mo_run 194 [some (zR a0), some (zR a1), some (zR a2), some (zR a3), some (zI x4)] [] (n, K, mr, mi) Q) : zX c k_Mo_run 185 [some (zR a0), some (zR a1), some (zR a2), some (zR a3), some (zI x4)] [] (n, K, mr, mi) Q := 
  zX.n rfl (zX.n rfl (zX.g rfl h_1 (zX.n rfl (zX.ite p_2 p_3))))
theorem s_Mo_run_194 {a0 : Nat} {a1 : Nat} {a2 : Nat} {a3 : Nat} {x4 : Int} {A2 : Nat} {N4 : Nat} {j8 : Nat} {A10 : Nat} (h_1 : K a1 = (18, 12)) (h_3 : mr a1 1 = A2) (h_5 : K A2 = (105, N4)) (h_6 : 0 ≤ x4) (h_7 : x4 < (N4 : Int)) (h_9 : Int.toNat x4 = j8) (h_11 : mr A2 j8 = A10) (h_12 : K a0 = (6, 13)) (k_13 : zCall c k_Mo_run 202 205 [some (zR a0), some (zR a1), some (zR a2), some (zR a3), some (zI x4)] [] 0 k_Mo_moves [zR a0, zR A10] (n, K, mr, mi) Q) : zX c k_Mo_run 194 [some (zR a0), some (zR a1), some (zR a2), some (zR a3), some (zI x4)] [] (n, K, mr, mi) Q := by
  subst h_3
  subst h_9
  subst h_11
  exact zX.n rfl (zX.n rfl (zX.g rfl h_1 (zX.n rfl (zX.g rfl ⟨N4, h_5, h_6, h_7⟩ (zX.callQ rfl (congrArg Prod.fst h_12) trivial k_13)))))
theorem s_Mo_run_205 {a0 : Nat} {a1 : Nat} {a2 : Nat} {a3 : Nat} {x4 : Int} (p_1 : zX c k_Mo_run 185 [some (zR a0), some (zR a1), some (zR a2), some (zR a3), some (zI (zw (x4 + 1)))] [] (n, K, mr, mi) Q) : zX c k_Mo_run 205 [some (zR a0), some (zR a1), some (zR a2), some (zR a3), some (zI x4)] [] (n, K, mr, mi) Q := 
  zX.n rfl (zX.n rfl p_1)
theorem s_Mo_run_211 {a0 : Nat} {a1 : Nat} {a2 : Nat} {a3 : Nat} {w4 : Option zV} (p_1 : zX c k_Mo_run 214 [some (zR a0), some (zR a1), some (zR a2), some (zR a3), some (zI 0)] [] (n, K, mr, mi) Q) : zX c k_Mo_run 211 [some (zR a0), some (zR a1), some (zR a2), some (zR a3), w4] [] (n, K, mr, mi) Q := 
  zX.n rfl (zX.n rfl p_1)
theorem s_Mo_run_214 {a0 : Nat} {a1 : Nat} {a2 : Nat} {a3 : Nat} {x4 : Int} (h_1 : K a2 = (5, 6)) (p_2 : (mi a2 4) ≤ x4 → zX c k_Mo_run 239 [some (zR a0), some (zR a1), some (zR a2), some (zR a3), some (zI x4)] [] (n, K, mr, mi) Q) (p_3 : ¬ (mi a2 4) ≤ x4 → zX c k_Mo_run 223 [some (zR a0), some (zR a1), some (zR a2), some (zR a3), some (zI x4)] [] (n, K, mr, mi) Q) : zX c k_Mo_run 214 [some (zR a0), some (zR a1), some (zR a2), some (zR a3), some (zI x4)] [] (n, K, mr, mi) Q := 
  zX.n rfl (zX.n rfl (zX.g rfl h_1 (zX.n rfl (zX.ite p_2 p_3))))
theorem s_Mo_run_223 {a0 : Nat} {a1 : Nat} {a2 : Nat} {a3 : Nat} {x4 : Int} (h_1 : K a2 = (5, 6)) (k_2 : zCall c k_Mo_run 227 230 [some (zR a0), some (zR a1), some (zR a2), some (zR a3), some (zI x4)] [zR a0] 0 k_Pl_move [zR a2, zI x4] (n, K, mr, mi) Q) : zX c k_Mo_run 223 [some (zR a0), some (zR a1), some (zR a2), some (zR a3), some (zI x4)] [] (n, K, mr, mi) Q := 
  zX.n rfl (zX.n rfl (zX.n rfl (zX.callQ rfl (congrArg Prod.fst h_1) trivial k_2)))
theorem s_Mo_run_230 {a0 : Nat} {a1 : Nat} {a2 : Nat} {a3 : Nat} {x4 : Int} {sa0 : Nat} {sa1 : Nat} (h_1 : K sa0 = (6, 13)) (k_2 : zCall c k_Mo_run 230 233 [some (zR a0), some (zR a1), some (zR a2), some (zR a3), some (zI x4)] [] 0 k_Mo_moves [zR sa0, zR sa1] (n, K, mr, mi) Q) : zX c k_Mo_run 230 [some (zR a0), some (zR a1), some (zR a2), some (zR a3), some (zI x4)] [zR sa1, zR sa0] (n, K, mr, mi) Q := 
  zX.callQ rfl (congrArg Prod.fst h_1) trivial k_2
theorem s_Mo_run_233 {a0 : Nat} {a1 : Nat} {a2 : Nat} {a3 : Nat} {x4 : Int} (p_1 : zX c k_Mo_run 214 [some (zR a0), some (zR a1), some (zR a2), some (zR a3), some (zI (zw (x4 + 1)))] [] (n, K, mr, mi) Q) : zX c k_Mo_run 233 [some (zR a0), some (zR a1), some (zR a2), some (zR a3), some (zI x4)] [] (n, K, mr, mi) Q := 
  zX.n rfl (zX.n rfl p_1)
theorem s_Mo_run_239 {a0 : Nat} {a1 : Nat} {a2 : Nat} {a3 : Nat} {w4 : Option zV} (h_1 : a3 = 0 ∨ (K a3).1 ≠ 0) (p_2 : a3 = 0 → zX c k_Mo_run 248 [some (zR a0), some (zR a1), some (zR a2), some (zR a3), w4] [] (n, K, mr, mi) Q) (p_3 : ¬ a3 = 0 → zX c k_Mo_run 243 [some (zR a0), some (zR a1), some (zR a2), some (zR a3), w4] [] (n, K, mr, mi) Q) : zX c k_Mo_run 239 [some (zR a0), some (zR a1), some (zR a2), some (zR a3), w4] [] (n, K, mr, mi) Q := 
  zX.n rfl (zX.g rfl h_1 (zX.ite p_2 p_3))
theorem s_Mo_run_243 {a0 : Nat} {a1 : Nat} {a2 : Nat} {a3 : Nat} {w4 : Option zV} (h_1 : K a0 = (6, 13)) (k_2 : zCall c k_Mo_run 245 248 [some (zR a0), some (zR a1), some (zR a2), some (zR a3), w4] [] 0 k_Mo_moves [zR a0, zR a3] (n, K, mr, mi) Q) : zX c k_Mo_run 243 [some (zR a0), some (zR a1), some (zR a2), some (zR a3), w4] [] (n, K, mr, mi) Q := 
  zX.n rfl (zX.n rfl (zX.callQ rfl (congrArg Prod.fst h_1) trivial k_2))
theorem s_Mo_run_248 {a0 : Nat} {a1 : Nat} {a2 : Nat} {a3 : Nat} {w4 : Option zV} (p_1 : zX c k_Mo_run 251 [some (zR a0), some (zR a1), some (zR a2), some (zR a3), some (zI 0)] [] (n, K, mr, mi) Q) : zX c k_Mo_run 248 [some (zR a0), some (zR a1), some (zR a2), some (zR a3), w4] [] (n, K, mr, mi) Q := 
  zX.n rfl (zX.n rfl p_1)
theorem s_Mo_run_251 {a0 : Nat} {a1 : Nat} {a2 : Nat} {a3 : Nat} {x4 : Int} (h_1 : K a1 = (18, 12)) (p_2 : (mi a1 8) ≤ x4 → zX c k_Mo_run 314 [some (zR a0), some (zR a1), some (zR a2), some (zR a3), some (zI x4)] [] (n, K, mr, mi) Q) (p_3 : ¬ (mi a1 8) ≤ x4 → zX c k_Mo_run 260 [some (zR a0), some (zR a1), some (zR a2), some (zR a3), some (zI x4)] [] (n, K, mr, mi) Q) : zX c k_Mo_run 251 [some (zR a0), some (zR a1), some (zR a2), some (zR a3), some (zI x4)] [] (n, K, mr, mi) Q := 
  zX.n rfl (zX.n rfl (zX.g rfl h_1 (zX.n rfl (zX.ite p_2 p_3))))
theorem s_Mo_run_260 {a0 : Nat} {a1 : Nat} {a2 : Nat} {a3 : Nat} {x4 : Int} {A2 : Nat} {A5 : Nat} {N7 : Nat} {j11 : Nat} {A13 : Nat} (h_1 : K a0 = (6, 13)) (h_3 : mr a0 8 = A2) (h_4 : K a1 = (18, 12)) (h_6 : mr a1 0 = A5) (h_8 : K A5 = (110, N7)) (h_9 : 0 ≤ x4) (h_10 : x4 < (N7 : Int)) (h_12 : Int.toNat x4 = j11) (h_14 : mr A5 j11 = A13) (h_15 : K A13 = (19, 12)) (k_16 : zCall c k_Mo_run 285 288 [some (zR a0), some (zR a1), some (zR a2), some (zR a3), some (zI x4)] [zI (zw ((zw (7 * (mi a0 11))) + x4)), zR A2] 0 k_Pe_isHere [zR A13, zI (mi a0 11)] (n, K, mr, mi) Q) : zX c k_Mo_run 260 [some (zR a0), some (zR a1), some (zR a2), some (zR a3), some (zI x4)] [] (n, K, mr, mi) Q := by
  subst h_3
  subst h_6
  subst h_12
  subst h_14
  exact zX.n rfl (zX.g rfl h_1 (zX.n rfl (zX.n rfl (zX.g rfl h_1 (zX.n rfl (zX.n rfl (zX.n rfl (zX.n rfl (zX.g rfl h_4 (zX.n rfl (zX.g rfl ⟨N7, h_8, h_9, h_10⟩ (zX.n rfl (zX.g rfl h_1 (zX.callQ rfl (congrArg Prod.fst h_15) trivial k_16))))))))))))))
theorem s_Mo_run_288 {a0 : Nat} {a1 : Nat} {a2 : Nat} {a3 : Nat} {x4 : Int} {sa0 : Nat} {sx1 : Int} {sx2 : Int} (p_1 : sx2 = 0 → zX c k_Mo_run 305 [some (zR a0), some (zR a1), some (zR a2), some (zR a3), some (zI x4)] [zI sx1, zR sa0] (n, K, mr, mi) Q) (p_2 : ¬ sx2 = 0 → zX c k_Mo_run 291 [some (zR a0), some (zR a1), some (zR a2), some (zR a3), some (zI x4)] [zI sx1, zR sa0] (n, K, mr, mi) Q) : zX c k_Mo_run 288 [some (zR a0), some (zR a1), some (zR a2), some (zR a3), some (zI x4)] [zI sx2, zI sx1, zR sa0] (n, K, mr, mi) Q := 
  zX.n rfl (zX.ite p_1 p_2)
theorem s_Mo_run_291 {a0 : Nat} {a1 : Nat} {a2 : Nat} {a3 : Nat} {x4 : Int} {sa0 : Nat} {sx1 : Int} {A2 : Nat} {N4 : Nat} {j8 : Nat} {A10 : Nat} (h_1 : K a1 = (18, 12)) (h_3 : mr a1 0 = A2) (h_5 : K A2 = (110, N4)) (h_6 : 0 ≤ x4) (h_7 : x4 < (N4 : Int)) (h_9 : Int.toNat x4 = j8) (h_11 : mr A2 j8 = A10) (h_12 : K a0 = (6, 13)) (k_13 : zCall c k_Mo_run 299 302 [some (zR a0), some (zR a1), some (zR a2), some (zR a3), some (zI x4)] [zI sx1, zR sa0] 0 k_Mo_use [zR a0, zR A10] (n, K, mr, mi) Q) : zX c k_Mo_run 291 [some (zR a0), some (zR a1), some (zR a2), some (zR a3), some (zI x4)] [zI sx1, zR sa0] (n, K, mr, mi) Q := by
  subst h_3
  subst h_9
  subst h_11
  exact zX.n rfl (zX.n rfl (zX.g rfl h_1 (zX.n rfl (zX.g rfl ⟨N4, h_5, h_6, h_7⟩ (zX.callQ rfl (congrArg Prod.fst h_12) trivial k_13)))))
theorem s_Mo_run_302 {a0 : Nat} {a1 : Nat} {a2 : Nat} {a3 : Nat} {x4 : Int} {sa0 : Nat} {sx1 : Int} {sx2 : Int} (p_1 : zX c k_Mo_run 307 [some (zR a0), some (zR a1), some (zR a2), some (zR a3), some (zI x4)] [zI sx2, zI sx1, zR sa0] (n, K, mr, mi) Q) : zX c k_Mo_run 302 [some (zR a0), some (zR a1), some (zR a2), some (zR a3), some (zI x4)] [zI sx2, zI sx1, zR sa0] (n, K, mr, mi) Q := 
  zX.n rfl p_1
theorem s_Mo_run_305 {a0 : Nat} {a1 : Nat} {a2 : Nat} {a3 : Nat} {x4 : Int} {sa0 : Nat} {sx1 : Int} (p_1 : zX c k_Mo_run 307 [some (zR a0), some (zR a1), some (zR a2), some (zR a3), some (zI x4)] [zI ((-2)), zI sx1, zR sa0] (n, K, mr, mi) Q) : zX c k_Mo_run 305 [some (zR a0), some (zR a1), some (zR a2), some (zR a3), some (zI x4)] [zI sx1, zR sa0] (n, K, mr, mi) Q := 
  zX.n rfl p_1
theorem s_Mo_run_307 {a0 : Nat} {a1 : Nat} {a2 : Nat} {a3 : Nat} {x4 : Int} {sa0 : Nat} {sx1 : Int} {sx2 : Int} {N1 : Nat} {j5 : Nat} (h_2 : K sa0 = (100, N1)) (h_3 : 0 ≤ sx1) (h_4 : sx1 < (N1 : Int)) (h_6 : Int.toNat sx1 = j5) (h_7 : 64 ≤ sa0) (p_8 : zX c k_Mo_run 251 [some (zR a0), some (zR a1), some (zR a2), some (zR a3), some (zI (zw (x4 + 1)))] [] (n, K, mr, zst mi sa0 j5 sx2) Q) : zX c k_Mo_run 307 [some (zR a0), some (zR a1), some (zR a2), some (zR a3), some (zI x4)] [zI sx2, zI sx1, zR sa0] (n, K, mr, mi) Q := by
  subst h_6
  exact zX.g rfl ⟨N1, h_7, h_2, h_3, h_4⟩ (zX.n rfl (zX.n rfl p_8))
theorem s_Mo_run_314 {a0 : Nat} {a1 : Nat} {a2 : Nat} {a3 : Nat} {w4 : Option zV} (h_1 : K a0 = (6, 13)) (k_2 : zCall c k_Mo_run 315 318 [some (zR a0), some (zR a1), some (zR a2), some (zR a3), w4] [] 0 k_Mo_keep [zR a0] (n, K, mr, mi) Q) : zX c k_Mo_run 314 [some (zR a0), some (zR a1), some (zR a2), some (zR a3), w4] [] (n, K, mr, mi) Q := 
  zX.n rfl (zX.callQ rfl (congrArg Prod.fst h_1) trivial k_2)
theorem s_Mo_run_318 {a0 : Nat} {a1 : Nat} {a2 : Nat} {a3 : Nat} {w4 : Option zV} (p_1 : zX c k_Mo_run 321 [some (zR a0), some (zR a1), some (zR a2), some (zR a3), some (zI 0)] [] (n, K, mr, mi) Q) : zX c k_Mo_run 318 [some (zR a0), some (zR a1), some (zR a2), some (zR a3), w4] [] (n, K, mr, mi) Q := 
  zX.n rfl (zX.n rfl p_1)
theorem s_Mo_run_321 {a0 : Nat} {a1 : Nat} {a2 : Nat} {a3 : Nat} {x4 : Int} (h_1 : K a1 = (18, 12)) (p_2 : (mi a1 8) ≤ x4 → zX c k_Mo_run 372 [some (zR a0), some (zR a1), some (zR a2), some (zR a3), some (zI x4)] [] (n, K, mr, mi) Q) (p_3 : ¬ (mi a1 8) ≤ x4 → zX c k_Mo_run 330 [some (zR a0), some (zR a1), some (zR a2), some (zR a3), some (zI x4)] [] (n, K, mr, mi) Q) : zX c k_Mo_run 321 [some (zR a0), some (zR a1), some (zR a2), some (zR a3), some (zI x4)] [] (n, K, mr, mi) Q := 
  zX.n rfl (zX.n rfl (zX.g rfl h_1 (zX.n rfl (zX.ite p_2 p_3))))
theorem s_Mo_run_330 {a0 : Nat} {a1 : Nat} {a2 : Nat} {a3 : Nat} {x4 : Int} {A2 : Nat} {N4 : Nat} {j8 : Nat} {A10 : Nat} (h_1 : K a1 = (18, 12)) (h_3 : mr a1 0 = A2) (h_5 : K A2 = (110, N4)) (h_6 : 0 ≤ x4) (h_7 : x4 < (N4 : Int)) (h_9 : Int.toNat x4 = j8) (h_11 : mr A2 j8 = A10) (h_12 : K a0 = (6, 13)) (h_13 : K A10 = (19, 12)) (k_14 : zCall c k_Mo_run 341 344 [some (zR a0), some (zR a1), some (zR a2), some (zR a3), some (zI x4)] [] 0 k_Pe_goes [zR A10, zI (mi a0 11)] (n, K, mr, mi) Q) : zX c k_Mo_run 330 [some (zR a0), some (zR a1), some (zR a2), some (zR a3), some (zI x4)] [] (n, K, mr, mi) Q := by
  subst h_3
  subst h_9
  subst h_11
  exact zX.n rfl (zX.g rfl h_1 (zX.n rfl (zX.g rfl ⟨N4, h_5, h_6, h_7⟩ (zX.n rfl (zX.g rfl h_12 (zX.callQ rfl (congrArg Prod.fst h_13) trivial k_14))))))
theorem s_Mo_run_344 {a0 : Nat} {a1 : Nat} {a2 : Nat} {a3 : Nat} {x4 : Int} {sx0 : Int} (p_1 : sx0 = 0 → zX c k_Mo_run 366 [some (zR a0), some (zR a1), some (zR a2), some (zR a3), some (zI x4)] [] (n, K, mr, mi) Q) (p_2 : ¬ sx0 = 0 → zX c k_Mo_run 347 [some (zR a0), some (zR a1), some (zR a2), some (zR a3), some (zI x4)] [] (n, K, mr, mi) Q) : zX c k_Mo_run 344 [some (zR a0), some (zR a1), some (zR a2), some (zR a3), some (zI x4)] [zI sx0] (n, K, mr, mi) Q := 
  zX.n rfl (zX.ite p_1 p_2)
theorem s_Mo_run_347 {a0 : Nat} {a1 : Nat} {a2 : Nat} {a3 : Nat} {x4 : Int} {A2 : Nat} {N4 : Nat} {j8 : Nat} {A10 : Nat} (h_1 : K a1 = (18, 12)) (h_3 : mr a1 0 = A2) (h_5 : K A2 = (110, N4)) (h_6 : 0 ≤ x4) (h_7 : x4 < (N4 : Int)) (h_9 : Int.toNat x4 = j8) (h_11 : mr A2 j8 = A10) (h_12 : K A10 = (19, 12)) (p_13 : (mi A10 11) = 0 → zX c k_Mo_run 366 [some (zR a0), some (zR a1), some (zR a2), some (zR a3), some (zI x4)] [] (n, K, mr, mi) Q) (p_14 : ¬ (mi A10 11) = 0 → zX c k_Mo_run 360 [some (zR a0), some (zR a1), some (zR a2), some (zR a3), some (zI x4)] [] (n, K, mr, mi) Q) : zX c k_Mo_run 347 [some (zR a0), some (zR a1), some (zR a2), some (zR a3), some (zI x4)] [] (n, K, mr, mi) Q := by
  subst h_3
  subst h_9
  subst h_11
  exact zX.n rfl (zX.g rfl h_1 (zX.n rfl (zX.g rfl ⟨N4, h_5, h_6, h_7⟩ (zX.g rfl h_12 (zX.n rfl (zX.ite p_13 p_14))))))
theorem s_Mo_run_360 {a0 : Nat} {a1 : Nat} {a2 : Nat} {a3 : Nat} {x4 : Int} (h_1 : K a0 = (6, 13)) (k_2 : zCall c k_Mo_run 363 366 [some (zR a0), some (zR a1), some (zR a2), some (zR a3), some (zI x4)] [] 0 k_Mo_goes [zR a0, zI x4] (n, K, mr, mi) Q) : zX c k_Mo_run 360 [some (zR a0), some (zR a1), some (zR a2), some (zR a3), some (zI x4)] [] (n, K, mr, mi) Q := 
  zX.n rfl (zX.n rfl (zX.callQ rfl (congrArg Prod.fst h_1) trivial k_2))
theorem s_Mo_run_366 {a0 : Nat} {a1 : Nat} {a2 : Nat} {a3 : Nat} {x4 : Int} (p_1 : zX c k_Mo_run 321 [some (zR a0), some (zR a1), some (zR a2), some (zR a3), some (zI (zw (x4 + 1)))] [] (n, K, mr, mi) Q) : zX c k_Mo_run 366 [some (zR a0), some (zR a1), some (zR a2), some (zR a3), some (zI x4)] [] (n, K, mr, mi) Q := 
  zX.n rfl (zX.n rfl p_1)
theorem s_Mo_run_372 {a0 : Nat} {a1 : Nat} {a2 : Nat} {a3 : Nat} {w4 : Option zV} (h_1 : K a0 = (6, 13)) (h_2 : 64 ≤ a0) (p_3 : zX c k_Mo_run 70 [some (zR a0), some (zR a1), some (zR a2), some (zR a3), w4] [] (n, K, mr, zst mi a0 11 (zw ((mi a0 11) + 1))) Q) : zX c k_Mo_run 372 [some (zR a0), some (zR a1), some (zR a2), some (zR a3), w4] [] (n, K, mr, mi) Q := 
  zX.n rfl (zX.n rfl (zX.g rfl h_1 (zX.n rfl (zX.n rfl (zX.g rfl ⟨h_2, h_1⟩ (zX.n rfl p_3))))))
theorem s_Mo_run_385 {w0 : Option zV} {w1 : Option zV} {w2 : Option zV} {w3 : Option zV} {w4 : Option zV} (p_1 : Q (.inl none) (n, K, mr, mi)) : zX c k_Mo_run 385 [w0, w1, w2, w3, w4] [] (n, K, mr, mi) Q := 
  zX.ret rfl trivial p_1
theorem s_MG_init_0 {a0 : Nat} (h_1 : (K a0).1 ≠ 0) (h_2 : (zup K n (104, 7)) a0 = (22, 27)) (h_3 : 64 ≤ a0) (h_4 : (zup (zup K n (104, 7)) (n + 1) (100, 7)) a0 = (22, 27)) (h_5 : (zup (zup (zup K n (104, 7)) (n + 1) (100, 7)) ((n + 1) + 1) (100, 7)) a0 = (22, 27)) (h_6 : (zup (zup (zup (zup K n (104, 7)) (n + 1) (100, 7)) ((n + 1) + 1) (100, 7)) (((n + 1) + 1) + 1) (100, 7)) a0 = (22, 27)) (h_7 : (zup (zup (zup (zup (zup K n (104, 7)) (n + 1) (100, 7)) ((n + 1) + 1) (100, 7)) (((n + 1) + 1) + 1) (100, 7)) ((((n + 1) + 1) + 1) + 1) (100, 42)) a0 = (22, 27)) (h_8 : (zup (zup (zup (zup (zup (zup K n (104, 7)) (n + 1) (100, 7)) ((n + 1) + 1) (100, 7)) (((n + 1) + 1) + 1) (100, 7)) ((((n + 1) + 1) + 1) + 1) (100, 42)) (((((n + 1) + 1) + 1) + 1) + 1) (100, 7)) a0 = (22, 27)) (h_9 : (zup (zup (zup (zup (zup (zup (zup K n (104, 7)) (n + 1) (100, 7)) ((n + 1) + 1) (100, 7)) (((n + 1) + 1) + 1) (100, 7)) ((((n + 1) + 1) + 1) + 1) (100, 42)) (((((n + 1) + 1) + 1) + 1) + 1) (100, 7)) ((((((n + 1) + 1) + 1) + 1) + 1) + 1) (100, 7)) a0 = (22, 27)) (h_10 : (zup (zup (zup (zup (zup (zup (zup (zup K n (104, 7)) (n + 1) (100, 7)) ((n + 1) + 1) (100, 7)) (((n + 1) + 1) + 1) (100, 7)) ((((n + 1) + 1) + 1) + 1) (100, 42)) (((((n + 1) + 1) + 1) + 1) + 1) (100, 7)) ((((((n + 1) + 1) + 1) + 1) + 1) + 1) (100, 7)) (((((((n + 1) + 1) + 1) + 1) + 1) + 1) + 1) (100, 7)) a0 = (22, 27)) (h_11 : (zup (zup (zup (zup (zup (zup (zup (zup (zup K n (104, 7)) (n + 1) (100, 7)) ((n + 1) + 1) (100, 7)) (((n + 1) + 1) + 1) (100, 7)) ((((n + 1) + 1) + 1) + 1) (100, 42)) (((((n + 1) + 1) + 1) + 1) + 1) (100, 7)) ((((((n + 1) + 1) + 1) + 1) + 1) + 1) (100, 7)) (((((((n + 1) + 1) + 1) + 1) + 1) + 1) + 1) (100, 7)) ((((((((n + 1) + 1) + 1) + 1) + 1) + 1) + 1) + 1) (100, 21)) a0 = (22, 27)) (h_12 : (zup (zup (zup (zup (zup (zup (zup (zup (zup (zup K n (104, 7)) (n + 1) (100, 7)) ((n + 1) + 1) (100, 7)) (((n + 1) + 1) + 1) (100, 7)) ((((n + 1) + 1) + 1) + 1) (100, 42)) (((((n + 1) + 1) + 1) + 1) + 1) (100, 7)) ((((((n + 1) + 1) + 1) + 1) + 1) + 1) (100, 7)) (((((((n + 1) + 1) + 1) + 1) + 1) + 1) + 1) (100, 7)) ((((((((n + 1) + 1) + 1) + 1) + 1) + 1) + 1) + 1) (100, 21)) (((((((((n + 1) + 1) + 1) + 1) + 1) + 1) + 1) + 1) + 1) (100, 21)) a0 = (22, 27)) (h_13 : (zup (zup (zup (zup (zup (zup (zup (zup (zup (zup (zup K n (104, 7)) (n + 1) (100, 7)) ((n + 1) + 1) (100, 7)) (((n + 1) + 1) + 1) (100, 7)) ((((n + 1) + 1) + 1) + 1) (100, 42)) (((((n + 1) + 1) + 1) + 1) + 1) (100, 7)) ((((((n + 1) + 1) + 1) + 1) + 1) + 1) (100, 7)) (((((((n + 1) + 1) + 1) + 1) + 1) + 1) + 1) (100, 7)) ((((((((n + 1) + 1) + 1) + 1) + 1) + 1) + 1) + 1) (100, 21)) (((((((((n + 1) + 1) + 1) + 1) + 1) + 1) + 1) + 1) + 1) (100, 21)) ((((((((((n + 1) + 1) + 1) + 1) + 1) + 1) + 1) + 1) + 1) + 1) (102, 7)) a0 = (22, 27)) (h_14 : (zup (zup (zup (zup (zup (zup (zup (zup (zup (zup (zup (zup K n (104, 7)) (n + 1) (100, 7)) ((n + 1) + 1) (100, 7)) (((n + 1) + 1) + 1) (100, 7)) ((((n + 1) + 1) + 1) + 1) (100, 42)) (((((n + 1) + 1) + 1) + 1) + 1) (100, 7)) ((((((n + 1) + 1) + 1) + 1) + 1) + 1) (100, 7)) (((((((n + 1) + 1) + 1) + 1) + 1) + 1) + 1) (100, 7)) ((((((((n + 1) + 1) + 1) + 1) + 1) + 1) + 1) + 1) (100, 21)) (((((((((n + 1) + 1) + 1) + 1) + 1) + 1) + 1) + 1) + 1) (100, 21)) ((((((((((n + 1) + 1) + 1) + 1) + 1) + 1) + 1) + 1) + 1) + 1) (102, 7)) (((((((((((n + 1) + 1) + 1) + 1) + 1) + 1) + 1) + 1) + 1) + 1) + 1) (100, 10)) a0 = (22, 27)) (h_15 : (zup (zup (zup (zup (zup (zup (zup (zup (zup (zup (zup (zup (zup K n (104, 7)) (n + 1) (100, 7)) ((n + 1) + 1) (100, 7)) (((n + 1) + 1) + 1) (100, 7)) ((((n + 1) + 1) + 1) + 1) (100, 42)) (((((n + 1) + 1) + 1) + 1) + 1) (100, 7)) ((((((n + 1) + 1) + 1) + 1) + 1) + 1) (100, 7)) (((((((n + 1) + 1) + 1) + 1) + 1) + 1) + 1) (100, 7)) ((((((((n + 1) + 1) + 1) + 1) + 1) + 1) + 1) + 1) (100, 21)) (((((((((n + 1) + 1) + 1) + 1) + 1) + 1) + 1) + 1) + 1) (100, 21)) ((((((((((n + 1) + 1) + 1) + 1) + 1) + 1) + 1) + 1) + 1) + 1) (102, 7)) (((((((((((n + 1) + 1) + 1) + 1) + 1) + 1) + 1) + 1) + 1) + 1) + 1) (100, 10)) ((((((((((((n + 1) + 1) + 1) + 1) + 1) + 1) + 1) + 1) + 1) + 1) + 1) + 1) (100, 10)) a0 = (22, 27)) (h_16 : (zup (zup (zup (zup (zup (zup (zup (zup (zup (zup (zup (zup (zup (zup K n (104, 7)) (n + 1) (100, 7)) ((n + 1) + 1) (100, 7)) (((n + 1) + 1) + 1) (100, 7)) ((((n + 1) + 1) + 1) + 1) (100, 42)) (((((n + 1) + 1) + 1) + 1) + 1) (100, 7)) ((((((n + 1) + 1) + 1) + 1) + 1) + 1) (100, 7)) (((((((n + 1) + 1) + 1) + 1) + 1) + 1) + 1) (100, 7)) ((((((((n + 1) + 1) + 1) + 1) + 1) + 1) + 1) + 1) (100, 21)) (((((((((n + 1) + 1) + 1) + 1) + 1) + 1) + 1) + 1) + 1) (100, 21)) ((((((((((n + 1) + 1) + 1) + 1) + 1) + 1) + 1) + 1) + 1) + 1) (102, 7)) (((((((((((n + 1) + 1) + 1) + 1) + 1) + 1) + 1) + 1) + 1) + 1) + 1) (100, 10)) ((((((((((((n + 1) + 1) + 1) + 1) + 1) + 1) + 1) + 1) + 1) + 1) + 1) + 1) (100, 10)) (((((((((((((n + 1) + 1) + 1) + 1) + 1) + 1) + 1) + 1) + 1) + 1) + 1) + 1) + 1) (100, 10)) a0 = (22, 27)) (h_17 : (zup (zup (zup (zup (zup (zup (zup (zup (zup (zup (zup (zup (zup (zup (zup K n (104, 7)) (n + 1) (100, 7)) ((n + 1) + 1) (100, 7)) (((n + 1) + 1) + 1) (100, 7)) ((((n + 1) + 1) + 1) + 1) (100, 42)) (((((n + 1) + 1) + 1) + 1) + 1) (100, 7)) ((((((n + 1) + 1) + 1) + 1) + 1) + 1) (100, 7)) (((((((n + 1) + 1) + 1) + 1) + 1) + 1) + 1) (100, 7)) ((((((((n + 1) + 1) + 1) + 1) + 1) + 1) + 1) + 1) (100, 21)) (((((((((n + 1) + 1) + 1) + 1) + 1) + 1) + 1) + 1) + 1) (100, 21)) ((((((((((n + 1) + 1) + 1) + 1) + 1) + 1) + 1) + 1) + 1) + 1) (102, 7)) (((((((((((n + 1) + 1) + 1) + 1) + 1) + 1) + 1) + 1) + 1) + 1) + 1) (100, 10)) ((((((((((((n + 1) + 1) + 1) + 1) + 1) + 1) + 1) + 1) + 1) + 1) + 1) + 1) (100, 10)) (((((((((((((n + 1) + 1) + 1) + 1) + 1) + 1) + 1) + 1) + 1) + 1) + 1) + 1) + 1) (100, 10)) ((((((((((((((n + 1) + 1) + 1) + 1) + 1) + 1) + 1) + 1) + 1) + 1) + 1) + 1) + 1) + 1) (100, 6)) a0 = (22, 27)) (h_18 : (zup (zup (zup (zup (zup (zup (zup (zup (zup (zup (zup (zup (zup (zup (zup (zup K n (104, 7)) (n + 1) (100, 7)) ((n + 1) + 1) (100, 7)) (((n + 1) + 1) + 1) (100, 7)) ((((n + 1) + 1) + 1) + 1) (100, 42)) (((((n + 1) + 1) + 1) + 1) + 1) (100, 7)) ((((((n + 1) + 1) + 1) + 1) + 1) + 1) (100, 7)) (((((((n + 1) + 1) + 1) + 1) + 1) + 1) + 1) (100, 7)) ((((((((n + 1) + 1) + 1) + 1) + 1) + 1) + 1) + 1) (100, 21)) (((((((((n + 1) + 1) + 1) + 1) + 1) + 1) + 1) + 1) + 1) (100, 21)) ((((((((((n + 1) + 1) + 1) + 1) + 1) + 1) + 1) + 1) + 1) + 1) (102, 7)) (((((((((((n + 1) + 1) + 1) + 1) + 1) + 1) + 1) + 1) + 1) + 1) + 1) (100, 10)) ((((((((((((n + 1) + 1) + 1) + 1) + 1) + 1) + 1) + 1) + 1) + 1) + 1) + 1) (100, 10)) (((((((((((((n + 1) + 1) + 1) + 1) + 1) + 1) + 1) + 1) + 1) + 1) + 1) + 1) + 1) (100, 10)) ((((((((((((((n + 1) + 1) + 1) + 1) + 1) + 1) + 1) + 1) + 1) + 1) + 1) + 1) + 1) + 1) (100, 6)) (((((((((((((((n + 1) + 1) + 1) + 1) + 1) + 1) + 1) + 1) + 1) + 1) + 1) + 1) + 1) + 1) + 1) (100, 48)) a0 = (22, 27)) (h_19 : (zup (zup (zup (zup (zup (zup (zup (zup (zup (zup (zup (zup (zup (zup (zup (zup (zup K n (104, 7)) (n + 1) (100, 7)) ((n + 1) + 1) (100, 7)) (((n + 1) + 1) + 1) (100, 7)) ((((n + 1) + 1) + 1) + 1) (100, 42)) (((((n + 1) + 1) + 1) + 1) + 1) (100, 7)) ((((((n + 1) + 1) + 1) + 1) + 1) + 1) (100, 7)) (((((((n + 1) + 1) + 1) + 1) + 1) + 1) + 1) (100, 7)) ((((((((n + 1) + 1) + 1) + 1) + 1) + 1) + 1) + 1) (100, 21)) (((((((((n + 1) + 1) + 1) + 1) + 1) + 1) + 1) + 1) + 1) (100, 21)) ((((((((((n + 1) + 1) + 1) + 1) + 1) + 1) + 1) + 1) + 1) + 1) (102, 7)) (((((((((((n + 1) + 1) + 1) + 1) + 1) + 1) + 1) + 1) + 1) + 1) + 1) (100, 10)) ((((((((((((n + 1) + 1) + 1) + 1) + 1) + 1) + 1) + 1) + 1) + 1) + 1) + 1) (100, 10)) (((((((((((((n + 1) + 1) + 1) + 1) + 1) + 1) + 1) + 1) + 1) + 1) + 1) + 1) + 1) (100, 10)) ((((((((((((((n + 1) + 1) + 1) + 1) + 1) + 1) + 1) + 1) + 1) + 1) + 1) + 1) + 1) + 1) (100, 6)) (((((((((((((((n + 1) + 1) + 1) + 1) + 1) + 1) + 1) + 1) + 1) + 1) + 1) + 1) + 1) + 1) + 1) (100, 48)) ((((((((((((((((n + 1) + 1) + 1) + 1) + 1) + 1) + 1) + 1) + 1) + 1) + 1) + 1) + 1) + 1) + 1) + 1) (100, 8)) a0 = (22, 27)) (h_20 : (zup (zup (zup (zup (zup (zup (zup (zup (zup (zup (zup (zup (zup (zup (zup (zup (zup (zup K n (104, 7)) (n + 1) (100, 7)) ((n + 1) + 1) (100, 7)) (((n + 1) + 1) + 1) (100, 7)) ((((n + 1) + 1) + 1) + 1) (100, 42)) (((((n + 1) + 1) + 1) + 1) + 1) (100, 7)) ((((((n + 1) + 1) + 1) + 1) + 1) + 1) (100, 7)) (((((((n + 1) + 1) + 1) + 1) + 1) + 1) + 1) (100, 7)) ((((((((n + 1) + 1) + 1) + 1) + 1) + 1) + 1) + 1) (100, 21)) (((((((((n + 1) + 1) + 1) + 1) + 1) + 1) + 1) + 1) + 1) (100, 21)) ((((((((((n + 1) + 1) + 1) + 1) + 1) + 1) + 1) + 1) + 1) + 1) (102, 7)) (((((((((((n + 1) + 1) + 1) + 1) + 1) + 1) + 1) + 1) + 1) + 1) + 1) (100, 10)) ((((((((((((n + 1) + 1) + 1) + 1) + 1) + 1) + 1) + 1) + 1) + 1) + 1) + 1) (100, 10)) (((((((((((((n + 1) + 1) + 1) + 1) + 1) + 1) + 1) + 1) + 1) + 1) + 1) + 1) + 1) (100, 10)) ((((((((((((((n + 1) + 1) + 1) + 1) + 1) + 1) + 1) + 1) + 1) + 1) + 1) + 1) + 1) + 1) (100, 6)) (((((((((((((((n + 1) + 1) + 1) + 1) + 1) + 1) + 1) + 1) + 1) + 1) + 1) + 1) + 1) + 1) + 1) (100, 48)) ((((((((((((((((n + 1) + 1) + 1) + 1) + 1) + 1) + 1) + 1) + 1) + 1) + 1) + 1) + 1) + 1) + 1) + 1) (100, 8)) (((((((((((((((((n + 1) + 1) + 1) + 1) + 1) + 1) + 1) + 1) + 1) + 1) + 1) + 1) + 1) + 1) + 1) + 1) + 1) (100, 8)) a0 = (22, 27)) (h_21 : (zup (zup (zup (zup (zup (zup (zup (zup (zup (zup (zup (zup (zup (zup (zup (zup (zup (zup (zup K n (104, 7)) (n + 1) (100, 7)) ((n + 1) + 1) (100, 7)) (((n + 1) + 1) + 1) (100, 7)) ((((n + 1) + 1) + 1) + 1) (100, 42)) (((((n + 1) + 1) + 1) + 1) + 1) (100, 7)) ((((((n + 1) + 1) + 1) + 1) + 1) + 1) (100, 7)) (((((((n + 1) + 1) + 1) + 1) + 1) + 1) + 1) (100, 7)) ((((((((n + 1) + 1) + 1) + 1) + 1) + 1) + 1) + 1) (100, 21)) (((((((((n + 1) + 1) + 1) + 1) + 1) + 1) + 1) + 1) + 1) (100, 21)) ((((((((((n + 1) + 1) + 1) + 1) + 1) + 1) + 1) + 1) + 1) + 1) (102, 7)) (((((((((((n + 1) + 1) + 1) + 1) + 1) + 1) + 1) + 1) + 1) + 1) + 1) (100, 10)) ((((((((((((n + 1) + 1) + 1) + 1) + 1) + 1) + 1) + 1) + 1) + 1) + 1) + 1) (100, 10)) (((((((((((((n + 1) + 1) + 1) + 1) + 1) + 1) + 1) + 1) + 1) + 1) + 1) + 1) + 1) (100, 10)) ((((((((((((((n + 1) + 1) + 1) + 1) + 1) + 1) + 1) + 1) + 1) + 1) + 1) + 1) + 1) + 1) (100, 6)) (((((((((((((((n + 1) + 1) + 1) + 1) + 1) + 1) + 1) + 1) + 1) + 1) + 1) + 1) + 1) + 1) + 1) (100, 48)) ((((((((((((((((n + 1) + 1) + 1) + 1) + 1) + 1) + 1) + 1) + 1) + 1) + 1) + 1) + 1) + 1) + 1) + 1) (100, 8)) (((((((((((((((((n + 1) + 1) + 1) + 1) + 1) + 1) + 1) + 1) + 1) + 1) + 1) + 1) + 1) + 1) + 1) + 1) + 1) (100, 8)) ((((((((((((((((((n + 1) + 1) + 1) + 1) + 1) + 1) + 1) + 1) + 1) + 1) + 1) + 1) + 1) + 1) + 1) + 1) + 1) + 1) (100, 8)) a0 = (22, 27)) (p_22 : Q (.inl none) (((((((((((((((((((n + 1) + 1) + 1) + 1) + 1) + 1) + 1) + 1) + 1) + 1) + 1) + 1) + 1) + 1) + 1) + 1) + 1) + 1) + 1, zup (zup (zup (zup (zup (zup (zup (zup (zup (zup (zup (zup (zup (zup (zup (zup (zup (zup (zup K n (104, 7)) (n + 1) (100, 7)) ((n + 1) + 1) (100, 7)) (((n + 1) + 1) + 1) (100, 7)) ((((n + 1) + 1) + 1) + 1) (100, 42)) (((((n + 1) + 1) + 1) + 1) + 1) (100, 7)) ((((((n + 1) + 1) + 1) + 1) + 1) + 1) (100, 7)) (((((((n + 1) + 1) + 1) + 1) + 1) + 1) + 1) (100, 7)) ((((((((n + 1) + 1) + 1) + 1) + 1) + 1) + 1) + 1) (100, 21)) (((((((((n + 1) + 1) + 1) + 1) + 1) + 1) + 1) + 1) + 1) (100, 21)) ((((((((((n + 1) + 1) + 1) + 1) + 1) + 1) + 1) + 1) + 1) + 1) (102, 7)) (((((((((((n + 1) + 1) + 1) + 1) + 1) + 1) + 1) + 1) + 1) + 1) + 1) (100, 10)) ((((((((((((n + 1) + 1) + 1) + 1) + 1) + 1) + 1) + 1) + 1) + 1) + 1) + 1) (100, 10)) (((((((((((((n + 1) + 1) + 1) + 1) + 1) + 1) + 1) + 1) + 1) + 1) + 1) + 1) + 1) (100, 10)) ((((((((((((((n + 1) + 1) + 1) + 1) + 1) + 1) + 1) + 1) + 1) + 1) + 1) + 1) + 1) + 1) (100, 6)) (((((((((((((((n + 1) + 1) + 1) + 1) + 1) + 1) + 1) + 1) + 1) + 1) + 1) + 1) + 1) + 1) + 1) (100, 48)) ((((((((((((((((n + 1) + 1) + 1) + 1) + 1) + 1) + 1) + 1) + 1) + 1) + 1) + 1) + 1) + 1) + 1) + 1) (100, 8)) (((((((((((((((((n + 1) + 1) + 1) + 1) + 1) + 1) + 1) + 1) + 1) + 1) + 1) + 1) + 1) + 1) + 1) + 1) + 1) (100, 8)) ((((((((((((((((((n + 1) + 1) + 1) + 1) + 1) + 1) + 1) + 1) + 1) + 1) + 1) + 1) + 1) + 1) + 1) + 1) + 1) + 1) (100, 8), zst (zup (zst (zup (zst (zup (zst (zup (zst (zup (zst (zup (zst (zup (zst (zup (zst (zup (zst (zup (zst (zup (zst (zup (zst (zup (zst (zup (zst (zup (zst (zup (zst (zup (zst (zup (zst (zup mr n (fun _ => 0)) a0 8 n) (n + 1) (fun _ => 0)) a0 9 (n + 1)) ((n + 1) + 1) (fun _ => 0)) a0 10 ((n + 1) + 1)) (((n + 1) + 1) + 1) (fun _ => 0)) a0 11 (((n + 1) + 1) + 1)) ((((n + 1) + 1) + 1) + 1) (fun _ => 0)) a0 12 ((((n + 1) + 1) + 1) + 1)) (((((n + 1) + 1) + 1) + 1) + 1) (fun _ => 0)) a0 13 (((((n + 1) + 1) + 1) + 1) + 1)) ((((((n + 1) + 1) + 1) + 1) + 1) + 1) (fun _ => 0)) a0 14 ((((((n + 1) + 1) + 1) + 1) + 1) + 1)) (((((((n + 1) + 1) + 1) + 1) + 1) + 1) + 1) (fun _ => 0)) a0 15 (((((((n + 1) + 1) + 1) + 1) + 1) + 1) + 1)) ((((((((n + 1) + 1) + 1) + 1) + 1) + 1) + 1) + 1) (fun _ => 0)) a0 16 ((((((((n + 1) + 1) + 1) + 1) + 1) + 1) + 1) + 1)) (((((((((n + 1) + 1) + 1) + 1) + 1) + 1) + 1) + 1) + 1) (fun _ => 0)) a0 17 (((((((((n + 1) + 1) + 1) + 1) + 1) + 1) + 1) + 1) + 1)) ((((((((((n + 1) + 1) + 1) + 1) + 1) + 1) + 1) + 1) + 1) + 1) (fun _ => 0)) a0 18 ((((((((((n + 1) + 1) + 1) + 1) + 1) + 1) + 1) + 1) + 1) + 1)) (((((((((((n + 1) + 1) + 1) + 1) + 1) + 1) + 1) + 1) + 1) + 1) + 1) (fun _ => 0)) a0 19 (((((((((((n + 1) + 1) + 1) + 1) + 1) + 1) + 1) + 1) + 1) + 1) + 1)) ((((((((((((n + 1) + 1) + 1) + 1) + 1) + 1) + 1) + 1) + 1) + 1) + 1) + 1) (fun _ => 0)) a0 20 ((((((((((((n + 1) + 1) + 1) + 1) + 1) + 1) + 1) + 1) + 1) + 1) + 1) + 1)) (((((((((((((n + 1) + 1) + 1) + 1) + 1) + 1) + 1) + 1) + 1) + 1) + 1) + 1) + 1) (fun _ => 0)) a0 21 (((((((((((((n + 1) + 1) + 1) + 1) + 1) + 1) + 1) + 1) + 1) + 1) + 1) + 1) + 1)) ((((((((((((((n + 1) + 1) + 1) + 1) + 1) + 1) + 1) + 1) + 1) + 1) + 1) + 1) + 1) + 1) (fun _ => 0)) a0 22 ((((((((((((((n + 1) + 1) + 1) + 1) + 1) + 1) + 1) + 1) + 1) + 1) + 1) + 1) + 1) + 1)) (((((((((((((((n + 1) + 1) + 1) + 1) + 1) + 1) + 1) + 1) + 1) + 1) + 1) + 1) + 1) + 1) + 1) (fun _ => 0)) a0 23 (((((((((((((((n + 1) + 1) + 1) + 1) + 1) + 1) + 1) + 1) + 1) + 1) + 1) + 1) + 1) + 1) + 1)) ((((((((((((((((n + 1) + 1) + 1) + 1) + 1) + 1) + 1) + 1) + 1) + 1) + 1) + 1) + 1) + 1) + 1) + 1) (fun _ => 0)) a0 24 ((((((((((((((((n + 1) + 1) + 1) + 1) + 1) + 1) + 1) + 1) + 1) + 1) + 1) + 1) + 1) + 1) + 1) + 1)) (((((((((((((((((n + 1) + 1) + 1) + 1) + 1) + 1) + 1) + 1) + 1) + 1) + 1) + 1) + 1) + 1) + 1) + 1) + 1) (fun _ => 0)) a0 25 (((((((((((((((((n + 1) + 1) + 1) + 1) + 1) + 1) + 1) + 1) + 1) + 1) + 1) + 1) + 1) + 1) + 1) + 1) + 1)) ((((((((((((((((((n + 1) + 1) + 1) + 1) + 1) + 1) + 1) + 1) + 1) + 1) + 1) + 1) + 1) + 1) + 1) + 1) + 1) + 1) (fun _ => 0)) a0 26 ((((((((((((((((((n + 1) + 1) + 1) + 1) + 1) + 1) + 1) + 1) + 1) + 1) + 1) + 1) + 1) + 1) + 1) + 1) + 1) + 1), zup (zup (zup (zup (zup (zup (zup (zup (zup (zup (zup (zup (zup (zup (zup (zup (zup (zup (zup mi n (fun _ => 0)) (n + 1) (fun _ => 0)) ((n + 1) + 1) (fun _ => 0)) (((n + 1) + 1) + 1) (fun _ => 0)) ((((n + 1) + 1) + 1) + 1) (fun _ => 0)) (((((n + 1) + 1) + 1) + 1) + 1) (fun _ => 0)) ((((((n + 1) + 1) + 1) + 1) + 1) + 1) (fun _ => 0)) (((((((n + 1) + 1) + 1) + 1) + 1) + 1) + 1) (fun _ => 0)) ((((((((n + 1) + 1) + 1) + 1) + 1) + 1) + 1) + 1) (fun _ => 0)) (((((((((n + 1) + 1) + 1) + 1) + 1) + 1) + 1) + 1) + 1) (fun _ => 0)) ((((((((((n + 1) + 1) + 1) + 1) + 1) + 1) + 1) + 1) + 1) + 1) (fun _ => 0)) (((((((((((n + 1) + 1) + 1) + 1) + 1) + 1) + 1) + 1) + 1) + 1) + 1) (fun _ => 0)) ((((((((((((n + 1) + 1) + 1) + 1) + 1) + 1) + 1) + 1) + 1) + 1) + 1) + 1) (fun _ => 0)) (((((((((((((n + 1) + 1) + 1) + 1) + 1) + 1) + 1) + 1) + 1) + 1) + 1) + 1) + 1) (fun _ => 0)) ((((((((((((((n + 1) + 1) + 1) + 1) + 1) + 1) + 1) + 1) + 1) + 1) + 1) + 1) + 1) + 1) (fun _ => 0)) (((((((((((((((n + 1) + 1) + 1) + 1) + 1) + 1) + 1) + 1) + 1) + 1) + 1) + 1) + 1) + 1) + 1) (fun _ => 0)) ((((((((((((((((n + 1) + 1) + 1) + 1) + 1) + 1) + 1) + 1) + 1) + 1) + 1) + 1) + 1) + 1) + 1) + 1) (fun _ => 0)) (((((((((((((((((n + 1) + 1) + 1) + 1) + 1) + 1) + 1) + 1) + 1) + 1) + 1) + 1) + 1) + 1) + 1) + 1) + 1) (fun _ => 0)) ((((((((((((((((((n + 1) + 1) + 1) + 1) + 1) + 1) + 1) + 1) + 1) + 1) + 1) + 1) + 1) + 1) + 1) + 1) + 1) + 1) (fun _ => 0))) : zX c k_MG_init 0 [some (zR a0)] [] (n, K, mr, mi) Q := 
  zX.n rfl (zX.g rfl h_1 (zX.n rfl (zX.n rfl (zX.g rfl (by decide) (zX.g rfl ⟨h_3, h_2⟩ (zX.n rfl (zX.n rfl (zX.g rfl (by decide) (zX.g rfl ⟨h_3, h_4⟩ (zX.n rfl (zX.n rfl (zX.g rfl (by decide) (zX.g rfl ⟨h_3, h_5⟩ (zX.n rfl (zX.n rfl (zX.g rfl (by decide) (zX.g rfl ⟨h_3, h_6⟩ (zX.n rfl (zX.n rfl (zX.g rfl (by decide) (zX.g rfl ⟨h_3, h_7⟩ (zX.n rfl (zX.n rfl (zX.g rfl (by decide) (zX.g rfl ⟨h_3, h_8⟩ (zX.n rfl (zX.n rfl (zX.g rfl (by decide) (zX.g rfl ⟨h_3, h_9⟩ (zX.n rfl (zX.n rfl (zX.g rfl (by decide) (zX.g rfl ⟨h_3, h_10⟩ (zX.n rfl (zX.n rfl (zX.g rfl (by decide) (zX.g rfl ⟨h_3, h_11⟩ (zX.n rfl (zX.n rfl (zX.g rfl (by decide) (zX.g rfl ⟨h_3, h_12⟩ (zX.n rfl (zX.n rfl (zX.g rfl (by decide) (zX.g rfl ⟨h_3, h_13⟩ (zX.n rfl (zX.n rfl (zX.g rfl (by decide) (zX.g rfl ⟨h_3, h_14⟩ (zX.n rfl (zX.n rfl (zX.g rfl (by decide) (zX.g rfl ⟨h_3, h_15⟩ (zX.n rfl (zX.n rfl (zX.g rfl (by decide) (zX.g rfl ⟨h_3, h_16⟩ (zX.n rfl (zX.n rfl (zX.g rfl (by decide) (zX.g rfl ⟨h_3, h_17⟩ (zX.n rfl (zX.n rfl (zX.g rfl (by decide) (zX.g rfl ⟨h_3, h_18⟩ (zX.n rfl (zX.n rfl (zX.g rfl (by decide) (zX.g rfl ⟨h_3, h_19⟩ (zX.n rfl (zX.n rfl (zX.g rfl (by decide) (zX.g rfl ⟨h_3, h_20⟩ (zX.n rfl (zX.n rfl (zX.g rfl (by decide) (zX.g rfl ⟨h_3, h_21⟩ (zX.ret rfl trivial p_22))))))))))))))))))))))))))))))))))))))))))))))))))))))))))))))))))))))))))))))
theorem s_MG_find_0 {a0 : Nat} {y1 : Int} {w2 : Option zV} {w3 : Option zV} (p_1 : zX c k_MG_find 2 [some (zR a0), some (zL y1), (zkill w2), some (zI 0)] [] (n, K, mr, mi) Q) : zX c k_MG_find 0 [some (zR a0), some (zL y1), w2, w3] [] (n, K, mr, mi) Q := 
  zX.n rfl (zX.n rfl p_1)
theorem s_MG_find_2 {a0 : Nat} {y1 : Int} {w2 : Option zV} {x3 : Int} (h_1 : K a0 = (22, 27)) (p_2 : (mi a0 4) ≤ x3 → zX c k_MG_find 29 [some (zR a0), some (zL y1), w2, some (zI x3)] [] (n, K, mr, mi) Q) (p_3 : ¬ (mi a0 4) ≤ x3 → zX c k_MG_find 10 [some (zR a0), some (zL y1), w2, some (zI x3)] [] (n, K, mr, mi) Q) : zX c k_MG_find 2 [some (zR a0), some (zL y1), w2, some (zI x3)] [] (n, K, mr, mi) Q := 
  zX.n rfl (zX.n rfl (zX.g rfl h_1 (zX.n rfl (zX.ite p_2 p_3))))
theorem s_MG_find_10 {a0 : Nat} {y1 : Int} {w2 : Option zV} {x3 : Int} {A2 : Nat} {N4 : Nat} {j8 : Nat} (h_1 : K a0 = (22, 27)) (h_3 : mr a0 8 = A2) (h_5 : K A2 = (104, N4)) (h_6 : 0 ≤ x3) (h_7 : x3 < (N4 : Int)) (h_9 : Int.toNat x3 = j8) (p_10 : ¬ (if (mi A2 j8) > y1 then 1 else if (mi A2 j8) = y1 then 0 else -1) = 0 → zX c k_MG_find 23 [some (zR a0), some (zL y1), w2, some (zI x3)] [] (n, K, mr, mi) Q) (p_11 : (if (mi A2 j8) > y1 then 1 else if (mi A2 j8) = y1 then 0 else -1) = 0 → zX c k_MG_find 21 [some (zR a0), some (zL y1), w2, some (zI x3)] [] (n, K, mr, mi) Q) : zX c k_MG_find 10 [some (zR a0), some (zL y1), w2, some (zI x3)] [] (n, K, mr, mi) Q := by
  subst h_3
  subst h_9
  exact zX.n rfl (zX.g rfl h_1 (zX.n rfl (zX.g rfl ⟨N4, h_5, h_6, h_7⟩ (zX.n rfl (zX.n rfl (zX.n rfl (zX.itn p_10 p_11)))))))
theorem s_MG_find_21 {w0 : Option zV} {w1 : Option zV} {w2 : Option zV} {x3 : Int} (p_1 : Q (.inl (some (zI x3))) (n, K, mr, mi)) : zX c k_MG_find 21 [w0, w1, w2, some (zI x3)] [] (n, K, mr, mi) Q := 
  zX.n rfl (zX.ret rfl trivial p_1)
theorem s_MG_find_23 {a0 : Nat} {y1 : Int} {w2 : Option zV} {x3 : Int} (p_1 : zX c k_MG_find 2 [some (zR a0), some (zL y1), (zkill w2), some (zI (zw (x3 + 1)))] [] (n, K, mr, mi) Q) : zX c k_MG_find 23 [some (zR a0), some (zL y1), w2, some (zI x3)] [] (n, K, mr, mi) Q := 
  zX.n rfl (zX.n rfl p_1)
theorem s_MG_find_29 {w0 : Option zV} {w1 : Option zV} {w2 : Option zV} {w3 : Option zV} (p_1 : Q (.inl (some (zI ((-1))))) (n, K, mr, mi)) : zX c k_MG_find 29 [w0, w1, w2, w3] [] (n, K, mr, mi) Q := 
  zX.n rfl (zX.ret rfl trivial p_1)
theorem s_G_here_0 {a0 : Nat} {x1 : Int} {w2 : Option zV} {w3 : Option zV} (p_1 : zX c k_G_here 4 [some (zR a0), some (zI x1), some (zI 0), some (zI 0)] [] (n, K, mr, mi) Q) : zX c k_G_here 0 [some (zR a0), some (zI x1), w2, w3] [] (n, K, mr, mi) Q := 
  zX.n rfl (zX.n rfl (zX.n rfl (zX.n rfl p_1)))
theorem s_G_here_4 {a0 : Nat} {x1 : Int} {x2 : Int} {x3 : Int} (h_1 : K a0 = (18, 12)) (p_2 : (mi a0 8) ≤ x3 → zX c k_G_here 41 [some (zR a0), some (zI x1), some (zI x2), some (zI x3)] [] (n, K, mr, mi) Q) (p_3 : ¬ (mi a0 8) ≤ x3 → zX c k_G_here 12 [some (zR a0), some (zI x1), some (zI x2), some (zI x3)] [] (n, K, mr, mi) Q) : zX c k_G_here 4 [some (zR a0), some (zI x1), some (zI x2), some (zI x3)] [] (n, K, mr, mi) Q := 
  zX.n rfl (zX.n rfl (zX.g rfl h_1 (zX.n rfl (zX.ite p_2 p_3))))
theorem s_G_here_12 {a0 : Nat} {x1 : Int} {x2 : Int} {x3 : Int} {A2 : Nat} {N4 : Nat} {j8 : Nat} {A10 : Nat} (h_1 : K a0 = (18, 12)) (h_3 : mr a0 0 = A2) (h_5 : K A2 = (110, N4)) (h_6 : 0 ≤ x3) (h_7 : x3 < (N4 : Int)) (h_9 : Int.toNat x3 = j8) (h_11 : mr A2 j8 = A10) (h_12 : K A10 = (19, 12)) (k_13 : zCall c k_G_here 20 23 [some (zR a0), some (zI x1), some (zI x2), some (zI x3)] [zI x2] 0 k_Pe_isHere [zR A10, zI x1] (n, K, mr, mi) Q) : zX c k_G_here 12 [some (zR a0), some (zI x1), some (zI x2), some (zI x3)] [] (n, K, mr, mi) Q := by
  subst h_3
  subst h_9
  subst h_11
  exact zX.n rfl (zX.n rfl (zX.g rfl h_1 (zX.n rfl (zX.g rfl ⟨N4, h_5, h_6, h_7⟩ (zX.n rfl (zX.callQ rfl (congrArg Prod.fst h_12) trivial k_13))))))
theorem s_G_here_23 {a0 : Nat} {x1 : Int} {w2 : Option zV} {x3 : Int} {sx0 : Int} {sx1 : Int} (p_1 : sx1 = 0 → zX c k_G_here 32 [some (zR a0), some (zI x1), w2, some (zI x3)] [zI sx0] (n, K, mr, mi) Q) (p_2 : ¬ sx1 = 0 → zX c k_G_here 26 [some (zR a0), some (zI x1), w2, some (zI x3)] [zI sx0] (n, K, mr, mi) Q) : zX c k_G_here 23 [some (zR a0), some (zI x1), w2, some (zI x3)] [zI sx1, zI sx0] (n, K, mr, mi) Q := 
  zX.n rfl (zX.ite p_1 p_2)
theorem s_G_here_26 {a0 : Nat} {x1 : Int} {w2 : Option zV} {x3 : Int} {sx0 : Int} (p_1 : zX c k_G_here 33 [some (zR a0), some (zI x1), w2, some (zI x3)] [zI (zshl 1 x3), zI sx0] (n, K, mr, mi) Q) : zX c k_G_here 26 [some (zR a0), some (zI x1), w2, some (zI x3)] [zI sx0] (n, K, mr, mi) Q := 
  zX.n rfl (zX.n rfl (zX.n rfl (zX.n rfl p_1)))
theorem s_G_here_32 {a0 : Nat} {x1 : Int} {w2 : Option zV} {x3 : Int} {sx0 : Int} (p_1 : zX c k_G_here 33 [some (zR a0), some (zI x1), w2, some (zI x3)] [zI 0, zI sx0] (n, K, mr, mi) Q) : zX c k_G_here 32 [some (zR a0), some (zI x1), w2, some (zI x3)] [zI sx0] (n, K, mr, mi) Q := 
  zX.n rfl p_1
theorem s_G_here_33 {a0 : Nat} {x1 : Int} {w2 : Option zV} {x3 : Int} {sx0 : Int} {sx1 : Int} (p_1 : zX c k_G_here 4 [some (zR a0), some (zI x1), some (zI (zor sx0 sx1)), some (zI (zw (x3 + 1)))] [] (n, K, mr, mi) Q) : zX c k_G_here 33 [some (zR a0), some (zI x1), w2, some (zI x3)] [zI sx1, zI sx0] (n, K, mr, mi) Q := 
  zX.n rfl (zX.n rfl (zX.n rfl (zX.n rfl p_1)))
theorem s_G_here_41 {w0 : Option zV} {w1 : Option zV} {x2 : Int} {w3 : Option zV} (p_1 : Q (.inl (some (zI x2))) (n, K, mr, mi)) : zX c k_G_here 41 [w0, w1, some (zI x2), w3] [] (n, K, mr, mi) Q := 
  zX.n rfl (zX.ret rfl trivial p_1)
theorem s_MG_isHere_0 {a0 : Nat} {x1 : Int} {x2 : Int} {w3 : Option zV} (p_1 : zX c k_MG_isHere 2 [some (zR a0), some (zI x1), some (zI x2), some (zI 0)] [] (n, K, mr, mi) Q) : zX c k_MG_isHere 0 [some (zR a0), some (zI x1), some (zI x2), w3] [] (n, K, mr, mi) Q := 
  zX.n rfl (zX.n rfl p_1)
theorem s_MG_isHere_2 {a0 : Nat} {x1 : Int} {x2 : Int} {x3 : Int} {A2 : Nat} {N4 : Nat} {j8 : Nat} (h_1 : K a0 = (22, 27)) (h_3 : mr a0 15 = A2) (h_5 : K A2 = (100, N4)) (h_6 : 0 ≤ x1) (h_7 : x1 < (N4 : Int)) (h_9 : Int.toNat x1 = j8) (p_10 : (mi A2 j8) ≤ x3 → zX c k_MG_isHere 47 [some (zR a0), some (zI x1), some (zI x2), some (zI x3)] [] (n, K, mr, mi) Q) (p_11 : ¬ (mi A2 j8) ≤ x3 → zX c k_MG_isHere 12 [some (zR a0), some (zI x1), some (zI x2), some (zI x3)] [] (n, K, mr, mi) Q) : zX c k_MG_isHere 2 [some (zR a0), some (zI x1), some (zI x2), some (zI x3)] [] (n, K, mr, mi) Q := by
  subst h_3
  subst h_9
  exact zX.n rfl (zX.n rfl (zX.g rfl h_1 (zX.n rfl (zX.g rfl ⟨N4, h_5, h_6, h_7⟩ (zX.n rfl (zX.ite p_10 p_11))))))
theorem s_MG_isHere_12 {a0 : Nat} {x1 : Int} {x2 : Int} {x3 : Int} {A2 : Nat} {N4 : Nat} {j8 : Nat} {A10 : Nat} {N12 : Nat} (h_1 : K a0 = (22, 27)) (h_3 : mr a0 16 = A2) (h_5 : K A2 = (100, N4)) (h_6 : 0 ≤ (zw ((zw (3 * x1)) + x3))) (h_7 : (zw ((zw (3 * x1)) + x3)) < (N4 : Int)) (h_9 : Int.toNat (zw ((zw (3 * x1)) + x3)) = j8) (h_11 : mr a0 17 = A10) (h_13 : K A10 = (100, N12)) (h_14 : (zw ((zw (3 * x1)) + x3)) < (N12 : Int)) (k_15 : zCall c k_MG_isHere 33 36 [some (zR a0), some (zI x1), some (zI x2), some (zI x3)] [] 0 k_M_in [zI x2, zI (mi A2 j8), zI (mi A10 j8)] (n, K, mr, mi) Q) : zX c k_MG_isHere 12 [some (zR a0), some (zI x1), some (zI x2), some (zI x3)] [] (n, K, mr, mi) Q := by
  subst h_3
  subst h_9
  subst h_11
  exact zX.n rfl (zX.n rfl (zX.g rfl h_1 (zX.n rfl (zX.n rfl (zX.n rfl (zX.n rfl (zX.n rfl (zX.g rfl ⟨N4, h_5, h_6, h_7⟩ (zX.n rfl (zX.g rfl h_1 (zX.n rfl (zX.n rfl (zX.n rfl (zX.n rfl (zX.n rfl (zX.g rfl ⟨N12, h_13, h_6, h_14⟩ (zX.callQ rfl trivial trivial k_15)))))))))))))))))
theorem s_MG_isHere_36 {a0 : Nat} {x1 : Int} {x2 : Int} {x3 : Int} {sx0 : Int} (p_1 : sx0 = 0 → zX c k_MG_isHere 41 [some (zR a0), some (zI x1), some (zI x2), some (zI x3)] [] (n, K, mr, mi) Q) (p_2 : ¬ sx0 = 0 → zX c k_MG_isHere 39 [some (zR a0), some (zI x1), some (zI x2), some (zI x3)] [] (n, K, mr, mi) Q) : zX c k_MG_isHere 36 [some (zR a0), some (zI x1), some (zI x2), some (zI x3)] [zI sx0] (n, K, mr, mi) Q := 
  zX.n rfl (zX.ite p_1 p_2)
theorem s_MG_isHere_39 {w0 : Option zV} {w1 : Option zV} {w2 : Option zV} {w3 : Option zV} (p_1 : Q (.inl (some (zI 1))) (n, K, mr, mi)) : zX c k_MG_isHere 39 [w0, w1, w2, w3] [] (n, K, mr, mi) Q := 
  zX.n rfl (zX.ret rfl (Or.inr rfl) p_1)
theorem s_MG_isHere_41 {a0 : Nat} {x1 : Int} {x2 : Int} {x3 : Int} (p_1 : zX c k_MG_isHere 2 [some (zR a0), some (zI x1), some (zI x2), some (zI (zw (x3 + 1)))] [] (n, K, mr, mi) Q) : zX c k_MG_isHere 41 [some (zR a0), some (zI x1), some (zI x2), some (zI x3)] [] (n, K, mr, mi) Q := 
  zX.n rfl (zX.n rfl p_1)
theorem s_MG_isHere_47 {w0 : Option zV} {w1 : Option zV} {w2 : Option zV} {w3 : Option zV} (p_1 : Q (.inl (some (zI 0))) (n, K, mr, mi)) : zX c k_MG_isHere 47 [w0, w1, w2, w3] [] (n, K, mr, mi) Q := 
  zX.n rfl (zX.ret rfl (Or.inl rfl) p_1)
theorem s_MG_here_0 {a0 : Nat} {x1 : Int} {w2 : Option zV} {w3 : Option zV} (p_1 : zX c k_MG_here 4 [some (zR a0), some (zI x1), some (zI 0), some (zI 0)] [] (n, K, mr, mi) Q) : zX c k_MG_here 0 [some (zR a0), some (zI x1), w2, w3] [] (n, K, mr, mi) Q := 
  zX.n rfl (zX.n rfl (zX.n rfl (zX.n rfl p_1)))
theorem s_MG_here_4 {a0 : Nat} {x1 : Int} {x2 : Int} {x3 : Int} (h_1 : K a0 = (22, 27)) (p_2 : (mi a0 4) ≤ x3 → zX c k_MG_here 37 [some (zR a0), some (zI x1), some (zI x2), some (zI x3)] [] (n, K, mr, mi) Q) (p_3 : ¬ (mi a0 4) ≤ x3 → zX c k_MG_here 12 [some (zR a0), some (zI x1), some (zI x2), some (zI x3)] [] (n, K, mr, mi) Q) : zX c k_MG_here 4 [some (zR a0), some (zI x1), some (zI x2), some (zI x3)] [] (n, K, mr, mi) Q := 
  zX.n rfl (zX.n rfl (zX.g rfl h_1 (zX.n rfl (zX.ite p_2 p_3))))
theorem s_MG_here_12 {a0 : Nat} {x1 : Int} {x2 : Int} {x3 : Int} (h_1 : K a0 = (22, 27)) (k_2 : zCall c k_MG_here 16 19 [some (zR a0), some (zI x1), some (zI x2), some (zI x3)] [zI x2] 0 k_MG_isHere [zR a0, zI x3, zI x1] (n, K, mr, mi) Q) : zX c k_MG_here 12 [some (zR a0), some (zI x1), some (zI x2), some (zI x3)] [] (n, K, mr, mi) Q := 
  zX.n rfl (zX.n rfl (zX.n rfl (zX.n rfl (zX.callQ rfl (congrArg Prod.fst h_1) trivial k_2))))
theorem s_MG_here_19 {a0 : Nat} {x1 : Int} {w2 : Option zV} {x3 : Int} {sx0 : Int} {sx1 : Int} (p_1 : sx1 = 0 → zX c k_MG_here 28 [some (zR a0), some (zI x1), w2, some (zI x3)] [zI sx0] (n, K, mr, mi) Q) (p_2 : ¬ sx1 = 0 → zX c k_MG_here 22 [some (zR a0), some (zI x1), w2, some (zI x3)] [zI sx0] (n, K, mr, mi) Q) : zX c k_MG_here 19 [some (zR a0), some (zI x1), w2, some (zI x3)] [zI sx1, zI sx0] (n, K, mr, mi) Q := 
  zX.n rfl (zX.ite p_1 p_2)
theorem s_MG_here_22 {a0 : Nat} {x1 : Int} {w2 : Option zV} {x3 : Int} {sx0 : Int} (p_1 : zX c k_MG_here 29 [some (zR a0), some (zI x1), w2, some (zI x3)] [zI (zshl 1 x3), zI sx0] (n, K, mr, mi) Q) : zX c k_MG_here 22 [some (zR a0), some (zI x1), w2, some (zI x3)] [zI sx0] (n, K, mr, mi) Q := 
  zX.n rfl (zX.n rfl (zX.n rfl (zX.n rfl p_1)))
theorem s_MG_here_28 {a0 : Nat} {x1 : Int} {w2 : Option zV} {x3 : Int} {sx0 : Int} (p_1 : zX c k_MG_here 29 [some (zR a0), some (zI x1), w2, some (zI x3)] [zI 0, zI sx0] (n, K, mr, mi) Q) : zX c k_MG_here 28 [some (zR a0), some (zI x1), w2, some (zI x3)] [zI sx0] (n, K, mr, mi) Q := 
  zX.n rfl p_1
theorem s_MG_here_29 {a0 : Nat} {x1 : Int} {w2 : Option zV} {x3 : Int} {sx0 : Int} {sx1 : Int} (p_1 : zX c k_MG_here 4 [some (zR a0), some (zI x1), some (zI (zor sx0 sx1)), some (zI (zw (x3 + 1)))] [] (n, K, mr, mi) Q) : zX c k_MG_here 29 [some (zR a0), some (zI x1), w2, some (zI x3)] [zI sx1, zI sx0] (n, K, mr, mi) Q := 
  zX.n rfl (zX.n rfl (zX.n rfl (zX.n rfl p_1)))
theorem s_MG_here_37 {w0 : Option zV} {w1 : Option zV} {x2 : Int} {w3 : Option zV} (p_1 : Q (.inl (some (zI x2))) (n, K, mr, mi)) : zX c k_MG_here 37 [w0, w1, some (zI x2), w3] [] (n, K, mr, mi) Q := 
  zX.n rfl (zX.ret rfl trivial p_1)
theorem s_MG_comes_0 {a0 : Nat} {x1 : Int} {x2 : Int} {w3 : Option zV} (p_1 : zX c k_MG_comes 2 [some (zR a0), some (zI x1), some (zI x2), some (zI 0)] [] (n, K, mr, mi) Q) : zX c k_MG_comes 0 [some (zR a0), some (zI x1), some (zI x2), w3] [] (n, K, mr, mi) Q := 
  zX.n rfl (zX.n rfl p_1)
theorem s_MG_comes_2 {a0 : Nat} {x1 : Int} {x2 : Int} {x3 : Int} {A2 : Nat} {N4 : Nat} {j8 : Nat} (h_1 : K a0 = (22, 27)) (h_3 : mr a0 15 = A2) (h_5 : K A2 = (100, N4)) (h_6 : 0 ≤ x1) (h_7 : x1 < (N4 : Int)) (h_9 : Int.toNat x1 = j8) (p_10 : (mi A2 j8) ≤ x3 → zX c k_MG_comes 34 [some (zR a0), some (zI x1), some (zI x2), some (zI x3)] [] (n, K, mr, mi) Q) (p_11 : ¬ (mi A2 j8) ≤ x3 → zX c k_MG_comes 12 [some (zR a0), some (zI x1), some (zI x2), some (zI x3)] [] (n, K, mr, mi) Q) : zX c k_MG_comes 2 [some (zR a0), some (zI x1), some (zI x2), some (zI x3)] [] (n, K, mr, mi) Q := by
  subst h_3
  subst h_9
  exact zX.n rfl (zX.n rfl (zX.g rfl h_1 (zX.n rfl (zX.g rfl ⟨N4, h_5, h_6, h_7⟩ (zX.n rfl (zX.ite p_10 p_11))))))
theorem s_MG_comes_12 {a0 : Nat} {x1 : Int} {x2 : Int} {x3 : Int} {A2 : Nat} {N4 : Nat} {j8 : Nat} (h_1 : K a0 = (22, 27)) (h_3 : mr a0 16 = A2) (h_5 : K A2 = (100, N4)) (h_6 : 0 ≤ (zw ((zw (3 * x1)) + x3))) (h_7 : (zw ((zw (3 * x1)) + x3)) < (N4 : Int)) (h_9 : Int.toNat (zw ((zw (3 * x1)) + x3)) = j8) (p_10 : ¬ (mi A2 j8) = x2 → zX c k_MG_comes 28 [some (zR a0), some (zI x1), some (zI x2), some (zI x3)] [] (n, K, mr, mi) Q) (p_11 : (mi A2 j8) = x2 → zX c k_MG_comes 26 [some (zR a0), some (zI x1), some (zI x2), some (zI x3)] [] (n, K, mr, mi) Q) : zX c k_MG_comes 12 [some (zR a0), some (zI x1), some (zI x2), some (zI x3)] [] (n, K, mr, mi) Q := by
  subst h_3
  subst h_9
  exact zX.n rfl (zX.g rfl h_1 (zX.n rfl (zX.n rfl (zX.n rfl (zX.n rfl (zX.n rfl (zX.g rfl ⟨N4, h_5, h_6, h_7⟩ (zX.n rfl (zX.n rfl (zX.itn p_10 p_11))))))))))
theorem s_MG_comes_26 {w0 : Option zV} {w1 : Option zV} {w2 : Option zV} {w3 : Option zV} (p_1 : Q (.inl (some (zI 1))) (n, K, mr, mi)) : zX c k_MG_comes 26 [w0, w1, w2, w3] [] (n, K, mr, mi) Q := 
  zX.n rfl (zX.ret rfl (Or.inr rfl) p_1)
theorem s_MG_comes_28 {a0 : Nat} {x1 : Int} {x2 : Int} {x3 : Int} (p_1 : zX c k_MG_comes 2 [some (zR a0), some (zI x1), some (zI x2), some (zI (zw (x3 + 1)))] [] (n, K, mr, mi) Q) : zX c k_MG_comes 28 [some (zR a0), some (zI x1), some (zI x2), some (zI x3)] [] (n, K, mr, mi) Q := 
  zX.n rfl (zX.n rfl p_1)
theorem s_MG_comes_34 {w0 : Option zV} {w1 : Option zV} {w2 : Option zV} {w3 : Option zV} (p_1 : Q (.inl (some (zI 0))) (n, K, mr, mi)) : zX c k_MG_comes 34 [w0, w1, w2, w3] [] (n, K, mr, mi) Q := 
  zX.n rfl (zX.ret rfl (Or.inl rfl) p_1)
theorem s_MG_goes_0 {a0 : Nat} {x1 : Int} {x2 : Int} {w3 : Option zV} (p_1 : zX c k_MG_goes 2 [some (zR a0), some (zI x1), some (zI x2), some (zI 0)] [] (n, K, mr, mi) Q) : zX c k_MG_goes 0 [some (zR a0), some (zI x1), some (zI x2), w3] [] (n, K, mr, mi) Q := 
  zX.n rfl (zX.n rfl p_1)
theorem s_MG_goes_2 {a0 : Nat} {x1 : Int} {x2 : Int} {x3 : Int} {A2 : Nat} {N4 : Nat} {j8 : Nat} (h_1 : K a0 = (22, 27)) (h_3 : mr a0 15 = A2) (h_5 : K A2 = (100, N4)) (h_6 : 0 ≤ x1) (h_7 : x1 < (N4 : Int)) (h_9 : Int.toNat x1 = j8) (p_10 : (mi A2 j8) ≤ x3 → zX c k_MG_goes 34 [some (zR a0), some (zI x1), some (zI x2), some (zI x3)] [] (n, K, mr, mi) Q) (p_11 : ¬ (mi A2 j8) ≤ x3 → zX c k_MG_goes 12 [some (zR a0), some (zI x1), some (zI x2), some (zI x3)] [] (n, K, mr, mi) Q) : zX c k_MG_goes 2 [some (zR a0), some (zI x1), some (zI x2), some (zI x3)] [] (n, K, mr, mi) Q := by
  subst h_3
  subst h_9
  exact zX.n rfl (zX.n rfl (zX.g rfl h_1 (zX.n rfl (zX.g rfl ⟨N4, h_5, h_6, h_7⟩ (zX.n rfl (zX.ite p_10 p_11))))))
theorem s_MG_goes_12 {a0 : Nat} {x1 : Int} {x2 : Int} {x3 : Int} {A2 : Nat} {N4 : Nat} {j8 : Nat} (h_1 : K a0 = (22, 27)) (h_3 : mr a0 17 = A2) (h_5 : K A2 = (100, N4)) (h_6 : 0 ≤ (zw ((zw (3 * x1)) + x3))) (h_7 : (zw ((zw (3 * x1)) + x3)) < (N4 : Int)) (h_9 : Int.toNat (zw ((zw (3 * x1)) + x3)) = j8) (p_10 : ¬ (mi A2 j8) = x2 → zX c k_MG_goes 28 [some (zR a0), some (zI x1), some (zI x2), some (zI x3)] [] (n, K, mr, mi) Q) (p_11 : (mi A2 j8) = x2 → zX c k_MG_goes 26 [some (zR a0), some (zI x1), some (zI x2), some (zI x3)] [] (n, K, mr, mi) Q) : zX c k_MG_goes 12 [some (zR a0), some (zI x1), some (zI x2), some (zI x3)] [] (n, K, mr, mi) Q := by
  subst h_3
  subst h_9
  exact zX.n rfl (zX.g rfl h_1 (zX.n rfl (zX.n rfl (zX.n rfl (zX.n rfl (zX.n rfl (zX.g rfl ⟨N4, h_5, h_6, h_7⟩ (zX.n rfl (zX.n rfl (zX.itn p_10 p_11))))))))))
theorem s_MG_goes_26 {w0 : Option zV} {w1 : Option zV} {w2 : Option zV} {w3 : Option zV} (p_1 : Q (.inl (some (zI 1))) (n, K, mr, mi)) : zX c k_MG_goes 26 [w0, w1, w2, w3] [] (n, K, mr, mi) Q := 
  zX.n rfl (zX.ret rfl (Or.inr rfl) p_1)
theorem s_MG_goes_28 {a0 : Nat} {x1 : Int} {x2 : Int} {x3 : Int} (p_1 : zX c k_MG_goes 2 [some (zR a0), some (zI x1), some (zI x2), some (zI (zw (x3 + 1)))] [] (n, K, mr, mi) Q) : zX c k_MG_goes 28 [some (zR a0), some (zI x1), some (zI x2), some (zI x3)] [] (n, K, mr, mi) Q := 
  zX.n rfl (zX.n rfl p_1)
theorem s_MG_goes_34 {w0 : Option zV} {w1 : Option zV} {w2 : Option zV} {w3 : Option zV} (p_1 : Q (.inl (some (zI 0))) (n, K, mr, mi)) : zX c k_MG_goes 34 [w0, w1, w2, w3] [] (n, K, mr, mi) Q := 
  zX.n rfl (zX.ret rfl (Or.inl rfl) p_1)
theorem s_Mo_at_0 {a0 : Nat} {x1 : Int} {x2 : Int} {A2 : Nat} {N4 : Nat} {j8 : Nat} (h_1 : K a0 = (6, 13)) (h_3 : mr a0 6 = A2) (h_5 : K A2 = (100, N4)) (h_6 : 0 ≤ (zw ((zw (8 * x1)) + x2))) (h_7 : (zw ((zw (8 * x1)) + x2)) < (N4 : Int)) (h_9 : Int.toNat (zw ((zw (8 * x1)) + x2)) = j8) (p_10 : Q (.inl (some (zI (mi A2 j8)))) (n, K, mr, mi)) : zX c k_Mo_at 0 [some (zR a0), some (zI x1), some (zI x2)] [] (n, K, mr, mi) Q := by
  subst h_3
  subst h_9
  exact zX.n rfl (zX.g rfl h_1 (zX.n rfl (zX.n rfl (zX.n rfl (zX.n rfl (zX.n rfl (zX.g rfl ⟨N4, h_5, h_6, h_7⟩ (zX.ret rfl trivial p_10))))))))
theorem s_Mo_colour_0 {a0 : Nat} {x1 : Int} {x2 : Int} (h_1 : K a0 = (6, 13)) (k_2 : zCall c k_Mo_colour 3 6 [some (zR a0), some (zI x1), some (zI x2)] [] 0 k_Mo_at [zR a0, zI x1, zI x2] (n, K, mr, mi) Q) : zX c k_Mo_colour 0 [some (zR a0), some (zI x1), some (zI x2)] [] (n, K, mr, mi) Q := 
  zX.n rfl (zX.n rfl (zX.n rfl (zX.callQ rfl (congrArg Prod.fst h_1) trivial k_2)))
theorem s_Mo_colour_6 {a0 : Nat} {x1 : Int} {x2 : Int} {sx0 : Int} (p_1 : ¬ sx0 = ((-2)) → zX c k_Mo_colour 16 [some (zR a0), some (zI x1), some (zI x2)] [] (n, K, mr, mi) Q) (p_2 : sx0 = ((-2)) → zX c k_Mo_colour 11 [some (zR a0), some (zI x1), some (zI x2)] [] (n, K, mr, mi) Q) : zX c k_Mo_colour 6 [some (zR a0), some (zI x1), some (zI x2)] [zI sx0] (n, K, mr, mi) Q := 
  zX.n rfl (zX.n rfl (zX.itn p_1 p_2))
theorem s_Mo_colour_11 {w0 : Option zV} {w1 : Option zV} {w2 : Option zV} (p_1 : zX c k_Mo_colour 30 [w0, w1, w2] [zI ((-2))] (n, K, mr, mi) Q) : zX c k_Mo_colour 11 [w0, w1, w2] [] (n, K, mr, mi) Q := 
  zX.n rfl (zX.n rfl p_1)
theorem s_Mo_colour_16 {a0 : Nat} {x1 : Int} {x2 : Int} {A2 : Nat} (h_1 : K a0 = (6, 13)) (h_3 : mr a0 2 = A2) (k_4 : zCall c k_Mo_colour 23 26 [some (zR a0), some (zI x1), some (zI x2)] [zR A2] 0 k_Mo_at [zR a0, zI x1, zI x2] (n, K, mr, mi) Q) : zX c k_Mo_colour 16 [some (zR a0), some (zI x1), some (zI x2)] [] (n, K, mr, mi) Q := by
  subst h_3
  exact zX.n rfl (zX.g rfl h_1 (zX.n rfl (zX.n rfl (zX.n rfl (zX.callQ rfl (congrArg Prod.fst h_1) trivial k_4)))))
theorem s_Mo_colour_26 {w0 : Option zV} {w1 : Option zV} {w2 : Option zV} {sa0 : Nat} {sx1 : Int} {N1 : Nat} {j5 : Nat} {A7 : Nat} (h_2 : K sa0 = (108, N1)) (h_3 : 0 ≤ sx1) (h_4 : sx1 < (N1 : Int)) (h_6 : Int.toNat sx1 = j5) (h_8 : mr sa0 j5 = A7) (h_9 : K A7 = (14, 7)) (p_10 : zX c k_Mo_colour 30 [w0, w1, w2] [zI (mi A7 1)] (n, K, mr, mi) Q) : zX c k_Mo_colour 26 [w0, w1, w2] [zI sx1, zR sa0] (n, K, mr, mi) Q := by
  subst h_6
  subst h_8
  exact zX.g rfl ⟨N1, h_2, h_3, h_4⟩ (zX.g rfl h_9 p_10)
theorem s_Mo_colour_30 {w0 : Option zV} {w1 : Option zV} {w2 : Option zV} {sx0 : Int} (p_1 : Q (.inl (some (zI sx0))) (n, K, mr, mi)) : zX c k_Mo_colour 30 [w0, w1, w2] [zI sx0] (n, K, mr, mi) Q := 
  zX.ret rfl trivial p_1
theorem s_Mo_whose_0 {a0 : Nat} {x1 : Int} {x2 : Int} (h_1 : K a0 = (6, 13)) (k_2 : zCall c k_Mo_whose 3 6 [some (zR a0), some (zI x1), some (zI x2)] [] 0 k_Mo_at [zR a0, zI x1, zI x2] (n, K, mr, mi) Q) : zX c k_Mo_whose 0 [some (zR a0), some (zI x1), some (zI x2)] [] (n, K, mr, mi) Q := 
  zX.n rfl (zX.n rfl (zX.n rfl (zX.callQ rfl (congrArg Prod.fst h_1) trivial k_2)))
theorem s_Mo_whose_6 {a0 : Nat} {x1 : Int} {x2 : Int} {sx0 : Int} (p_1 : ¬ sx0 = ((-2)) → zX c k_Mo_whose 16 [some (zR a0), some (zI x1), some (zI x2)] [] (n, K, mr, mi) Q) (p_2 : sx0 = ((-2)) → zX c k_Mo_whose 11 [some (zR a0), some (zI x1), some (zI x2)] [] (n, K, mr, mi) Q) : zX c k_Mo_whose 6 [some (zR a0), some (zI x1), some (zI x2)] [zI sx0] (n, K, mr, mi) Q := 
  zX.n rfl (zX.n rfl (zX.itn p_1 p_2))
theorem s_Mo_whose_11 {w0 : Option zV} {w1 : Option zV} {w2 : Option zV} (p_1 : zX c k_Mo_whose 30 [w0, w1, w2] [zI ((-2))] (n, K, mr, mi) Q) : zX c k_Mo_whose 11 [w0, w1, w2] [] (n, K, mr, mi) Q := 
  zX.n rfl (zX.n rfl p_1)
theorem s_Mo_whose_16 {a0 : Nat} {x1 : Int} {x2 : Int} {A2 : Nat} (h_1 : K a0 = (6, 13)) (h_3 : mr a0 2 = A2) (k_4 : zCall c k_Mo_whose 23 26 [some (zR a0), some (zI x1), some (zI x2)] [zR A2] 0 k_Mo_at [zR a0, zI x1, zI x2] (n, K, mr, mi) Q) : zX c k_Mo_whose 16 [some (zR a0), some (zI x1), some (zI x2)] [] (n, K, mr, mi) Q := by
  subst h_3
  exact zX.n rfl (zX.g rfl h_1 (zX.n rfl (zX.n rfl (zX.n rfl (zX.callQ rfl (congrArg Prod.fst h_1) trivial k_4)))))
theorem s_Mo_whose_26 {w0 : Option zV} {w1 : Option zV} {w2 : Option zV} {sa0 : Nat} {sx1 : Int} {N1 : Nat} {j5 : Nat} {A7 : Nat} (h_2 : K sa0 = (108, N1)) (h_3 : 0 ≤ sx1) (h_4 : sx1 < (N1 : Int)) (h_6 : Int.toNat sx1 = j5) (h_8 : mr sa0 j5 = A7) (h_9 : K A7 = (14, 7)) (p_10 : zX c k_Mo_whose 30 [w0, w1, w2] [zI (mi A7 0)] (n, K, mr, mi) Q) : zX c k_Mo_whose 26 [w0, w1, w2] [zI sx1, zR sa0] (n, K, mr, mi) Q := by
  subst h_6
  subst h_8
  exact zX.g rfl ⟨N1, h_2, h_3, h_4⟩ (zX.g rfl h_9 p_10)
theorem s_Mo_whose_30 {w0 : Option zV} {w1 : Option zV} {w2 : Option zV} {sx0 : Int} (p_1 : Q (.inl (some (zI sx0))) (n, K, mr, mi)) : zX c k_Mo_whose 30 [w0, w1, w2] [zI sx0] (n, K, mr, mi) Q := 
  zX.ret rfl trivial p_1
theorem s_Mo_place_0 {a0 : Nat} {x1 : Int} {x2 : Int} {A2 : Nat} {N4 : Nat} {j8 : Nat} (h_1 : K a0 = (6, 13)) (h_3 : mr a0 7 = A2) (h_5 : K A2 = (100, N4)) (h_6 : 0 ≤ (zw ((zw (7 * x1)) + x2))) (h_7 : (zw ((zw (7 * x1)) + x2)) < (N4 : Int)) (h_9 : Int.toNat (zw ((zw (7 * x1)) + x2)) = j8) (p_10 : Q (.inl (some (zI (mi A2 j8)))) (n, K, mr, mi)) : zX c k_Mo_place 0 [some (zR a0), some (zI x1), some (zI x2)] [] (n, K, mr, mi) Q := by
  subst h_3
  subst h_9
  exact zX.n rfl (zX.g rfl h_1 (zX.n rfl (zX.n rfl (zX.n rfl (zX.n rfl (zX.n rfl (zX.g rfl ⟨N4, h_5, h_6, h_7⟩ (zX.ret rfl trivial p_10))))))))
theorem s_Mo_there_0 {a0 : Nat} {x1 : Int} {w2 : Option zV} {w3 : Option zV} (p_1 : zX c k_Mo_there 4 [some (zR a0), some (zI x1), some (zI 0), some (zI 0)] [] (n, K, mr, mi) Q) : zX c k_Mo_there 0 [some (zR a0), some (zI x1), w2, w3] [] (n, K, mr, mi) Q := 
  zX.n rfl (zX.n rfl (zX.n rfl (zX.n rfl p_1)))
theorem s_Mo_there_4 {a0 : Nat} {x1 : Int} {x2 : Int} {x3 : Int} {A2 : Nat} (h_1 : K a0 = (6, 13)) (h_3 : mr a0 9 = A2) (h_4 : K A2 = (18, 12)) (p_5 : (mi A2 5) ≤ x3 → zX c k_Mo_there 40 [some (zR a0), some (zI x1), some (zI x2), some (zI x3)] [] (n, K, mr, mi) Q) (p_6 : ¬ (mi A2 5) ≤ x3 → zX c k_Mo_there 15 [some (zR a0), some (zI x1), some (zI x2), some (zI x3)] [] (n, K, mr, mi) Q) : zX c k_Mo_there 4 [some (zR a0), some (zI x1), some (zI x2), some (zI x3)] [] (n, K, mr, mi) Q := by
  subst h_3
  exact zX.n rfl (zX.n rfl (zX.g rfl h_1 (zX.g rfl h_4 (zX.n rfl (zX.ite p_5 p_6)))))
theorem s_Mo_there_15 {a0 : Nat} {x1 : Int} {x2 : Int} {x3 : Int} (h_1 : K a0 = (6, 13)) (k_2 : zCall c k_Mo_there 19 22 [some (zR a0), some (zI x1), some (zI x2), some (zI x3)] [zI x2] 0 k_Mo_at [zR a0, zI x1, zI x3] (n, K, mr, mi) Q) : zX c k_Mo_there 15 [some (zR a0), some (zI x1), some (zI x2), some (zI x3)] [] (n, K, mr, mi) Q := 
  zX.n rfl (zX.n rfl (zX.n rfl (zX.n rfl (zX.callQ rfl (congrArg Prod.fst h_1) trivial k_2))))
theorem s_Mo_there_22 {a0 : Nat} {x1 : Int} {w2 : Option zV} {x3 : Int} {sx0 : Int} {sx1 : Int} (p_1 : sx1 = ((-2)) → zX c k_Mo_there 31 [some (zR a0), some (zI x1), w2, some (zI x3)] [zI sx0] (n, K, mr, mi) Q) (p_2 : ¬ sx1 = ((-2)) → zX c k_Mo_there 27 [some (zR a0), some (zI x1), w2, some (zI x3)] [zI sx0] (n, K, mr, mi) Q) : zX c k_Mo_there 22 [some (zR a0), some (zI x1), w2, some (zI x3)] [zI sx1, zI sx0] (n, K, mr, mi) Q := 
  zX.n rfl (zX.n rfl (zX.ite p_1 p_2))
theorem s_Mo_there_27 {a0 : Nat} {x1 : Int} {w2 : Option zV} {x3 : Int} {sx0 : Int} (p_1 : zX c k_Mo_there 32 [some (zR a0), some (zI x1), w2, some (zI x3)] [zI 1, zI sx0] (n, K, mr, mi) Q) : zX c k_Mo_there 27 [some (zR a0), some (zI x1), w2, some (zI x3)] [zI sx0] (n, K, mr, mi) Q := 
  zX.n rfl (zX.n rfl p_1)
theorem s_Mo_there_31 {a0 : Nat} {x1 : Int} {w2 : Option zV} {x3 : Int} {sx0 : Int} (p_1 : zX c k_Mo_there 32 [some (zR a0), some (zI x1), w2, some (zI x3)] [zI 0, zI sx0] (n, K, mr, mi) Q) : zX c k_Mo_there 31 [some (zR a0), some (zI x1), w2, some (zI x3)] [zI sx0] (n, K, mr, mi) Q := 
  zX.n rfl p_1
theorem s_Mo_there_32 {a0 : Nat} {x1 : Int} {w2 : Option zV} {x3 : Int} {sx0 : Int} {sx1 : Int} (p_1 : zX c k_Mo_there 4 [some (zR a0), some (zI x1), some (zI (zw (sx0 + sx1))), some (zI (zw (x3 + 1)))] [] (n, K, mr, mi) Q) : zX c k_Mo_there 32 [some (zR a0), some (zI x1), w2, some (zI x3)] [zI sx1, zI sx0] (n, K, mr, mi) Q := 
  zX.n rfl (zX.n rfl (zX.n rfl (zX.n rfl p_1)))
theorem s_Mo_there_40 {w0 : Option zV} {w1 : Option zV} {x2 : Int} {w3 : Option zV} (p_1 : Q (.inl (some (zI x2))) (n, K, mr, mi)) : zX c k_Mo_there 40 [w0, w1, some (zI x2), w3] [] (n, K, mr, mi) Q := 
  zX.n rfl (zX.ret rfl trivial p_1)
theorem s_Mo_used_0 {a0 : Nat} {x1 : Int} {x2 : Int} {A2 : Nat} {N4 : Nat} {j8 : Nat} (h_1 : K a0 = (6, 13)) (h_3 : mr a0 8 = A2) (h_5 : K A2 = (100, N4)) (h_6 : 0 ≤ (zw ((zw (7 * x1)) + x2))) (h_7 : (zw ((zw (7 * x1)) + x2)) < (N4 : Int)) (h_9 : Int.toNat (zw ((zw (7 * x1)) + x2)) = j8) (p_10 : Q (.inl (some (zI (mi A2 j8)))) (n, K, mr, mi)) : zX c k_Mo_used 0 [some (zR a0), some (zI x1), some (zI x2)] [] (n, K, mr, mi) Q := by
  subst h_3
  subst h_9
  exact zX.n rfl (zX.g rfl h_1 (zX.n rfl (zX.n rfl (zX.n rfl (zX.n rfl (zX.n rfl (zX.g rfl ⟨N4, h_5, h_6, h_7⟩ (zX.ret rfl trivial p_10))))))))
theorem s_Mo_isShared_0 {a0 : Nat} {x1 : Int} {x2 : Int} (h_1 : K a0 = (6, 13)) (k_2 : zCall c k_Mo_isShared 3 6 [some (zR a0), some (zI x1), some (zI x2)] [] 0 k_Mo_used [zR a0, zI x1, zI x2] (n, K, mr, mi) Q) : zX c k_Mo_isShared 0 [some (zR a0), some (zI x1), some (zI x2)] [] (n, K, mr, mi) Q := 
  zX.n rfl (zX.n rfl (zX.n rfl (zX.callQ rfl (congrArg Prod.fst h_1) trivial k_2)))
theorem s_Mo_isShared_6 {a0 : Nat} {x1 : Int} {x2 : Int} {sx0 : Int} (p_1 : sx0 = ((-2)) → zX c k_Mo_isShared 33 [some (zR a0), some (zI x1), some (zI x2)] [] (n, K, mr, mi) Q) (p_2 : ¬ sx0 = ((-2)) → zX c k_Mo_isShared 11 [some (zR a0), some (zI x1), some (zI x2)] [] (n, K, mr, mi) Q) : zX c k_Mo_isShared 6 [some (zR a0), some (zI x1), some (zI x2)] [zI sx0] (n, K, mr, mi) Q := 
  zX.n rfl (zX.n rfl (zX.ite p_1 p_2))
theorem s_Mo_isShared_11 {a0 : Nat} {x1 : Int} {x2 : Int} {A2 : Nat} (h_1 : K a0 = (6, 13)) (h_3 : mr a0 2 = A2) (k_4 : zCall c k_Mo_isShared 18 21 [some (zR a0), some (zI x1), some (zI x2)] [zR A2] 0 k_Mo_used [zR a0, zI x1, zI x2] (n, K, mr, mi) Q) : zX c k_Mo_isShared 11 [some (zR a0), some (zI x1), some (zI x2)] [] (n, K, mr, mi) Q := by
  subst h_3
  exact zX.n rfl (zX.g rfl h_1 (zX.n rfl (zX.n rfl (zX.n rfl (zX.callQ rfl (congrArg Prod.fst h_1) trivial k_4)))))
theorem s_Mo_isShared_21 {w0 : Option zV} {w1 : Option zV} {x2 : Int} {sa0 : Nat} {sx1 : Int} {N1 : Nat} {j5 : Nat} {A7 : Nat} (h_2 : K sa0 = (108, N1)) (h_3 : 0 ≤ sx1) (h_4 : sx1 < (N1 : Int)) (h_6 : Int.toNat sx1 = j5) (h_8 : mr sa0 j5 = A7) (h_9 : K A7 = (14, 7)) (p_10 : (mi A7 0) = x2 → zX c k_Mo_isShared 33 [w0, w1, some (zI x2)] [] (n, K, mr, mi) Q) (p_11 : ¬ (mi A7 0) = x2 → zX c k_Mo_isShared 29 [w0, w1, some (zI x2)] [] (n, K, mr, mi) Q) : zX c k_Mo_isShared 21 [w0, w1, some (zI x2)] [zI sx1, zR sa0] (n, K, mr, mi) Q := by
  subst h_6
  subst h_8
  exact zX.g rfl ⟨N1, h_2, h_3, h_4⟩ (zX.g rfl h_9 (zX.n rfl (zX.n rfl (zX.ite p_10 p_11))))
theorem s_Mo_isShared_29 {w0 : Option zV} {w1 : Option zV} {w2 : Option zV} (p_1 : zX c k_Mo_isShared 34 [w0, w1, w2] [zI 1] (n, K, mr, mi) Q) : zX c k_Mo_isShared 29 [w0, w1, w2] [] (n, K, mr, mi) Q := 
  zX.n rfl (zX.n rfl p_1)
theorem s_Mo_isShared_33 {w0 : Option zV} {w1 : Option zV} {w2 : Option zV} (p_1 : zX c k_Mo_isShared 34 [w0, w1, w2] [zI 0] (n, K, mr, mi) Q) : zX c k_Mo_isShared 33 [w0, w1, w2] [] (n, K, mr, mi) Q := 
  zX.n rfl p_1
theorem s_Mo_isShared_34 {w0 : Option zV} {w1 : Option zV} {w2 : Option zV} {sx0 : Int} (h_1 : sx0 = 0 ∨ sx0 = 1) (p_2 : Q (.inl (some (zI sx0))) (n, K, mr, mi)) : zX c k_Mo_isShared 34 [w0, w1, w2] [zI sx0] (n, K, mr, mi) Q := 
  zX.ret rfl h_1 p_2
theorem s_Mo_shared_0 {a0 : Nat} {x1 : Int} {w2 : Option zV} {w3 : Option zV} (p_1 : zX c k_Mo_shared 4 [some (zR a0), some (zI x1), some (zI 0), some (zI 0)] [] (n, K, mr, mi) Q) : zX c k_Mo_shared 0 [some (zR a0), some (zI x1), w2, w3] [] (n, K, mr, mi) Q := 
  zX.n rfl (zX.n rfl (zX.n rfl (zX.n rfl p_1)))
theorem s_Mo_shared_4 {a0 : Nat} {x1 : Int} {x2 : Int} {x3 : Int} {A2 : Nat} (h_1 : K a0 = (6, 13)) (h_3 : mr a0 9 = A2) (h_4 : K A2 = (18, 12)) (p_5 : (mi A2 8) ≤ x3 → zX c k_Mo_shared 38 [some (zR a0), some (zI x1), some (zI x2), some (zI x3)] [] (n, K, mr, mi) Q) (p_6 : ¬ (mi A2 8) ≤ x3 → zX c k_Mo_shared 15 [some (zR a0), some (zI x1), some (zI x2), some (zI x3)] [] (n, K, mr, mi) Q) : zX c k_Mo_shared 4 [some (zR a0), some (zI x1), some (zI x2), some (zI x3)] [] (n, K, mr, mi) Q := by
  subst h_3
  exact zX.n rfl (zX.n rfl (zX.g rfl h_1 (zX.g rfl h_4 (zX.n rfl (zX.ite p_5 p_6)))))
theorem s_Mo_shared_15 {a0 : Nat} {x1 : Int} {x2 : Int} {x3 : Int} (h_1 : K a0 = (6, 13)) (k_2 : zCall c k_Mo_shared 19 22 [some (zR a0), some (zI x1), some (zI x2), some (zI x3)] [zI x2] 0 k_Mo_isShared [zR a0, zI x1, zI x3] (n, K, mr, mi) Q) : zX c k_Mo_shared 15 [some (zR a0), some (zI x1), some (zI x2), some (zI x3)] [] (n, K, mr, mi) Q := 
  zX.n rfl (zX.n rfl (zX.n rfl (zX.n rfl (zX.callQ rfl (congrArg Prod.fst h_1) trivial k_2))))
theorem s_Mo_shared_22 {a0 : Nat} {x1 : Int} {w2 : Option zV} {x3 : Int} {sx0 : Int} {sx1 : Int} (p_1 : sx1 = 0 → zX c k_Mo_shared 29 [some (zR a0), some (zI x1), w2, some (zI x3)] [zI sx0] (n, K, mr, mi) Q) (p_2 : ¬ sx1 = 0 → zX c k_Mo_shared 25 [some (zR a0), some (zI x1), w2, some (zI x3)] [zI sx0] (n, K, mr, mi) Q) : zX c k_Mo_shared 22 [some (zR a0), some (zI x1), w2, some (zI x3)] [zI sx1, zI sx0] (n, K, mr, mi) Q := 
  zX.n rfl (zX.ite p_1 p_2)
theorem s_Mo_shared_25 {a0 : Nat} {x1 : Int} {w2 : Option zV} {x3 : Int} {sx0 : Int} (p_1 : zX c k_Mo_shared 30 [some (zR a0), some (zI x1), w2, some (zI x3)] [zI 1, zI sx0] (n, K, mr, mi) Q) : zX c k_Mo_shared 25 [some (zR a0), some (zI x1), w2, some (zI x3)] [zI sx0] (n, K, mr, mi) Q := 
  zX.n rfl (zX.n rfl p_1)
theorem s_Mo_shared_29 {a0 : Nat} {x1 : Int} {w2 : Option zV} {x3 : Int} {sx0 : Int} (p_1 : zX c k_Mo_shared 30 [some (zR a0), some (zI x1), w2, some (zI x3)] [zI 0, zI sx0] (n, K, mr, mi) Q) : zX c k_Mo_shared 29 [some (zR a0), some (zI x1), w2, some (zI x3)] [zI sx0] (n, K, mr, mi) Q := 
  zX.n rfl p_1
theorem s_Mo_shared_30 {a0 : Nat} {x1 : Int} {w2 : Option zV} {x3 : Int} {sx0 : Int} {sx1 : Int} (p_1 : zX c k_Mo_shared 4 [some (zR a0), some (zI x1), some (zI (zw (sx0 + sx1))), some (zI (zw (x3 + 1)))] [] (n, K, mr, mi) Q) : zX c k_Mo_shared 30 [some (zR a0), some (zI x1), w2, some (zI x3)] [zI sx1, zI sx0] (n, K, mr, mi) Q := 
  zX.n rfl (zX.n rfl (zX.n rfl (zX.n rfl p_1)))
theorem s_Mo_shared_38 {w0 : Option zV} {w1 : Option zV} {x2 : Int} {w3 : Option zV} (p_1 : Q (.inl (some (zI x2))) (n, K, mr, mi)) : zX c k_Mo_shared 38 [w0, w1, some (zI x2), w3] [] (n, K, mr, mi) Q := 
  zX.n rfl (zX.ret rfl trivial p_1)
theorem s_Mo_sharedAll_0 {a0 : Nat} {w1 : Option zV} {w2 : Option zV} (p_1 : zX c k_Mo_sharedAll 4 [some (zR a0), some (zI 0), some (zI 0)] [] (n, K, mr, mi) Q) : zX c k_Mo_sharedAll 0 [some (zR a0), w1, w2] [] (n, K, mr, mi) Q := 
  zX.n rfl (zX.n rfl (zX.n rfl (zX.n rfl p_1)))
theorem s_Mo_sharedAll_4 {a0 : Nat} {x1 : Int} {x2 : Int} {A2 : Nat} (h_1 : K a0 = (6, 13)) (h_3 : mr a0 9 = A2) (h_4 : K A2 = (18, 12)) (p_5 : (mi A2 4) ≤ x2 → zX c k_Mo_sharedAll 29 [some (zR a0), some (zI x1), some (zI x2)] [] (n, K, mr, mi) Q) (p_6 : ¬ (mi A2 4) ≤ x2 → zX c k_Mo_sharedAll 15 [some (zR a0), some (zI x1), some (zI x2)] [] (n, K, mr, mi) Q) : zX c k_Mo_sharedAll 4 [some (zR a0), some (zI x1), some (zI x2)] [] (n, K, mr, mi) Q := by
  subst h_3
  exact zX.n rfl (zX.n rfl (zX.g rfl h_1 (zX.g rfl h_4 (zX.n rfl (zX.ite p_5 p_6)))))
theorem s_Mo_sharedAll_15 {a0 : Nat} {x1 : Int} {x2 : Int} (h_1 : K a0 = (6, 13)) (k_2 : zCall c k_Mo_sharedAll 18 21 [some (zR a0), some (zI x1), some (zI x2)] [zI x1] 0 k_Mo_shared [zR a0, zI x2] (n, K, mr, mi) Q) : zX c k_Mo_sharedAll 15 [some (zR a0), some (zI x1), some (zI x2)] [] (n, K, mr, mi) Q := 
  zX.n rfl (zX.n rfl (zX.n rfl (zX.callQ rfl (congrArg Prod.fst h_1) trivial k_2)))
theorem s_Mo_sharedAll_21 {a0 : Nat} {w1 : Option zV} {x2 : Int} {sx0 : Int} {sx1 : Int} (p_1 : zX c k_Mo_sharedAll 4 [some (zR a0), some (zI (zw (sx0 + sx1))), some (zI (zw (x2 + 1)))] [] (n, K, mr, mi) Q) : zX c k_Mo_sharedAll 21 [some (zR a0), w1, some (zI x2)] [zI sx1, zI sx0] (n, K, mr, mi) Q := 
  zX.n rfl (zX.n rfl (zX.n rfl (zX.n rfl p_1)))
theorem s_Mo_sharedAll_29 {w0 : Option zV} {x1 : Int} {w2 : Option zV} (p_1 : Q (.inl (some (zI x1))) (n, K, mr, mi)) : zX c k_Mo_sharedAll 29 [w0, some (zI x1), w2] [] (n, K, mr, mi) Q := 
  zX.n rfl (zX.ret rfl trivial p_1)
theorem s_Mo_ofColour_0 {a0 : Nat} {x1 : Int} {x2 : Int} {w3 : Option zV} {w4 : Option zV} (p_1 : zX c k_Mo_ofColour 5 [some (zR a0), some (zI x1), some (zI x2), some (zI 0), some (zI 0)] [] (n, K, mr, mi) Q) : zX c k_Mo_ofColour 0 [some (zR a0), some (zI x1), some (zI x2), w3, w4] [] (n, K, mr, mi) Q := 
  zX.n rfl (zX.n rfl (zX.n rfl (zX.n rfl p_1)))
theorem s_Mo_ofColour_5 {a0 : Nat} {x1 : Int} {x2 : Int} {x3 : Int} {x4 : Int} {A2 : Nat} (h_1 : K a0 = (6, 13)) (h_3 : mr a0 9 = A2) (h_4 : K A2 = (18, 12)) (p_5 : (mi A2 5) ≤ x4 → zX c k_Mo_ofColour 42 [some (zR a0), some (zI x1), some (zI x2), some (zI x3), some (zI x4)] [] (n, K, mr, mi) Q) (p_6 : ¬ (mi A2 5) ≤ x4 → zX c k_Mo_ofColour 17 [some (zR a0), some (zI x1), some (zI x2), some (zI x3), some (zI x4)] [] (n, K, mr, mi) Q) : zX c k_Mo_ofColour 5 [some (zR a0), some (zI x1), some (zI x2), some (zI x3), some (zI x4)] [] (n, K, mr, mi) Q := by
  subst h_3
  exact zX.n rfl (zX.n rfl (zX.g rfl h_1 (zX.g rfl h_4 (zX.n rfl (zX.ite p_5 p_6)))))
theorem s_Mo_ofColour_17 {a0 : Nat} {x1 : Int} {x2 : Int} {x3 : Int} {x4 : Int} (h_1 : K a0 = (6, 13)) (k_2 : zCall c k_Mo_ofColour 22 25 [some (zR a0), some (zI x1), some (zI x2), some (zI x3), some (zI x4)] [zI x3] 0 k_Mo_colour [zR a0, zI x1, zI x4] (n, K, mr, mi) Q) : zX c k_Mo_ofColour 17 [some (zR a0), some (zI x1), some (zI x2), some (zI x3), some (zI x4)] [] (n, K, mr, mi) Q := 
  zX.n rfl (zX.n rfl (zX.n rfl (zX.n rfl (zX.callQ rfl (congrArg Prod.fst h_1) trivial k_2))))
theorem s_Mo_ofColour_25 {a0 : Nat} {x1 : Int} {x2 : Int} {w3 : Option zV} {x4 : Int} {sx0 : Int} {sx1 : Int} (p_1 : ¬ sx1 = x2 → zX c k_Mo_ofColour 33 [some (zR a0), some (zI x1), some (zI x2), w3, some (zI x4)] [zI sx0] (n, K, mr, mi) Q) (p_2 : sx1 = x2 → zX c k_Mo_ofColour 29 [some (zR a0), some (zI x1), some (zI x2), w3, some (zI x4)] [zI sx0] (n, K, mr, mi) Q) : zX c k_Mo_ofColour 25 [some (zR a0), some (zI x1), some (zI x2), w3, some (zI x4)] [zI sx1, zI sx0] (n, K, mr, mi) Q := 
  zX.n rfl (zX.n rfl (zX.itn p_1 p_2))
theorem s_Mo_ofColour_29 {a0 : Nat} {x1 : Int} {x2 : Int} {w3 : Option zV} {x4 : Int} {sx0 : Int} (p_1 : zX c k_Mo_ofColour 34 [some (zR a0), some (zI x1), some (zI x2), w3, some (zI x4)] [zI 1, zI sx0] (n, K, mr, mi) Q) : zX c k_Mo_ofColour 29 [some (zR a0), some (zI x1), some (zI x2), w3, some (zI x4)] [zI sx0] (n, K, mr, mi) Q := 
  zX.n rfl (zX.n rfl p_1)
theorem s_Mo_ofColour_33 {a0 : Nat} {x1 : Int} {x2 : Int} {w3 : Option zV} {x4 : Int} {sx0 : Int} (p_1 : zX c k_Mo_ofColour 34 [some (zR a0), some (zI x1), some (zI x2), w3, some (zI x4)] [zI 0, zI sx0] (n, K, mr, mi) Q) : zX c k_Mo_ofColour 33 [some (zR a0), some (zI x1), some (zI x2), w3, some (zI x4)] [zI sx0] (n, K, mr, mi) Q := 
  zX.n rfl p_1
theorem s_Mo_ofColour_34 {a0 : Nat} {x1 : Int} {x2 : Int} {w3 : Option zV} {x4 : Int} {sx0 : Int} {sx1 : Int} (p_1 : zX c k_Mo_ofColour 5 [some (zR a0), some (zI x1), some (zI x2), some (zI (zw (sx0 + sx1))), some (zI (zw (x4 + 1)))] [] (n, K, mr, mi) Q) : zX c k_Mo_ofColour 34 [some (zR a0), some (zI x1), some (zI x2), w3, some (zI x4)] [zI sx1, zI sx0] (n, K, mr, mi) Q := 
  zX.n rfl (zX.n rfl (zX.n rfl (zX.n rfl p_1)))
theorem s_Mo_ofColour_42 {w0 : Option zV} {w1 : Option zV} {w2 : Option zV} {x3 : Int} {w4 : Option zV} (p_1 : Q (.inl (some (zI x3))) (n, K, mr, mi)) : zX c k_Mo_ofColour 42 [w0, w1, w2, some (zI x3), w4] [] (n, K, mr, mi) Q := 
  zX.n rfl (zX.ret rfl trivial p_1)
theorem s_Mo_alike_0 {a0 : Nat} {x1 : Int} {w2 : Option zV} {w3 : Option zV} (p_1 : zX c k_Mo_alike 4 [some (zR a0), some (zI x1), some (zI 0), some (zI 0)] [] (n, K, mr, mi) Q) : zX c k_Mo_alike 0 [some (zR a0), some (zI x1), w2, w3] [] (n, K, mr, mi) Q := 
  zX.n rfl (zX.n rfl (zX.n rfl (zX.n rfl p_1)))
theorem s_Mo_alike_4 {a0 : Nat} {x1 : Int} {x2 : Int} {x3 : Int} (p_1 : (6 : Int) ≤ x3 → zX c k_Mo_alike 36 [some (zR a0), some (zI x1), some (zI x2), some (zI x3)] [] (n, K, mr, mi) Q) (p_2 : ¬ (6 : Int) ≤ x3 → zX c k_Mo_alike 10 [some (zR a0), some (zI x1), some (zI x2), some (zI x3)] [] (n, K, mr, mi) Q) : zX c k_Mo_alike 4 [some (zR a0), some (zI x1), some (zI x2), some (zI x3)] [] (n, K, mr, mi) Q := 
  zX.n rfl (zX.n rfl (zX.n rfl (zX.ite p_1 p_2)))
theorem s_Mo_alike_10 {a0 : Nat} {x1 : Int} {x2 : Int} {x3 : Int} (h_1 : K a0 = (6, 13)) (k_2 : zCall c k_Mo_alike 14 17 [some (zR a0), some (zI x1), some (zI x2), some (zI x3)] [zI x2] 0 k_Mo_ofColour [zR a0, zI x1, zI x3] (n, K, mr, mi) Q) : zX c k_Mo_alike 10 [some (zR a0), some (zI x1), some (zI x2), some (zI x3)] [] (n, K, mr, mi) Q := 
  zX.n rfl (zX.n rfl (zX.n rfl (zX.n rfl (zX.callQ rfl (congrArg Prod.fst h_1) trivial k_2))))
theorem s_Mo_alike_17 {a0 : Nat} {x1 : Int} {w2 : Option zV} {x3 : Int} {sx0 : Int} {sx1 : Int} (h_1 : K a0 = (6, 13)) (k_2 : zCall c k_Mo_alike 20 23 [some (zR a0), some (zI x1), w2, some (zI x3)] [zI sx1, zI sx0] 0 k_Mo_ofColour [zR a0, zI x1, zI x3] (n, K, mr, mi) Q) : zX c k_Mo_alike 17 [some (zR a0), some (zI x1), w2, some (zI x3)] [zI sx1, zI sx0] (n, K, mr, mi) Q := 
  zX.n rfl (zX.n rfl (zX.n rfl (zX.callQ rfl (congrArg Prod.fst h_1) trivial k_2)))
theorem s_Mo_alike_23 {a0 : Nat} {x1 : Int} {w2 : Option zV} {x3 : Int} {sx0 : Int} {sx1 : Int} {sx2 : Int} (p_1 : zX c k_Mo_alike 4 [some (zR a0), some (zI x1), some (zI (zw (sx0 + (zdiv (zw (sx1 * (zw (sx2 - 1)))) 2)))), some (zI (zw (x3 + 1)))] [] (n, K, mr, mi) Q) : zX c k_Mo_alike 23 [some (zR a0), some (zI x1), w2, some (zI x3)] [zI sx2, zI sx1, zI sx0] (n, K, mr, mi) Q := 
  zX.n rfl (zX.n rfl (zX.n rfl (zX.n rfl (zX.g rfl (by decide) (zX.n rfl (zX.n rfl (zX.n rfl (zX.n rfl p_1))))))))
theorem s_Mo_alike_36 {w0 : Option zV} {w1 : Option zV} {x2 : Int} {w3 : Option zV} (p_1 : Q (.inl (some (zI x2))) (n, K, mr, mi)) : zX c k_Mo_alike 36 [w0, w1, some (zI x2), w3] [] (n, K, mr, mi) Q := 
  zX.n rfl (zX.ret rfl trivial p_1)
theorem s_Mo_alikeDays_0 {a0 : Nat} {w1 : Option zV} {w2 : Option zV} (p_1 : zX c k_Mo_alikeDays 4 [some (zR a0), some (zI 0), some (zI 0)] [] (n, K, mr, mi) Q) : zX c k_Mo_alikeDays 0 [some (zR a0), w1, w2] [] (n, K, mr, mi) Q := 
  zX.n rfl (zX.n rfl (zX.n rfl (zX.n rfl p_1)))
theorem s_Mo_alikeDays_4 {a0 : Nat} {x1 : Int} {x2 : Int} {A2 : Nat} (h_1 : K a0 = (6, 13)) (h_3 : mr a0 9 = A2) (h_4 : K A2 = (18, 12)) (p_5 : (mi A2 4) ≤ x2 → zX c k_Mo_alikeDays 37 [some (zR a0), some (zI x1), some (zI x2)] [] (n, K, mr, mi) Q) (p_6 : ¬ (mi A2 4) ≤ x2 → zX c k_Mo_alikeDays 15 [some (zR a0), some (zI x1), some (zI x2)] [] (n, K, mr, mi) Q) : zX c k_Mo_alikeDays 4 [some (zR a0), some (zI x1), some (zI x2)] [] (n, K, mr, mi) Q := by
  subst h_3
  exact zX.n rfl (zX.n rfl (zX.g rfl h_1 (zX.g rfl h_4 (zX.n rfl (zX.ite p_5 p_6)))))
theorem s_Mo_alikeDays_15 {a0 : Nat} {x1 : Int} {x2 : Int} (h_1 : K a0 = (6, 13)) (k_2 : zCall c k_Mo_alikeDays 18 21 [some (zR a0), some (zI x1), some (zI x2)] [zI x1] 0 k_Mo_alike [zR a0, zI x2] (n, K, mr, mi) Q) : zX c k_Mo_alikeDays 15 [some (zR a0), some (zI x1), some (zI x2)] [] (n, K, mr, mi) Q := 
  zX.n rfl (zX.n rfl (zX.n rfl (zX.callQ rfl (congrArg Prod.fst h_1) trivial k_2)))
theorem s_Mo_alikeDays_21 {a0 : Nat} {w1 : Option zV} {x2 : Int} {sx0 : Int} {sx1 : Int} (p_1 : sx1 ≤ 0 → zX c k_Mo_alikeDays 28 [some (zR a0), w1, some (zI x2)] [zI sx0] (n, K, mr, mi) Q) (p_2 : ¬ sx1 ≤ 0 → zX c k_Mo_alikeDays 24 [some (zR a0), w1, some (zI x2)] [zI sx0] (n, K, mr, mi) Q) : zX c k_Mo_alikeDays 21 [some (zR a0), w1, some (zI x2)] [zI sx1, zI sx0] (n, K, mr, mi) Q := 
  zX.n rfl (zX.ite p_1 p_2)
theorem s_Mo_alikeDays_24 {a0 : Nat} {w1 : Option zV} {x2 : Int} {sx0 : Int} (p_1 : zX c k_Mo_alikeDays 29 [some (zR a0), w1, some (zI x2)] [zI 1, zI sx0] (n, K, mr, mi) Q) : zX c k_Mo_alikeDays 24 [some (zR a0), w1, some (zI x2)] [zI sx0] (n, K, mr, mi) Q := 
  zX.n rfl (zX.n rfl p_1)
theorem s_Mo_alikeDays_28 {a0 : Nat} {w1 : Option zV} {x2 : Int} {sx0 : Int} (p_1 : zX c k_Mo_alikeDays 29 [some (zR a0), w1, some (zI x2)] [zI 0, zI sx0] (n, K, mr, mi) Q) : zX c k_Mo_alikeDays 28 [some (zR a0), w1, some (zI x2)] [zI sx0] (n, K, mr, mi) Q := 
  zX.n rfl p_1
theorem s_Mo_alikeDays_29 {a0 : Nat} {w1 : Option zV} {x2 : Int} {sx0 : Int} {sx1 : Int} (p_1 : zX c k_Mo_alikeDays 4 [some (zR a0), some (zI (zw (sx0 + sx1))), some (zI (zw (x2 + 1)))] [] (n, K, mr, mi) Q) : zX c k_Mo_alikeDays 29 [some (zR a0), w1, some (zI x2)] [zI sx1, zI sx0] (n, K, mr, mi) Q := 
  zX.n rfl (zX.n rfl (zX.n rfl (zX.n rfl p_1)))
theorem s_Mo_alikeDays_37 {w0 : Option zV} {x1 : Int} {w2 : Option zV} (p_1 : Q (.inl (some (zI x1))) (n, K, mr, mi)) : zX c k_Mo_alikeDays 37 [w0, some (zI x1), w2] [] (n, K, mr, mi) Q := 
  zX.n rfl (zX.ret rfl trivial p_1)
theorem s_Mv_become_0 {a0 : Nat} {a1 : Nat} (h_1 : K a1 = (1, 3)) (h_2 : K a0 = (1, 3)) (k_3 : zCall c k_Mv_become 13 16 [some (zR a0), some (zR a1)] [] 0 k_Mv_be [zR a0, zI (mi a1 0), zI (mi a1 1), zI (mi a1 2)] (n, K, mr, mi) Q) : zX c k_Mv_become 0 [some (zR a0), some (zR a1)] [] (n, K, mr, mi) Q := 
  zX.n rfl (zX.n rfl (zX.g rfl h_1 (zX.n rfl (zX.g rfl h_1 (zX.n rfl (zX.g rfl h_1 (zX.callQ rfl (congrArg Prod.fst h_2) trivial k_3)))))))
theorem s_Mv_become_16 {w0 : Option zV} {w1 : Option zV} (p_1 : Q (.inl none) (n, K, mr, mi)) : zX c k_Mv_become 16 [w0, w1] [] (n, K, mr, mi) Q := 
  zX.ret rfl trivial p_1
theorem s_Pl_become_0 {a0 : Nat} {a1 : Nat} {w2 : Option zV} {A4 : Nat} {A6 : Nat} {N10 : Nat} {N11 : Nat} {A16 : Nat} {A18 : Nat} {N22 : Nat} {N23 : Nat} {A28 : Nat} {A30 : Nat} {N34 : Nat} {N35 : Nat} (h_1 : K a1 = (5, 6)) (h_2 : K a0 = (5, 6)) (h_3 : 64 ≤ a0) (h_5 : mr a1 0 = A4) (h_7 : mr a0 0 = A6) (h_8 : 64 ≤ A4) (h_9 : 64 ≤ A6) (h_12 : K A4 = (100, N10)) (h_13 : K A6 = (100, N11)) (h_14 : A4 ≠ A6) (h_15 : (0 : Int) ≤ 0 ∧ (0 : Int) ≤ 0 ∧ (0 : Int) ≤ 7 ∧ 0 + 7 ≤ (N10 : Int) ∧ 0 + 7 ≤ (N11 : Int)) (h_17 : mr a1 1 = A16) (h_19 : mr a0 1 = A18) (h_20 : 64 ≤ A16) (h_21 : 64 ≤ A18) (h_24 : K A16 = (100, N22)) (h_25 : K A18 = (100, N23)) (h_26 : A16 ≠ A18) (h_27 : (0 : Int) ≤ 0 ∧ (0 : Int) ≤ 0 ∧ (0 : Int) ≤ 7 ∧ 0 + 7 ≤ (N22 : Int) ∧ 0 + 7 ≤ (N23 : Int)) (h_29 : mr a1 2 = A28) (h_31 : mr a0 2 = A30) (h_32 : 64 ≤ A28) (h_33 : 64 ≤ A30) (h_36 : K A28 = (100, N34)) (h_37 : K A30 = (100, N35)) (h_38 : A28 ≠ A30) (h_39 : (0 : Int) ≤ 0 ∧ (0 : Int) ≤ 0 ∧ (0 : Int) ≤ 7 ∧ 0 + 7 ≤ (N34 : Int) ∧ 0 + 7 ≤ (N35 : Int)) (p_40 : zX c k_Pl_become 63 [some (zR a0), some (zR a1), some (zI 0)] [] (n, K, mr, zup (zup (zup (zst (zst mi a0 4 (mi a1 4)) a0 5 ((zst mi a0 4 (mi a1 4)) a1 5)) A6 (fun j => if Int.toNat 0 ≤ j ∧ j < Int.toNat 0 + Int.toNat 7 then (zst (zst mi a0 4 (mi a1 4)) a0 5 ((zst mi a0 4 (mi a1 4)) a1 5)) A4 (Int.toNat 0 + (j - Int.toNat 0)) else (zst (zst mi a0 4 (mi a1 4)) a0 5 ((zst mi a0 4 (mi a1 4)) a1 5)) A6 j)) A18 (fun j => if Int.toNat 0 ≤ j ∧ j < Int.toNat 0 + Int.toNat 7 then (zup (zst (zst mi a0 4 (mi a1 4)) a0 5 ((zst mi a0 4 (mi a1 4)) a1 5)) A6 (fun j => if Int.toNat 0 ≤ j ∧ j < Int.toNat 0 + Int.toNat 7 then (zst (zst mi a0 4 (mi a1 4)) a0 5 ((zst mi a0 4 (mi a1 4)) a1 5)) A4 (Int.toNat 0 + (j - Int.toNat 0)) else (zst (zst mi a0 4 (mi a1 4)) a0 5 ((zst mi a0 4 (mi a1 4)) a1 5)) A6 j)) A16 (Int.toNat 0 + (j - Int.toNat 0)) else (zup (zst (zst mi a0 4 (mi a1 4)) a0 5 ((zst mi a0 4 (mi a1 4)) a1 5)) A6 (fun j => if Int.toNat 0 ≤ j ∧ j < Int.toNat 0 + Int.toNat 7 then (zst (zst mi a0 4 (mi a1 4)) a0 5 ((zst mi a0 4 (mi a1 4)) a1 5)) A4 (Int.toNat 0 + (j - Int.toNat 0)) else (zst (zst mi a0 4 (mi a1 4)) a0 5 ((zst mi a0 4 (mi a1 4)) a1 5)) A6 j)) A18 j)) A30 (fun j => if Int.toNat 0 ≤ j ∧ j < Int.toNat 0 + Int.toNat 7 then (zup (zup (zst (zst mi a0 4 (mi a1 4)) a0 5 ((zst mi a0 4 (mi a1 4)) a1 5)) A6 (fun j => if Int.toNat 0 ≤ j ∧ j < Int.toNat 0 + Int.toNat 7 then (zst (zst mi a0 4 (mi a1 4)) a0 5 ((zst mi a0 4 (mi a1 4)) a1 5)) A4 (Int.toNat 0 + (j - Int.toNat 0)) else (zst (zst mi a0 4 (mi a1 4)) a0 5 ((zst mi a0 4 (mi a1 4)) a1 5)) A6 j)) A18 (fun j => if Int.toNat 0 ≤ j ∧ j < Int.toNat 0 + Int.toNat 7 then (zup (zst (zst mi a0 4 (mi a1 4)) a0 5 ((zst mi a0 4 (mi a1 4)) a1 5)) A6 (fun j => if Int.toNat 0 ≤ j ∧ j < Int.toNat 0 + Int.toNat 7 then (zst (zst mi a0 4 (mi a1 4)) a0 5 ((zst mi a0 4 (mi a1 4)) a1 5)) A4 (Int.toNat 0 + (j - Int.toNat 0)) else (zst (zst mi a0 4 (mi a1 4)) a0 5 ((zst mi a0 4 (mi a1 4)) a1 5)) A6 j)) A16 (Int.toNat 0 + (j - Int.toNat 0)) else (zup (zst (zst mi a0 4 (mi a1 4)) a0 5 ((zst mi a0 4 (mi a1 4)) a1 5)) A6 (fun j => if Int.toNat 0 ≤ j ∧ j < Int.toNat 0 + Int.toNat 7 then (zst (zst mi a0 4 (mi a1 4)) a0 5 ((zst mi a0 4 (mi a1 4)) a1 5)) A4 (Int.toNat 0 + (j - Int.toNat 0)) else (zst (zst mi a0 4 (mi a1 4)) a0 5 ((zst mi a0 4 (mi a1 4)) a1 5)) A6 j)) A18 j)) A28 (Int.toNat 0 + (j - Int.toNat 0)) else (zup (zup (zst (zst mi a0 4 (mi a1 4)) a0 5 ((zst mi a0 4 (mi a1 4)) a1 5)) A6 (fun j => if Int.toNat 0 ≤ j ∧ j < Int.toNat 0 + Int.toNat 7 then (zst (zst mi a0 4 (mi a1 4)) a0 5 ((zst mi a0 4 (mi a1 4)) a1 5)) A4 (Int.toNat 0 + (j - Int.toNat 0)) else (zst (zst mi a0 4 (mi a1 4)) a0 5 ((zst mi a0 4 (mi a1 4)) a1 5)) A6 j)) A18 (fun j => if Int.toNat 0 ≤ j ∧ j < Int.toNat 0 + Int.toNat 7 then (zup (zst (zst mi a0 4 (mi a1 4)) a0 5 ((zst mi a0 4 (mi a1 4)) a1 5)) A6 (fun j => if Int.toNat 0 ≤ j ∧ j < Int.toNat 0 + Int.toNat 7 then (zst (zst mi a0 4 (mi a1 4)) a0 5 ((zst mi a0 4 (mi a1 4)) a1 5)) A4 (Int.toNat 0 + (j - Int.toNat 0)) else (zst (zst mi a0 4 (mi a1 4)) a0 5 ((zst mi a0 4 (mi a1 4)) a1 5)) A6 j)) A16 (Int.toNat 0 + (j - Int.toNat 0)) else (zup (zst (zst mi a0 4 (mi a1 4)) a0 5 ((zst mi a0 4 (mi a1 4)) a1 5)) A6 (fun j => if Int.toNat 0 ≤ j ∧ j < Int.toNat 0 + Int.toNat 7 then (zst (zst mi a0 4 (mi a1 4)) a0 5 ((zst mi a0 4 (mi a1 4)) a1 5)) A4 (Int.toNat 0 + (j - Int.toNat 0)) else (zst (zst mi a0 4 (mi a1 4)) a0 5 ((zst mi a0 4 (mi a1 4)) a1 5)) A6 j)) A18 j)) A30 j)) Q) : zX c k_Pl_become 0 [some (zR a0), some (zR a1), w2] [] (n, K, mr, mi) Q := by
  subst h_5
  subst h_7
  subst h_17
  subst h_19
  subst h_29
  subst h_31
  exact zX.n rfl (zX.n rfl (zX.g rfl h_1 (zX.g rfl ⟨h_3, h_2⟩ (zX.n rfl (zX.n rfl (zX.g rfl h_1 (zX.g rfl ⟨h_3, h_2⟩ (zX.n rfl (zX.g rfl h_1 (zX.n rfl (zX.n rfl (zX.g rfl h_2 (zX.n rfl (zX.n rfl (zX.g rfl ⟨h_8, h_9, 100, N10, N11, Or.inl rfl, h_12, h_13, h_14, h_15⟩ (zX.n rfl (zX.g rfl h_1 (zX.n rfl (zX.n rfl (zX.g rfl h_2 (zX.n rfl (zX.n rfl (zX.g rfl ⟨h_20, h_21, 100, N22, N23, Or.inl rfl, h_24, h_25, h_26, h_27⟩ (zX.n rfl (zX.g rfl h_1 (zX.n rfl (zX.n rfl (zX.g rfl h_2 (zX.n rfl (zX.n rfl (zX.g rfl ⟨h_32, h_33, 100, N34, N35, Or.inl rfl, h_36, h_37, h_38, h_39⟩ (zX.n rfl (zX.n rfl p_40)))))))))))))))))))))))))))))))))
theorem s_Pl_become_63 {a0 : Nat} {a1 : Nat} {x2 : Int} (h_1 : K a0 = (5, 6)) (p_2 : (mi a0 4) ≤ x2 → zX c k_Pl_become 92 [some (zR a0), some (zR a1), some (zI x2)] [] (n, K, mr, mi) Q) (p_3 : ¬ (mi a0 4) ≤ x2 → zX c k_Pl_become 71 [some (zR a0), some (zR a1), some (zI x2)] [] (n, K, mr, mi) Q) : zX c k_Pl_become 63 [some (zR a0), some (zR a1), some (zI x2)] [] (n, K, mr, mi) Q := 
  zX.n rfl (zX.n rfl (zX.g rfl h_1 (zX.n rfl (zX.ite p_2 p_3))))
theorem s_Pl_become_71 {a0 : Nat} {a1 : Nat} {x2 : Int} {A2 : Nat} {N4 : Nat} {j8 : Nat} {A10 : Nat} {A13 : Nat} {N15 : Nat} {A18 : Nat} (h_1 : K a0 = (5, 6)) (h_3 : mr a0 3 = A2) (h_5 : K A2 = (105, N4)) (h_6 : 0 ≤ x2) (h_7 : x2 < (N4 : Int)) (h_9 : Int.toNat x2 = j8) (h_11 : mr A2 j8 = A10) (h_12 : K a1 = (5, 6)) (h_14 : mr a1 3 = A13) (h_16 : K A13 = (105, N15)) (h_17 : x2 < (N15 : Int)) (h_19 : mr A13 j8 = A18) (h_20 : K A10 = (1, 3)) (k_21 : zCall c k_Pl_become 83 86 [some (zR a0), some (zR a1), some (zI x2)] [] 0 k_Mv_become [zR A10, zR A18] (n, K, mr, mi) Q) : zX c k_Pl_become 71 [some (zR a0), some (zR a1), some (zI x2)] [] (n, K, mr, mi) Q := by
  subst h_3
  subst h_9
  subst h_11
  subst h_14
  subst h_19
  exact zX.n rfl (zX.g rfl h_1 (zX.n rfl (zX.g rfl ⟨N4, h_5, h_6, h_7⟩ (zX.n rfl (zX.g rfl h_12 (zX.n rfl (zX.g rfl ⟨N15, h_16, h_6, h_17⟩ (zX.callQ rfl (congrArg Prod.fst h_20) trivial k_21))))))))
theorem s_Pl_become_86 {a0 : Nat} {a1 : Nat} {x2 : Int} (p_1 : zX c k_Pl_become 63 [some (zR a0), some (zR a1), some (zI (zw (x2 + 1)))] [] (n, K, mr, mi) Q) : zX c k_Pl_become 86 [some (zR a0), some (zR a1), some (zI x2)] [] (n, K, mr, mi) Q := 
  zX.n rfl (zX.n rfl p_1)
theorem s_Pl_become_92 {w0 : Option zV} {w1 : Option zV} {w2 : Option zV} (p_1 : Q (.inl none) (n, K, mr, mi)) : zX c k_Pl_become 92 [w0, w1, w2] [] (n, K, mr, mi) Q := 
  zX.ret rfl trivial p_1
theorem s_Pl_allByHabit_0 {a0 : Nat} {x1 : Int} {w2 : Option zV} (p_1 : zX c k_Pl_allByHabit 2 [some (zR a0), some (zI x1), some (zI 0)] [] (n, K, mr, mi) Q) : zX c k_Pl_allByHabit 0 [some (zR a0), some (zI x1), w2] [] (n, K, mr, mi) Q := 
  zX.n rfl (zX.n rfl p_1)
theorem s_Pl_allByHabit_2 {a0 : Nat} {x1 : Int} {x2 : Int} (p_1 : (7 : Int) ≤ x2 → zX c k_Pl_allByHabit 21 [some (zR a0), some (zI x1), some (zI x2)] [] (n, K, mr, mi) Q) (p_2 : ¬ (7 : Int) ≤ x2 → zX c k_Pl_allByHabit 8 [some (zR a0), some (zI x1), some (zI x2)] [] (n, K, mr, mi) Q) : zX c k_Pl_allByHabit 2 [some (zR a0), some (zI x1), some (zI x2)] [] (n, K, mr, mi) Q := 
  zX.n rfl (zX.n rfl (zX.n rfl (zX.ite p_1 p_2)))
theorem s_Pl_allByHabit_8 {a0 : Nat} {x1 : Int} {x2 : Int} {A2 : Nat} {N4 : Nat} {j8 : Nat} (h_1 : K a0 = (5, 6)) (h_3 : mr a0 1 = A2) (h_5 : K A2 = (100, N4)) (h_6 : 0 ≤ x2) (h_7 : x2 < (N4 : Int)) (h_9 : Int.toNat x2 = j8) (h_10 : 64 ≤ A2) (p_11 : zX c k_Pl_allByHabit 2 [some (zR a0), some (zI x1), some (zI (zw (x2 + 1)))] [] (n, K, mr, zst mi A2 j8 x1) Q) : zX c k_Pl_allByHabit 8 [some (zR a0), some (zI x1), some (zI x2)] [] (n, K, mr, mi) Q := by
  subst h_3
  subst h_9
  exact zX.n rfl (zX.g rfl h_1 (zX.n rfl (zX.n rfl (zX.g rfl ⟨N4, h_10, h_5, h_6, h_7⟩ (zX.n rfl (zX.n rfl p_11))))))
theorem s_Pl_allByHabit_21 {w0 : Option zV} {w1 : Option zV} {w2 : Option zV} (p_1 : Q (.inl none) (n, K, mr, mi)) : zX c k_Pl_allByHabit 21 [w0, w1, w2] [] (n, K, mr, mi) Q := 
  zX.ret rfl trivial p_1
theorem s_Pl_allOfKind_0 {a0 : Nat} {x1 : Int} {w2 : Option zV} (p_1 : zX c k_Pl_allOfKind 2 [some (zR a0), some (zI x1), some (zI 0)] [] (n, K, mr, mi) Q) : zX c k_Pl_allOfKind 0 [some (zR a0), some (zI x1), w2] [] (n, K, mr, mi) Q := 
  zX.n rfl (zX.n rfl p_1)
theorem s_Pl_allOfKind_2 {a0 : Nat} {x1 : Int} {x2 : Int} (p_1 : (7 : Int) ≤ x2 → zX c k_Pl_allOfKind 21 [some (zR a0), some (zI x1), some (zI x2)] [] (n, K, mr, mi) Q) (p_2 : ¬ (7 : Int) ≤ x2 → zX c k_Pl_allOfKind 8 [some (zR a0), some (zI x1), some (zI x2)] [] (n, K, mr, mi) Q) : zX c k_Pl_allOfKind 2 [some (zR a0), some (zI x1), some (zI x2)] [] (n, K, mr, mi) Q := 
  zX.n rfl (zX.n rfl (zX.n rfl (zX.ite p_1 p_2)))
theorem s_Pl_allOfKind_8 {a0 : Nat} {x1 : Int} {x2 : Int} {A2 : Nat} {N4 : Nat} {j8 : Nat} (h_1 : K a0 = (5, 6)) (h_3 : mr a0 0 = A2) (h_5 : K A2 = (100, N4)) (h_6 : 0 ≤ x2) (h_7 : x2 < (N4 : Int)) (h_9 : Int.toNat x2 = j8) (h_10 : 64 ≤ A2) (p_11 : zX c k_Pl_allOfKind 2 [some (zR a0), some (zI x1), some (zI (zw (x2 + 1)))] [] (n, K, mr, zst mi A2 j8 x1) Q) : zX c k_Pl_allOfKind 8 [some (zR a0), some (zI x1), some (zI x2)] [] (n, K, mr, mi) Q := by
  subst h_3
  subst h_9
  exact zX.n rfl (zX.g rfl h_1 (zX.n rfl (zX.n rfl (zX.g rfl ⟨N4, h_10, h_5, h_6, h_7⟩ (zX.n rfl (zX.n rfl p_11))))))
theorem s_Pl_allOfKind_21 {w0 : Option zV} {w1 : Option zV} {w2 : Option zV} (p_1 : Q (.inl none) (n, K, mr, mi)) : zX c k_Pl_allOfKind 21 [w0, w1, w2] [] (n, K, mr, mi) Q := 
  zX.ret rfl trivial p_1
theorem s_G_doMeet_0 {a0 : Nat} {x1 : Int} {x2 : Int} {w3 : Option zV} {w4 : Option zV} (p_1 : zX c k_G_doMeet 5 [some (zR a0), some (zI x1), some (zI x2), some (zI 0), some (zI 0)] [] (n, K, mr, mi) Q) : zX c k_G_doMeet 0 [some (zR a0), some (zI x1), some (zI x2), w3, w4] [] (n, K, mr, mi) Q := 
  zX.n rfl (zX.n rfl (zX.n rfl (zX.n rfl p_1)))
theorem s_G_doMeet_5 {a0 : Nat} {x1 : Int} {x2 : Int} {x3 : Int} {x4 : Int} (h_1 : K a0 = (18, 12)) (p_2 : (mi a0 4) ≤ x4 → zX c k_G_doMeet 58 [some (zR a0), some (zI x1), some (zI x2), some (zI x3), some (zI x4)] [] (n, K, mr, mi) Q) (p_3 : ¬ (mi a0 4) ≤ x4 → zX c k_G_doMeet 14 [some (zR a0), some (zI x1), some (zI x2), some (zI x3), some (zI x4)] [] (n, K, mr, mi) Q) : zX c k_G_doMeet 5 [some (zR a0), some (zI x1), some (zI x2), some (zI x3), some (zI x4)] [] (n, K, mr, mi) Q := 
  zX.n rfl (zX.n rfl (zX.g rfl h_1 (zX.n rfl (zX.ite p_2 p_3))))
theorem s_G_doMeet_14 {a0 : Nat} {x1 : Int} {x2 : Int} {x3 : Int} {x4 : Int} (p_1 : ¬ x3 = 0 → zX c k_G_doMeet 46 [some (zR a0), some (zI x1), some (zI x2), some (zI x3), some (zI x4)] [] (n, K, mr, mi) Q) (p_2 : x3 = 0 → zX c k_G_doMeet 18 [some (zR a0), some (zI x1), some (zI x2), some (zI x3), some (zI x4)] [] (n, K, mr, mi) Q) : zX c k_G_doMeet 14 [some (zR a0), some (zI x1), some (zI x2), some (zI x3), some (zI x4)] [] (n, K, mr, mi) Q := 
  zX.n rfl (zX.n rfl (zX.itn p_1 p_2))
theorem s_G_doMeet_18 {a0 : Nat} {x1 : Int} {x2 : Int} {w3 : Option zV} {x4 : Int} {A2 : Nat} {N4 : Nat} {j8 : Nat} {A10 : Nat} (h_1 : K a0 = (18, 12)) (h_3 : mr a0 0 = A2) (h_5 : K A2 = (110, N4)) (h_6 : 0 ≤ x1) (h_7 : x1 < (N4 : Int)) (h_9 : Int.toNat x1 = j8) (h_11 : mr A2 j8 = A10) (h_12 : K A10 = (19, 12)) (k_13 : zCall c k_G_doMeet 26 29 [some (zR a0), some (zI x1), some (zI x2), w3, some (zI x4)] [] 0 k_Pe_isHere [zR A10, zI x4] (n, K, mr, mi) Q) : zX c k_G_doMeet 18 [some (zR a0), some (zI x1), some (zI x2), w3, some (zI x4)] [] (n, K, mr, mi) Q := by
  subst h_3
  subst h_9
  subst h_11
  exact zX.n rfl (zX.g rfl h_1 (zX.n rfl (zX.g rfl ⟨N4, h_5, h_6, h_7⟩ (zX.n rfl (zX.callQ rfl (congrArg Prod.fst h_12) trivial k_13)))))
theorem s_G_doMeet_29 {a0 : Nat} {x1 : Int} {x2 : Int} {w3 : Option zV} {x4 : Int} {sx0 : Int} (p_1 : sx0 = 0 → zX c k_G_doMeet 50 [some (zR a0), some (zI x1), some (zI x2), w3, some (zI x4)] [] (n, K, mr, mi) Q) (p_2 : ¬ sx0 = 0 → zX c k_G_doMeet 32 [some (zR a0), some (zI x1), some (zI x2), w3, some (zI x4)] [] (n, K, mr, mi) Q) : zX c k_G_doMeet 29 [some (zR a0), some (zI x1), some (zI x2), w3, some (zI x4)] [zI sx0] (n, K, mr, mi) Q := 
  zX.n rfl (zX.ite p_1 p_2)
theorem s_G_doMeet_32 {a0 : Nat} {x1 : Int} {x2 : Int} {w3 : Option zV} {x4 : Int} {A2 : Nat} {N4 : Nat} {j8 : Nat} {A10 : Nat} (h_1 : K a0 = (18, 12)) (h_3 : mr a0 0 = A2) (h_5 : K A2 = (110, N4)) (h_6 : 0 ≤ x2) (h_7 : x2 < (N4 : Int)) (h_9 : Int.toNat x2 = j8) (h_11 : mr A2 j8 = A10) (h_12 : K A10 = (19, 12)) (k_13 : zCall c k_G_doMeet 40 43 [some (zR a0), some (zI x1), some (zI x2), w3, some (zI x4)] [] 0 k_Pe_isHere [zR A10, zI x4] (n, K, mr, mi) Q) : zX c k_G_doMeet 32 [some (zR a0), some (zI x1), some (zI x2), w3, some (zI x4)] [] (n, K, mr, mi) Q := by
  subst h_3
  subst h_9
  subst h_11
  exact zX.n rfl (zX.g rfl h_1 (zX.n rfl (zX.g rfl ⟨N4, h_5, h_6, h_7⟩ (zX.n rfl (zX.callQ rfl (congrArg Prod.fst h_12) trivial k_13)))))
theorem s_G_doMeet_43 {a0 : Nat} {x1 : Int} {x2 : Int} {w3 : Option zV} {x4 : Int} {sx0 : Int} (p_1 : sx0 = 0 → zX c k_G_doMeet 50 [some (zR a0), some (zI x1), some (zI x2), w3, some (zI x4)] [] (n, K, mr, mi) Q) (p_2 : ¬ sx0 = 0 → zX c k_G_doMeet 46 [some (zR a0), some (zI x1), some (zI x2), w3, some (zI x4)] [] (n, K, mr, mi) Q) : zX c k_G_doMeet 43 [some (zR a0), some (zI x1), some (zI x2), w3, some (zI x4)] [zI sx0] (n, K, mr, mi) Q := 
  zX.n rfl (zX.ite p_1 p_2)
theorem s_G_doMeet_46 {a0 : Nat} {x1 : Int} {x2 : Int} {w3 : Option zV} {x4 : Int} (p_1 : zX c k_G_doMeet 51 [some (zR a0), some (zI x1), some (zI x2), w3, some (zI x4)] [zI 1] (n, K, mr, mi) Q) : zX c k_G_doMeet 46 [some (zR a0), some (zI x1), some (zI x2), w3, some (zI x4)] [] (n, K, mr, mi) Q := 
  zX.n rfl (zX.n rfl p_1)
theorem s_G_doMeet_50 {a0 : Nat} {x1 : Int} {x2 : Int} {w3 : Option zV} {x4 : Int} (p_1 : zX c k_G_doMeet 51 [some (zR a0), some (zI x1), some (zI x2), w3, some (zI x4)] [zI 0] (n, K, mr, mi) Q) : zX c k_G_doMeet 50 [some (zR a0), some (zI x1), some (zI x2), w3, some (zI x4)] [] (n, K, mr, mi) Q := 
  zX.n rfl p_1
theorem s_G_doMeet_51 {a0 : Nat} {x1 : Int} {x2 : Int} {w3 : Option zV} {x4 : Int} {sx0 : Int} (p_1 : zX c k_G_doMeet 5 [some (zR a0), some (zI x1), some (zI x2), some (zI sx0), some (zI (zw (x4 + 1)))] [] (n, K, mr, mi) Q) : zX c k_G_doMeet 51 [some (zR a0), some (zI x1), some (zI x2), w3, some (zI x4)] [zI sx0] (n, K, mr, mi) Q := 
  zX.n rfl (zX.n rfl (zX.n rfl p_1))
theorem s_G_doMeet_58 {w0 : Option zV} {w1 : Option zV} {w2 : Option zV} {x3 : Int} {w4 : Option zV} (h_1 : x3 = 0 ∨ x3 = 1) (p_2 : Q (.inl (some (zI x3))) (n, K, mr, mi)) : zX c k_G_doMeet 58 [w0, w1, w2, some (zI x3), w4] [] (n, K, mr, mi) Q := 
  zX.n rfl (zX.ret rfl h_1 p_2)
theorem s_Co_isRight_0 {a0 : Nat} {x1 : Int} {w2 : Option zV} {w3 : Option zV} (p_1 : zX c k_Co_isRight 4 [some (zR a0), some (zI x1), some (zI 1), some (zI 0)] [] (n, K, mr, mi) Q) : zX c k_Co_isRight 0 [some (zR a0), some (zI x1), w2, w3] [] (n, K, mr, mi) Q := 
  zX.n rfl (zX.n rfl (zX.n rfl (zX.n rfl p_1)))
theorem s_Co_isRight_4 {a0 : Nat} {x1 : Int} {x2 : Int} {x3 : Int} (p_1 : x1 ≤ x3 → zX c k_Co_isRight 52 [some (zR a0), some (zI x1), some (zI x2), some (zI x3)] [] (n, K, mr, mi) Q) (p_2 : ¬ x1 ≤ x3 → zX c k_Co_isRight 9 [some (zR a0), some (zI x1), some (zI x2), some (zI x3)] [] (n, K, mr, mi) Q) : zX c k_Co_isRight 4 [some (zR a0), some (zI x1), some (zI x2), some (zI x3)] [] (n, K, mr, mi) Q := 
  zX.n rfl (zX.n rfl (zX.n rfl (zX.ite p_1 p_2)))
theorem s_Co_isRight_9 {a0 : Nat} {x1 : Int} {x2 : Int} {x3 : Int} (p_1 : x2 = 0 → zX c k_Co_isRight 44 [some (zR a0), some (zI x1), some (zI x2), some (zI x3)] [] (n, K, mr, mi) Q) (p_2 : ¬ x2 = 0 → zX c k_Co_isRight 13 [some (zR a0), some (zI x1), some (zI x2), some (zI x3)] [] (n, K, mr, mi) Q) : zX c k_Co_isRight 9 [some (zR a0), some (zI x1), some (zI x2), some (zI x3)] [] (n, K, mr, mi) Q := 
  zX.n rfl (zX.n rfl (zX.ite p_1 p_2))
theorem s_Co_isRight_13 {a0 : Nat} {x1 : Int} {w2 : Option zV} {x3 : Int} {A2 : Nat} {N4 : Nat} {j8 : Nat} {j12 : Nat} (h_1 : K a0 = (16, 3)) (h_3 : mr a0 0 = A2) (h_5 : K A2 = (100, N4)) (h_6 : 0 ≤ x3) (h_7 : x3 < (N4 : Int)) (h_9 : Int.toNat x3 = j8) (h_10 : 0 ≤ x1) (h_11 : x1 < (N4 : Int)) (h_13 : Int.toNat x1 = j12) (p_14 : ¬ (mi A2 j8) = (mi A2 j12) → zX c k_Co_isRight 40 [some (zR a0), some (zI x1), w2, some (zI x3)] [] (n, K, mr, mi) Q) (p_15 : (mi A2 j8) = (mi A2 j12) → zX c k_Co_isRight 28 [some (zR a0), some (zI x1), w2, some (zI x3)] [] (n, K, mr, mi) Q) : zX c k_Co_isRight 13 [some (zR a0), some (zI x1), w2, some (zI x3)] [] (n, K, mr, mi) Q := by
  subst h_3
  subst h_9
  subst h_13
  exact zX.n rfl (zX.g rfl h_1 (zX.n rfl (zX.g rfl ⟨N4, h_5, h_6, h_7⟩ (zX.n rfl (zX.g rfl h_1 (zX.n rfl (zX.g rfl ⟨N4, h_5, h_10, h_11⟩ (zX.n rfl (zX.itn p_14 p_15)))))))))
theorem s_Co_isRight_28 {a0 : Nat} {x1 : Int} {w2 : Option zV} {x3 : Int} {A2 : Nat} (h_1 : K a0 = (16, 3)) (h_3 : mr a0 1 = A2) (h_4 : K A2 = (18, 12)) (k_5 : zCall c k_Co_isRight 34 37 [some (zR a0), some (zI x1), w2, some (zI x3)] [] 0 k_G_doMeet [zR A2, zI x1, zI x3] (n, K, mr, mi) Q) : zX c k_Co_isRight 28 [some (zR a0), some (zI x1), w2, some (zI x3)] [] (n, K, mr, mi) Q := by
  subst h_3
  exact zX.n rfl (zX.g rfl h_1 (zX.n rfl (zX.n rfl (zX.callQ rfl (congrArg Prod.fst h_4) trivial k_5))))
theorem s_Co_isRight_37 {a0 : Nat} {x1 : Int} {w2 : Option zV} {x3 : Int} {sx0 : Int} (p_1 : ¬ sx0 = 0 → zX c k_Co_isRight 44 [some (zR a0), some (zI x1), w2, some (zI x3)] [] (n, K, mr, mi) Q) (p_2 : sx0 = 0 → zX c k_Co_isRight 40 [some (zR a0), some (zI x1), w2, some (zI x3)] [] (n, K, mr, mi) Q) : zX c k_Co_isRight 37 [some (zR a0), some (zI x1), w2, some (zI x3)] [zI sx0] (n, K, mr, mi) Q := 
  zX.n rfl (zX.itn p_1 p_2)
theorem s_Co_isRight_40 {a0 : Nat} {x1 : Int} {w2 : Option zV} {x3 : Int} (p_1 : zX c k_Co_isRight 45 [some (zR a0), some (zI x1), w2, some (zI x3)] [zI 1] (n, K, mr, mi) Q) : zX c k_Co_isRight 40 [some (zR a0), some (zI x1), w2, some (zI x3)] [] (n, K, mr, mi) Q := 
  zX.n rfl (zX.n rfl p_1)
theorem s_Co_isRight_44 {a0 : Nat} {x1 : Int} {w2 : Option zV} {x3 : Int} (p_1 : zX c k_Co_isRight 45 [some (zR a0), some (zI x1), w2, some (zI x3)] [zI 0] (n, K, mr, mi) Q) : zX c k_Co_isRight 44 [some (zR a0), some (zI x1), w2, some (zI x3)] [] (n, K, mr, mi) Q := 
  zX.n rfl p_1
theorem s_Co_isRight_45 {a0 : Nat} {x1 : Int} {w2 : Option zV} {x3 : Int} {sx0 : Int} (p_1 : zX c k_Co_isRight 4 [some (zR a0), some (zI x1), some (zI sx0), some (zI (zw (x3 + 1)))] [] (n, K, mr, mi) Q) : zX c k_Co_isRight 45 [some (zR a0), some (zI x1), w2, some (zI x3)] [zI sx0] (n, K, mr, mi) Q := 
  zX.n rfl (zX.n rfl (zX.n rfl p_1))
theorem s_Co_isRight_52 {w0 : Option zV} {w1 : Option zV} {x2 : Int} {w3 : Option zV} (h_1 : x2 = 0 ∨ x2 = 1) (p_2 : Q (.inl (some (zI x2))) (n, K, mr, mi)) : zX c k_Co_isRight 52 [w0, w1, some (zI x2), w3] [] (n, K, mr, mi) Q := 
  zX.n rfl (zX.ret rfl h_1 p_2)
theorem s_Co_tries_0 {a0 : Nat} {x1 : Int} {A2 : Nat} (h_1 : K a0 = (16, 3)) (h_3 : mr a0 1 = A2) (h_4 : K A2 = (18, 12)) (p_5 : ¬ x1 = (mi A2 8) → zX c k_Co_tries 13 [some (zR a0), some (zI x1)] [] (n, K, mr, mi) Q) (p_6 : x1 = (mi A2 8) → zX c k_Co_tries 11 [some (zR a0), some (zI x1)] [] (n, K, mr, mi) Q) : zX c k_Co_tries 0 [some (zR a0), some (zI x1)] [] (n, K, mr, mi) Q := by
  subst h_3
  exact zX.n rfl (zX.n rfl (zX.g rfl h_1 (zX.g rfl h_4 (zX.n rfl (zX.itn p_5 p_6)))))
theorem s_Co_tries_11 {w0 : Option zV} {w1 : Option zV} (p_1 : Q (.inl (some (zI 1))) (n, K, mr, mi)) : zX c k_Co_tries 11 [w0, w1] [] (n, K, mr, mi) Q := 
  zX.n rfl (zX.ret rfl (Or.inr rfl) p_1)
theorem s_Co_tries_13 {a0 : Nat} {x1 : Int} {A2 : Nat} {N4 : Nat} {j8 : Nat} (h_1 : K a0 = (16, 3)) (h_3 : mr a0 0 = A2) (h_5 : K A2 = (100, N4)) (h_6 : 0 ≤ x1) (h_7 : x1 < (N4 : Int)) (h_9 : Int.toNat x1 = j8) (h_10 : 64 ≤ A2) (p_11 : zX c k_Co_tries 20 [some (zR a0), some (zI x1)] [] (n, K, mr, zst mi A2 j8 0) Q) : zX c k_Co_tries 13 [some (zR a0), some (zI x1)] [] (n, K, mr, mi) Q := by
  subst h_3
  subst h_9
  exact zX.n rfl (zX.g rfl h_1 (zX.n rfl (zX.n rfl (zX.g rfl ⟨N4, h_10, h_5, h_6, h_7⟩ p_11))))
theorem s_Co_tries_20 {a0 : Nat} {x1 : Int} {A2 : Nat} {N4 : Nat} {j8 : Nat} (h_1 : K a0 = (16, 3)) (h_3 : mr a0 0 = A2) (h_5 : K A2 = (100, N4)) (h_6 : 0 ≤ x1) (h_7 : x1 < (N4 : Int)) (h_9 : Int.toNat x1 = j8) (p_10 : (mi a0 2) ≤ (mi A2 j8) → zX c k_Co_tries 66 [some (zR a0), some (zI x1)] [] (n, K, mr, mi) Q) (p_11 : ¬ (mi a0 2) ≤ (mi A2 j8) → zX c k_Co_tries 33 [some (zR a0), some (zI x1)] [] (n, K, mr, mi) Q) : zX c k_Co_tries 20 [some (zR a0), some (zI x1)] [] (n, K, mr, mi) Q := by
  subst h_3
  subst h_9
  exact zX.n rfl (zX.g rfl h_1 (zX.n rfl (zX.g rfl ⟨N4, h_5, h_6, h_7⟩ (zX.n rfl (zX.g rfl h_1 (zX.n rfl (zX.ite p_10 p_11)))))))
theorem s_Co_tries_33 {a0 : Nat} {x1 : Int} (h_1 : K a0 = (16, 3)) (k_2 : zCall c k_Co_tries 35 38 [some (zR a0), some (zI x1)] [] 0 k_Co_isRight [zR a0, zI x1] (n, K, mr, mi) Q) : zX c k_Co_tries 33 [some (zR a0), some (zI x1)] [] (n, K, mr, mi) Q := 
  zX.n rfl (zX.n rfl (zX.callQ rfl (congrArg Prod.fst h_1) trivial k_2))
theorem s_Co_tries_38 {a0 : Nat} {x1 : Int} {sx0 : Int} (p_1 : sx0 = 0 → zX c k_Co_tries 53 [some (zR a0), some (zI x1)] [] (n, K, mr, mi) Q) (p_2 : ¬ sx0 = 0 → zX c k_Co_tries 41 [some (zR a0), some (zI x1)] [] (n, K, mr, mi) Q) : zX c k_Co_tries 38 [some (zR a0), some (zI x1)] [zI sx0] (n, K, mr, mi) Q := 
  zX.n rfl (zX.ite p_1 p_2)
theorem s_Co_tries_41 {a0 : Nat} {x1 : Int} (h_1 : K a0 = (16, 3)) (h_2 : 0 < c) (k_3 : zCall c k_Co_tries 45 48 [some (zR a0), some (zI x1)] [] (c - 1) k_Co_tries [zR a0, zI (zw (x1 + 1))] (n, K, mr, mi) Q) : zX c k_Co_tries 41 [some (zR a0), some (zI x1)] [] (n, K, mr, mi) Q := 
  zX.n rfl (zX.n rfl (zX.n rfl (zX.n rfl (zX.callQ rfl (congrArg Prod.fst h_1) h_2 k_3))))
theorem s_Co_tries_48 {a0 : Nat} {x1 : Int} {sx0 : Int} (p_1 : sx0 = 0 → zX c k_Co_tries 53 [some (zR a0), some (zI x1)] [] (n, K, mr, mi) Q) (p_2 : ¬ sx0 = 0 → zX c k_Co_tries 51 [some (zR a0), some (zI x1)] [] (n, K, mr, mi) Q) : zX c k_Co_tries 48 [some (zR a0), some (zI x1)] [zI sx0] (n, K, mr, mi) Q := 
  zX.n rfl (zX.ite p_1 p_2)
theorem s_Co_tries_51 {w0 : Option zV} {w1 : Option zV} (p_1 : Q (.inl (some (zI 1))) (n, K, mr, mi)) : zX c k_Co_tries 51 [w0, w1] [] (n, K, mr, mi) Q := 
  zX.n rfl (zX.ret rfl (Or.inr rfl) p_1)
theorem s_Co_tries_53 {a0 : Nat} {x1 : Int} {A2 : Nat} {N4 : Nat} {j8 : Nat} (h_1 : K a0 = (16, 3)) (h_3 : mr a0 0 = A2) (h_5 : K A2 = (100, N4)) (h_6 : 0 ≤ x1) (h_7 : x1 < (N4 : Int)) (h_9 : Int.toNat x1 = j8) (h_10 : 64 ≤ A2) (p_11 : zX c k_Co_tries 20 [some (zR a0), some (zI x1)] [] (n, K, mr, zst mi A2 j8 (zw ((mi A2 j8) + 1))) Q) : zX c k_Co_tries 53 [some (zR a0), some (zI x1)] [] (n, K, mr, mi) Q := by
  subst h_3
  subst h_9
  exact zX.n rfl (zX.g rfl h_1 (zX.n rfl (zX.n rfl (zX.g rfl ⟨N4, h_5, h_6, h_7⟩ (zX.n rfl (zX.n rfl (zX.g rfl ⟨N4, h_10, h_5, h_6, h_7⟩ (zX.n rfl p_11))))))))
theorem s_Co_tries_66 {w0 : Option zV} {w1 : Option zV} (p_1 : Q (.inl (some (zI 0))) (n, K, mr, mi)) : zX c k_Co_tries 66 [w0, w1] [] (n, K, mr, mi) Q := 
  zX.n rfl (zX.ret rfl (Or.inl rfl) p_1)
theorem s_Co_find_0 {a0 : Nat} {a1 : Nat} (h_1 : K a0 = (16, 3)) (h_2 : 64 ≤ a0) (p_3 : zX c k_Co_find 10 [some (zR a0), some (zR a1)] [] (n, K, zst mr a0 1 a1, zst mi a0 2 1) Q) : zX c k_Co_find 0 [some (zR a0), some (zR a1)] [] (n, K, mr, mi) Q := 
  zX.n rfl (zX.n rfl (zX.g rfl ⟨h_2, h_1⟩ (zX.n rfl (zX.n rfl (zX.g rfl ⟨h_2, h_1⟩ p_3)))))
theorem s_Co_find_10 {a0 : Nat} {w1 : Option zV} (h_1 : K a0 = (16, 3)) (k_2 : zCall c k_Co_find 12 15 [some (zR a0), w1] [] 10 k_Co_tries [zR a0, zI 0] (n, K, mr, mi) Q) : zX c k_Co_find 10 [some (zR a0), w1] [] (n, K, mr, mi) Q := 
  zX.n rfl (zX.n rfl (zX.callQ rfl (congrArg Prod.fst h_1) trivial k_2))
theorem s_Co_find_15 {a0 : Nat} {w1 : Option zV} {sx0 : Int} (p_1 : ¬ sx0 = 0 → zX c k_Co_find 31 [some (zR a0), w1] [] (n, K, mr, mi) Q) (p_2 : sx0 = 0 → zX c k_Co_find 18 [some (zR a0), w1] [] (n, K, mr, mi) Q) : zX c k_Co_find 15 [some (zR a0), w1] [zI sx0] (n, K, mr, mi) Q := 
  zX.n rfl (zX.itn p_1 p_2)
theorem s_Co_find_18 {a0 : Nat} {w1 : Option zV} (h_1 : K a0 = (16, 3)) (h_2 : 64 ≤ a0) (p_3 : zX c k_Co_find 10 [some (zR a0), w1] [] (n, K, mr, zst mi a0 2 (zw ((mi a0 2) + 1))) Q) : zX c k_Co_find 18 [some (zR a0), w1] [] (n, K, mr, mi) Q := 
  zX.n rfl (zX.n rfl (zX.g rfl h_1 (zX.n rfl (zX.n rfl (zX.g rfl ⟨h_2, h_1⟩ (zX.n rfl p_3))))))
theorem s_Co_find_31 {w0 : Option zV} {w1 : Option zV} (p_1 : Q (.inl none) (n, K, mr, mi)) : zX c k_Co_find 31 [w0, w1] [] (n, K, mr, mi) Q := 
  zX.ret rfl trivial p_1
theorem s_Co_of_0 {a0 : Nat} {x1 : Int} {A2 : Nat} {N4 : Nat} {j8 : Nat} (h_1 : K a0 = (16, 3)) (h_3 : mr a0 0 = A2) (h_5 : K A2 = (100, N4)) (h_6 : 0 ≤ x1) (h_7 : x1 < (N4 : Int)) (h_9 : Int.toNat x1 = j8) (p_10 : Q (.inl (some (zI (mi A2 j8)))) (n, K, mr, mi)) : zX c k_Co_of 0 [some (zR a0), some (zI x1)] [] (n, K, mr, mi) Q := by
  subst h_3
  subst h_9
  exact zX.n rfl (zX.g rfl h_1 (zX.n rfl (zX.g rfl ⟨N4, h_5, h_6, h_7⟩ (zX.ret rfl trivial p_10))))
theorem s_Mo_wrong_0 {a0 : Nat} {a1 : Nat} {w2 : Option zV} (p_1 : zX c k_Mo_wrong 2 [some (zR a0), some (zR a1), some (zI 0)] [] (n, K, mr, mi) Q) : zX c k_Mo_wrong 0 [some (zR a0), some (zR a1), w2] [] (n, K, mr, mi) Q := 
  zX.n rfl (zX.n rfl p_1)
theorem s_Mo_wrong_2 {a0 : Nat} {a1 : Nat} {x2 : Int} {A2 : Nat} (h_1 : K a0 = (6, 13)) (h_3 : mr a0 9 = A2) (h_4 : K A2 = (18, 12)) (p_5 : (mi A2 5) ≤ x2 → zX c k_Mo_wrong 39 [some (zR a0), some (zR a1), some (zI x2)] [] (n, K, mr, mi) Q) (p_6 : ¬ (mi A2 5) ≤ x2 → zX c k_Mo_wrong 13 [some (zR a0), some (zR a1), some (zI x2)] [] (n, K, mr, mi) Q) : zX c k_Mo_wrong 2 [some (zR a0), some (zR a1), some (zI x2)] [] (n, K, mr, mi) Q := by
  subst h_3
  exact zX.n rfl (zX.n rfl (zX.g rfl h_1 (zX.g rfl h_4 (zX.n rfl (zX.ite p_5 p_6)))))
theorem s_Mo_wrong_13 {a0 : Nat} {a1 : Nat} {x2 : Int} (h_1 : K a1 = (20, 2)) (h_2 : K a0 = (6, 13)) (k_3 : zCall c k_Mo_wrong 19 22 [some (zR a0), some (zR a1), some (zI x2)] [] 0 k_Mo_colour [zR a0, zI (mi a1 1), zI x2] (n, K, mr, mi) Q) : zX c k_Mo_wrong 13 [some (zR a0), some (zR a1), some (zI x2)] [] (n, K, mr, mi) Q := 
  zX.n rfl (zX.n rfl (zX.g rfl h_1 (zX.n rfl (zX.callQ rfl (congrArg Prod.fst h_2) trivial k_3))))
theorem s_Mo_wrong_22 {a0 : Nat} {a1 : Nat} {x2 : Int} {sx0 : Int} {A2 : Nat} {N4 : Nat} {j8 : Nat} (h_1 : K a1 = (20, 2)) (h_3 : mr a1 0 = A2) (h_5 : K A2 = (100, N4)) (h_6 : 0 ≤ x2) (h_7 : x2 < (N4 : Int)) (h_9 : Int.toNat x2 = j8) (p_10 : sx0 = (mi A2 j8) → zX c k_Mo_wrong 33 [some (zR a0), some (zR a1), some (zI x2)] [] (n, K, mr, mi) Q) (p_11 : ¬ sx0 = (mi A2 j8) → zX c k_Mo_wrong 31 [some (zR a0), some (zR a1), some (zI x2)] [] (n, K, mr, mi) Q) : zX c k_Mo_wrong 22 [some (zR a0), some (zR a1), some (zI x2)] [zI sx0] (n, K, mr, mi) Q := by
  subst h_3
  subst h_9
  exact zX.n rfl (zX.g rfl h_1 (zX.n rfl (zX.g rfl ⟨N4, h_5, h_6, h_7⟩ (zX.n rfl (zX.ite p_10 p_11)))))
theorem s_Mo_wrong_31 {w0 : Option zV} {w1 : Option zV} {x2 : Int} (p_1 : Q (.inl (some (zI x2))) (n, K, mr, mi)) : zX c k_Mo_wrong 31 [w0, w1, some (zI x2)] [] (n, K, mr, mi) Q := 
  zX.n rfl (zX.ret rfl trivial p_1)
theorem s_Mo_wrong_33 {a0 : Nat} {a1 : Nat} {x2 : Int} (p_1 : zX c k_Mo_wrong 2 [some (zR a0), some (zR a1), some (zI (zw (x2 + 1)))] [] (n, K, mr, mi) Q) : zX c k_Mo_wrong 33 [some (zR a0), some (zR a1), some (zI x2)] [] (n, K, mr, mi) Q := 
  zX.n rfl (zX.n rfl p_1)
theorem s_Mo_wrong_39 {w0 : Option zV} {w1 : Option zV} {w2 : Option zV} (p_1 : Q (.inl (some (zI ((-2))))) (n, K, mr, mi)) : zX c k_Mo_wrong 39 [w0, w1, w2] [] (n, K, mr, mi) Q := 
  zX.n rfl (zX.ret rfl trivial p_1)
theorem s_Mo_isRight_0 {a0 : Nat} {w1 : Option zV} {w2 : Option zV} (p_1 : zX c k_Mo_isRight 4 [some (zR a0), some (zI 1), some (zI 0)] [] (n, K, mr, mi) Q) : zX c k_Mo_isRight 0 [some (zR a0), w1, w2] [] (n, K, mr, mi) Q := 
  zX.n rfl (zX.n rfl (zX.n rfl (zX.n rfl p_1)))
theorem s_Mo_isRight_4 {a0 : Nat} {x1 : Int} {x2 : Int} {A2 : Nat} (h_1 : K a0 = (6, 13)) (h_3 : mr a0 9 = A2) (h_4 : K A2 = (18, 12)) (p_5 : (mi A2 10) ≤ x2 → zX c k_Mo_isRight 49 [some (zR a0), some (zI x1), some (zI x2)] [] (n, K, mr, mi) Q) (p_6 : ¬ (mi A2 10) ≤ x2 → zX c k_Mo_isRight 15 [some (zR a0), some (zI x1), some (zI x2)] [] (n, K, mr, mi) Q) : zX c k_Mo_isRight 4 [some (zR a0), some (zI x1), some (zI x2)] [] (n, K, mr, mi) Q := by
  subst h_3
  exact zX.n rfl (zX.n rfl (zX.g rfl h_1 (zX.g rfl h_4 (zX.n rfl (zX.ite p_5 p_6)))))
theorem s_Mo_isRight_15 {a0 : Nat} {x1 : Int} {x2 : Int} (p_1 : x1 = 0 → zX c k_Mo_isRight 41 [some (zR a0), some (zI x1), some (zI x2)] [] (n, K, mr, mi) Q) (p_2 : ¬ x1 = 0 → zX c k_Mo_isRight 19 [some (zR a0), some (zI x1), some (zI x2)] [] (n, K, mr, mi) Q) : zX c k_Mo_isRight 15 [some (zR a0), some (zI x1), some (zI x2)] [] (n, K, mr, mi) Q := 
  zX.n rfl (zX.n rfl (zX.ite p_1 p_2))
theorem s_Mo_isRight_19 {a0 : Nat} {w1 : Option zV} {x2 : Int} {A2 : Nat} {A5 : Nat} {N7 : Nat} {j11 : Nat} {A13 : Nat} (h_1 : K a0 = (6, 13)) (h_3 : mr a0 9 = A2) (h_4 : K A2 = (18, 12)) (h_6 : mr A2 2 = A5) (h_8 : K A5 = (111, N7)) (h_9 : 0 ≤ x2) (h_10 : x2 < (N7 : Int)) (h_12 : Int.toNat x2 = j11) (h_14 : mr A5 j11 = A13) (k_15 : zCall c k_Mo_isRight 29 32 [some (zR a0), w1, some (zI x2)] [] 0 k_Mo_wrong [zR a0, zR A13] (n, K, mr, mi) Q) : zX c k_Mo_isRight 19 [some (zR a0), w1, some (zI x2)] [] (n, K, mr, mi) Q := by
  subst h_3
  subst h_6
  subst h_12
  subst h_14
  exact zX.n rfl (zX.n rfl (zX.g rfl h_1 (zX.g rfl h_4 (zX.n rfl (zX.g rfl ⟨N7, h_8, h_9, h_10⟩ (zX.callQ rfl (congrArg Prod.fst h_1) trivial k_15))))))
theorem s_Mo_isRight_32 {a0 : Nat} {w1 : Option zV} {x2 : Int} {sx0 : Int} (p_1 : ¬ sx0 = ((-2)) → zX c k_Mo_isRight 41 [some (zR a0), w1, some (zI x2)] [] (n, K, mr, mi) Q) (p_2 : sx0 = ((-2)) → zX c k_Mo_isRight 37 [some (zR a0), w1, some (zI x2)] [] (n, K, mr, mi) Q) : zX c k_Mo_isRight 32 [some (zR a0), w1, some (zI x2)] [zI sx0] (n, K, mr, mi) Q := 
  zX.n rfl (zX.n rfl (zX.itn p_1 p_2))
theorem s_Mo_isRight_37 {a0 : Nat} {w1 : Option zV} {x2 : Int} (p_1 : zX c k_Mo_isRight 42 [some (zR a0), w1, some (zI x2)] [zI 1] (n, K, mr, mi) Q) : zX c k_Mo_isRight 37 [some (zR a0), w1, some (zI x2)] [] (n, K, mr, mi) Q := 
  zX.n rfl (zX.n rfl p_1)
theorem s_Mo_isRight_41 {a0 : Nat} {w1 : Option zV} {x2 : Int} (p_1 : zX c k_Mo_isRight 42 [some (zR a0), w1, some (zI x2)] [zI 0] (n, K, mr, mi) Q) : zX c k_Mo_isRight 41 [some (zR a0), w1, some (zI x2)] [] (n, K, mr, mi) Q := 
  zX.n rfl p_1
theorem s_Mo_isRight_42 {a0 : Nat} {w1 : Option zV} {x2 : Int} {sx0 : Int} (p_1 : zX c k_Mo_isRight 4 [some (zR a0), some (zI sx0), some (zI (zw (x2 + 1)))] [] (n, K, mr, mi) Q) : zX c k_Mo_isRight 42 [some (zR a0), w1, some (zI x2)] [zI sx0] (n, K, mr, mi) Q := 
  zX.n rfl (zX.n rfl (zX.n rfl p_1))
theorem s_Mo_isRight_49 {w0 : Option zV} {x1 : Int} {w2 : Option zV} (h_1 : x1 = 0 ∨ x1 = 1) (p_2 : Q (.inl (some (zI x1))) (n, K, mr, mi)) : zX c k_Mo_isRight 49 [w0, some (zI x1), w2] [] (n, K, mr, mi) Q := 
  zX.n rfl (zX.ret rfl h_1 p_2)
theorem s_Pa_isIn_0 {a0 : Nat} {x1 : Int} {A2 : Nat} {A5 : Nat} {N7 : Nat} {j11 : Nat} {A13 : Nat} (h_1 : K a0 = (15, 10)) (h_3 : mr a0 4 = A2) (h_4 : K A2 = (18, 12)) (h_6 : mr A2 0 = A5) (h_8 : K A5 = (110, N7)) (h_9 : 0 ≤ x1) (h_10 : x1 < (N7 : Int)) (h_12 : Int.toNat x1 = j11) (h_14 : mr A5 j11 = A13) (h_15 : K A13 = (19, 12)) (k_16 : zCall c k_Pa_isIn 13 16 [some (zR a0), some (zI x1)] [] 0 k_Pe_isHere [zR A13, zI (mi a0 6)] (n, K, mr, mi) Q) : zX c k_Pa_isIn 0 [some (zR a0), some (zI x1)] [] (n, K, mr, mi) Q := by
  subst h_3
  subst h_6
  subst h_12
  subst h_14
  exact zX.n rfl (zX.g rfl h_1 (zX.g rfl h_4 (zX.n rfl (zX.g rfl ⟨N7, h_8, h_9, h_10⟩ (zX.n rfl (zX.g rfl h_1 (zX.callQ rfl (congrArg Prod.fst h_15) trivial k_16)))))))
theorem s_Pa_isIn_16 {a0 : Nat} {x1 : Int} {sx0 : Int} (p_1 : sx0 = 0 → zX c k_Pa_isIn 44 [some (zR a0), some (zI x1)] [] (n, K, mr, mi) Q) (p_2 : ¬ sx0 = 0 → zX c k_Pa_isIn 19 [some (zR a0), some (zI x1)] [] (n, K, mr, mi) Q) : zX c k_Pa_isIn 16 [some (zR a0), some (zI x1)] [zI sx0] (n, K, mr, mi) Q := 
  zX.n rfl (zX.ite p_1 p_2)
theorem s_Pa_isIn_19 {a0 : Nat} {x1 : Int} {A2 : Nat} (h_1 : K a0 = (15, 10)) (h_3 : mr a0 5 = A2) (h_4 : K A2 = (6, 13)) (k_5 : zCall c k_Pa_isIn 28 31 [some (zR a0), some (zI x1)] [] 0 k_Mo_place [zR A2, zI (mi a0 6), zI x1] (n, K, mr, mi) Q) : zX c k_Pa_isIn 19 [some (zR a0), some (zI x1)] [] (n, K, mr, mi) Q := by
  subst h_3
  exact zX.n rfl (zX.g rfl h_1 (zX.n rfl (zX.g rfl h_1 (zX.n rfl (zX.callQ rfl (congrArg Prod.fst h_4) trivial k_5)))))
theorem s_Pa_isIn_31 {w0 : Option zV} {w1 : Option zV} {sx0 : Int} (k_1 : zCall c k_Pa_isIn 34 37 [w0, w1] [] 0 k_B_in [zI sx0, zI 0, zI 7] (n, K, mr, mi) Q) : zX c k_Pa_isIn 31 [w0, w1] [zI sx0] (n, K, mr, mi) Q := 
  zX.n rfl (zX.n rfl (zX.callQ rfl trivial trivial k_1))
theorem s_Pa_isIn_37 {w0 : Option zV} {w1 : Option zV} {sx0 : Int} (p_1 : sx0 = 0 → zX c k_Pa_isIn 44 [w0, w1] [] (n, K, mr, mi) Q) (p_2 : ¬ sx0 = 0 → zX c k_Pa_isIn 40 [w0, w1] [] (n, K, mr, mi) Q) : zX c k_Pa_isIn 37 [w0, w1] [zI sx0] (n, K, mr, mi) Q := 
  zX.n rfl (zX.ite p_1 p_2)
theorem s_Pa_isIn_40 {w0 : Option zV} {w1 : Option zV} (p_1 : zX c k_Pa_isIn 45 [w0, w1] [zI 1] (n, K, mr, mi) Q) : zX c k_Pa_isIn 40 [w0, w1] [] (n, K, mr, mi) Q := 
  zX.n rfl (zX.n rfl p_1)
theorem s_Pa_isIn_44 {w0 : Option zV} {w1 : Option zV} (p_1 : zX c k_Pa_isIn 45 [w0, w1] [zI 0] (n, K, mr, mi) Q) : zX c k_Pa_isIn 44 [w0, w1] [] (n, K, mr, mi) Q := 
  zX.n rfl p_1
theorem s_Pa_isIn_45 {w0 : Option zV} {w1 : Option zV} {sx0 : Int} (h_1 : sx0 = 0 ∨ sx0 = 1) (p_2 : Q (.inl (some (zI sx0))) (n, K, mr, mi)) : zX c k_Pa_isIn 45 [w0, w1] [zI sx0] (n, K, mr, mi) Q := 
  zX.ret rfl h_1 p_2
theorem s_Pa_end_0 {a0 : Nat} {x1 : Int} {w2 : Option zV} {w3 : Option zV} {w4 : Option zV} (h_1 : K a0 = (15, 10)) (h_2 : 64 ≤ a0) (p_3 : zX c k_Pa_end 12 [some (zR a0), some (zI x1), some (zI 0), w3, w4] [] (n, K, mr, zst mi a0 9 (zw ((mi a0 9) + 1))) Q) : zX c k_Pa_end 0 [some (zR a0), some (zI x1), w2, w3, w4] [] (n, K, mr, mi) Q := 
  zX.n rfl (zX.n rfl (zX.g rfl h_1 (zX.n rfl (zX.n rfl (zX.g rfl ⟨h_2, h_1⟩ (zX.n rfl (zX.n rfl p_3)))))))
theorem s_Pa_end_12 {a0 : Nat} {x1 : Int} {x2 : Int} {w3 : Option zV} {w4 : Option zV} (h_1 : K a0 = (15, 10)) (p_2 : (mi a0 7) ≤ x2 → zX c k_Pa_end 48 [some (zR a0), some (zI x1), some (zI x2), w3, w4] [] (n, K, mr, mi) Q) (p_3 : ¬ (mi a0 7) ≤ x2 → zX c k_Pa_end 20 [some (zR a0), some (zI x1), some (zI x2), w3, w4] [] (n, K, mr, mi) Q) : zX c k_Pa_end 12 [some (zR a0), some (zI x1), some (zI x2), w3, w4] [] (n, K, mr, mi) Q := 
  zX.n rfl (zX.n rfl (zX.g rfl h_1 (zX.n rfl (zX.ite p_2 p_3))))
theorem s_Pa_end_20 {a0 : Nat} {x1 : Int} {x2 : Int} {w3 : Option zV} {w4 : Option zV} {A2 : Nat} {A4 : Nat} {N6 : Nat} {j10 : Nat} {N12 : Nat} {j16 : Nat} {A18 : Nat} {N20 : Nat} (h_1 : K a0 = (15, 10)) (h_3 : mr a0 2 = A2) (h_5 : mr a0 0 = A4) (h_7 : K A4 = (100, N6)) (h_8 : 0 ≤ x2) (h_9 : x2 < (N6 : Int)) (h_11 : Int.toNat x2 = j10) (h_13 : K A2 = (100, N12)) (h_14 : 0 ≤ (mi A4 j10)) (h_15 : (mi A4 j10) < (N12 : Int)) (h_17 : Int.toNat (mi A4 j10) = j16) (h_19 : mr a0 1 = A18) (h_21 : K A18 = (100, N20)) (h_22 : x2 < (N20 : Int)) (h_23 : 64 ≤ A2) (p_24 : zX c k_Pa_end 12 [some (zR a0), some (zI x1), some (zI (zw (x2 + 1))), w3, w4] [] (n, K, mr, zst mi A2 j16 (zor (mi A2 j16) (zshl 1 (mi A18 j10)))) Q) : zX c k_Pa_end 20 [some (zR a0), some (zI x1), some (zI x2), w3, w4] [] (n, K, mr, mi) Q := by
  subst h_3
  subst h_5
  subst h_11
  subst h_17
  subst h_19
  exact zX.n rfl (zX.g rfl h_1 (zX.n rfl (zX.g rfl h_1 (zX.n rfl (zX.g rfl ⟨N6, h_7, h_8, h_9⟩ (zX.n rfl (zX.g rfl ⟨N12, h_13, h_14, h_15⟩ (zX.n rfl (zX.n rfl (zX.g rfl h_1 (zX.n rfl (zX.g rfl ⟨N20, h_21, h_8, h_22⟩ (zX.n rfl (zX.n rfl (zX.g rfl ⟨N12, h_23, h_13, h_14, h_15⟩ (zX.n rfl (zX.n rfl p_24)))))))))))))))))
theorem s_Pa_end_48 {a0 : Nat} {x1 : Int} {w2 : Option zV} {w3 : Option zV} {w4 : Option zV} (p_1 : zX c k_Pa_end 50 [some (zR a0), some (zI x1), some (zI 0), w3, w4] [] (n, K, mr, mi) Q) : zX c k_Pa_end 48 [some (zR a0), some (zI x1), w2, w3, w4] [] (n, K, mr, mi) Q := 
  zX.n rfl (zX.n rfl p_1)
theorem s_Pa_end_50 {a0 : Nat} {x1 : Int} {x2 : Int} {w3 : Option zV} {w4 : Option zV} {A2 : Nat} (h_1 : K a0 = (15, 10)) (h_3 : mr a0 4 = A2) (h_4 : K A2 = (18, 12)) (p_5 : (mi A2 5) ≤ x2 → zX c k_Pa_end 147 [some (zR a0), some (zI x1), some (zI x2), w3, w4] [] (n, K, mr, mi) Q) (p_6 : ¬ (mi A2 5) ≤ x2 → zX c k_Pa_end 61 [some (zR a0), some (zI x1), some (zI x2), w3, w4] [] (n, K, mr, mi) Q) : zX c k_Pa_end 50 [some (zR a0), some (zI x1), some (zI x2), w3, w4] [] (n, K, mr, mi) Q := by
  subst h_3
  exact zX.n rfl (zX.n rfl (zX.g rfl h_1 (zX.g rfl h_4 (zX.n rfl (zX.ite p_5 p_6)))))
theorem s_Pa_end_61 {a0 : Nat} {x1 : Int} {x2 : Int} {w3 : Option zV} {w4 : Option zV} (p_1 : zX c k_Pa_end 67 [some (zR a0), some (zI x1), some (zI x2), some (zI ((-2))), some (zI 0)] [] (n, K, mr, mi) Q) : zX c k_Pa_end 61 [some (zR a0), some (zI x1), some (zI x2), w3, w4] [] (n, K, mr, mi) Q := 
  zX.n rfl (zX.n rfl (zX.n rfl (zX.n rfl p_1)))
theorem s_Pa_end_67 {a0 : Nat} {x1 : Int} {x2 : Int} {x3 : Int} {x4 : Int} (h_1 : K a0 = (15, 10)) (p_2 : (mi a0 7) ≤ x4 → zX c k_Pa_end 109 [some (zR a0), some (zI x1), some (zI x2), some (zI x3), some (zI x4)] [] (n, K, mr, mi) Q) (p_3 : ¬ (mi a0 7) ≤ x4 → zX c k_Pa_end 76 [some (zR a0), some (zI x1), some (zI x2), some (zI x3), some (zI x4)] [] (n, K, mr, mi) Q) : zX c k_Pa_end 67 [some (zR a0), some (zI x1), some (zI x2), some (zI x3), some (zI x4)] [] (n, K, mr, mi) Q := 
  zX.n rfl (zX.n rfl (zX.g rfl h_1 (zX.n rfl (zX.ite p_2 p_3))))
theorem s_Pa_end_76 {a0 : Nat} {x1 : Int} {x2 : Int} {x3 : Int} {x4 : Int} (k_1 : zCall c k_Pa_end 78 81 [some (zR a0), some (zI x1), some (zI x2), some (zI x3), some (zI x4)] [] 0 k_B_has [zI x1, zI x2] (n, K, mr, mi) Q) : zX c k_Pa_end 76 [some (zR a0), some (zI x1), some (zI x2), some (zI x3), some (zI x4)] [] (n, K, mr, mi) Q := 
  zX.n rfl (zX.n rfl (zX.callQ rfl trivial trivial k_1))
theorem s_Pa_end_81 {a0 : Nat} {x1 : Int} {x2 : Int} {x3 : Int} {x4 : Int} {sx0 : Int} (p_1 : sx0 = 0 → zX c k_Pa_end 109 [some (zR a0), some (zI x1), some (zI x2), some (zI x3), some (zI x4)] [] (n, K, mr, mi) Q) (p_2 : ¬ sx0 = 0 → zX c k_Pa_end 84 [some (zR a0), some (zI x1), some (zI x2), some (zI x3), some (zI x4)] [] (n, K, mr, mi) Q) : zX c k_Pa_end 81 [some (zR a0), some (zI x1), some (zI x2), some (zI x3), some (zI x4)] [zI sx0] (n, K, mr, mi) Q := 
  zX.n rfl (zX.ite p_1 p_2)
theorem s_Pa_end_84 {a0 : Nat} {x1 : Int} {x2 : Int} {x3 : Int} {x4 : Int} {A2 : Nat} {N4 : Nat} {j8 : Nat} (h_1 : K a0 = (15, 10)) (h_3 : mr a0 1 = A2) (h_5 : K A2 = (100, N4)) (h_6 : 0 ≤ x4) (h_7 : x4 < (N4 : Int)) (h_9 : Int.toNat x4 = j8) (p_10 : ¬ (mi A2 j8) = x2 → zX c k_Pa_end 103 [some (zR a0), some (zI x1), some (zI x2), some (zI x3), some (zI x4)] [] (n, K, mr, mi) Q) (p_11 : (mi A2 j8) = x2 → zX c k_Pa_end 95 [some (zR a0), some (zI x1), some (zI x2), some (zI x3), some (zI x4)] [] (n, K, mr, mi) Q) : zX c k_Pa_end 84 [some (zR a0), some (zI x1), some (zI x2), some (zI x3), some (zI x4)] [] (n, K, mr, mi) Q := by
  subst h_3
  subst h_9
  exact zX.n rfl (zX.g rfl h_1 (zX.n rfl (zX.g rfl ⟨N4, h_5, h_6, h_7⟩ (zX.n rfl (zX.n rfl (zX.itn p_10 p_11))))))
theorem s_Pa_end_95 {a0 : Nat} {x1 : Int} {x2 : Int} {w3 : Option zV} {x4 : Int} {A2 : Nat} {N4 : Nat} {j8 : Nat} (h_1 : K a0 = (15, 10)) (h_3 : mr a0 0 = A2) (h_5 : K A2 = (100, N4)) (h_6 : 0 ≤ x4) (h_7 : x4 < (N4 : Int)) (h_9 : Int.toNat x4 = j8) (p_10 : zX c k_Pa_end 103 [some (zR a0), some (zI x1), some (zI x2), some (zI (mi A2 j8)), some (zI x4)] [] (n, K, mr, mi) Q) : zX c k_Pa_end 95 [some (zR a0), some (zI x1), some (zI x2), w3, some (zI x4)] [] (n, K, mr, mi) Q := by
  subst h_3
  subst h_9
  exact zX.n rfl (zX.g rfl h_1 (zX.n rfl (zX.g rfl ⟨N4, h_5, h_6, h_7⟩ (zX.n rfl p_10))))
theorem s_Pa_end_103 {a0 : Nat} {x1 : Int} {x2 : Int} {x3 : Int} {x4 : Int} (p_1 : zX c k_Pa_end 67 [some (zR a0), some (zI x1), some (zI x2), some (zI x3), some (zI (zw (x4 + 1)))] [] (n, K, mr, mi) Q) : zX c k_Pa_end 103 [some (zR a0), some (zI x1), some (zI x2), some (zI x3), some (zI x4)] [] (n, K, mr, mi) Q := 
  zX.n rfl (zX.n rfl p_1)
theorem s_Pa_end_109 {a0 : Nat} {x1 : Int} {x2 : Int} {x3 : Int} {w4 : Option zV} {A2 : Nat} {N4 : Nat} {j8 : Nat} (h_1 : K a0 = (15, 10)) (h_3 : mr a0 3 = A2) (h_5 : K A2 = (100, N4)) (h_6 : 0 ≤ x2) (h_7 : x2 < (N4 : Int)) (h_9 : Int.toNat x2 = j8) (p_10 : (mi A2 j8) = ((-1)) → zX c k_Pa_end 134 [some (zR a0), some (zI x1), some (zI x2), some (zI x3), w4] [zI x2, zR A2] (n, K, mr, mi) Q) (p_11 : ¬ (mi A2 j8) = ((-1)) → zX c k_Pa_end 124 [some (zR a0), some (zI x1), some (zI x2), some (zI x3), w4] [zI x2, zR A2] (n, K, mr, mi) Q) : zX c k_Pa_end 109 [some (zR a0), some (zI x1), some (zI x2), some (zI x3), w4] [] (n, K, mr, mi) Q := by
  subst h_3
  subst h_9
  exact zX.n rfl (zX.g rfl h_1 (zX.n rfl (zX.n rfl (zX.g rfl h_1 (zX.n rfl (zX.g rfl ⟨N4, h_5, h_6, h_7⟩ (zX.n rfl (zX.n rfl (zX.ite p_10 p_11)))))))))
theorem s_Pa_end_124 {a0 : Nat} {x1 : Int} {x2 : Int} {x3 : Int} {w4 : Option zV} {sa0 : Nat} {sx1 : Int} {A2 : Nat} {N4 : Nat} {j8 : Nat} (h_1 : K a0 = (15, 10)) (h_3 : mr a0 3 = A2) (h_5 : K A2 = (100, N4)) (h_6 : 0 ≤ x2) (h_7 : x2 < (N4 : Int)) (h_9 : Int.toNat x2 = j8) (p_10 : ¬ (mi A2 j8) = x3 → zX c k_Pa_end 138 [some (zR a0), some (zI x1), some (zI x2), some (zI x3), w4] [zI sx1, zR sa0] (n, K, mr, mi) Q) (p_11 : (mi A2 j8) = x3 → zX c k_Pa_end 134 [some (zR a0), some (zI x1), some (zI x2), some (zI x3), w4] [zI sx1, zR sa0] (n, K, mr, mi) Q) : zX c k_Pa_end 124 [some (zR a0), some (zI x1), some (zI x2), some (zI x3), w4] [zI sx1, zR sa0] (n, K, mr, mi) Q := by
  subst h_3
  subst h_9
  exact zX.n rfl (zX.g rfl h_1 (zX.n rfl (zX.g rfl ⟨N4, h_5, h_6, h_7⟩ (zX.n rfl (zX.n rfl (zX.itn p_10 p_11))))))
theorem s_Pa_end_134 {a0 : Nat} {x1 : Int} {x2 : Int} {x3 : Int} {w4 : Option zV} {sa0 : Nat} {sx1 : Int} (p_1 : zX c k_Pa_end 140 [some (zR a0), some (zI x1), some (zI x2), some (zI x3), w4] [zI x3, zI sx1, zR sa0] (n, K, mr, mi) Q) : zX c k_Pa_end 134 [some (zR a0), some (zI x1), some (zI x2), some (zI x3), w4] [zI sx1, zR sa0] (n, K, mr, mi) Q := 
  zX.n rfl (zX.n rfl p_1)
theorem s_Pa_end_138 {a0 : Nat} {x1 : Int} {x2 : Int} {w3 : Option zV} {w4 : Option zV} {sa0 : Nat} {sx1 : Int} (p_1 : zX c k_Pa_end 140 [some (zR a0), some (zI x1), some (zI x2), w3, w4] [zI ((-2)), zI sx1, zR sa0] (n, K, mr, mi) Q) : zX c k_Pa_end 138 [some (zR a0), some (zI x1), some (zI x2), w3, w4] [zI sx1, zR sa0] (n, K, mr, mi) Q := 
  zX.n rfl p_1
theorem s_Pa_end_140 {a0 : Nat} {x1 : Int} {x2 : Int} {w3 : Option zV} {w4 : Option zV} {sa0 : Nat} {sx1 : Int} {sx2 : Int} {N1 : Nat} {j5 : Nat} (h_2 : K sa0 = (100, N1)) (h_3 : 0 ≤ sx1) (h_4 : sx1 < (N1 : Int)) (h_6 : Int.toNat sx1 = j5) (h_7 : 64 ≤ sa0) (p_8 : zX c k_Pa_end 50 [some (zR a0), some (zI x1), some (zI (zw (x2 + 1))), w3, w4] [] (n, K, mr, zst mi sa0 j5 sx2) Q) : zX c k_Pa_end 140 [some (zR a0), some (zI x1), some (zI x2), w3, w4] [zI sx2, zI sx1, zR sa0] (n, K, mr, mi) Q := by
  subst h_6
  exact zX.g rfl ⟨N1, h_7, h_2, h_3, h_4⟩ (zX.n rfl (zX.n rfl p_8))
theorem s_Pa_end_147 {w0 : Option zV} {w1 : Option zV} {w2 : Option zV} {w3 : Option zV} {w4 : Option zV} (p_1 : Q (.inl none) (n, K, mr, mi)) : zX c k_Pa_end 147 [w0, w1, w2, w3, w4] [] (n, K, mr, mi) Q := 
  zX.ret rfl trivial p_1
theorem s_Pa_canHave_0 {a0 : Nat} {x1 : Int} {x2 : Int} {A2 : Nat} (h_1 : K a0 = (15, 10)) (h_3 : mr a0 5 = A2) (h_4 : K A2 = (6, 13)) (k_5 : zCall c k_Pa_canHave 9 12 [some (zR a0), some (zI x1), some (zI x2)] [] 0 k_Mo_at [zR A2, zI (mi a0 6), zI x2] (n, K, mr, mi) Q) : zX c k_Pa_canHave 0 [some (zR a0), some (zI x1), some (zI x2)] [] (n, K, mr, mi) Q := by
  subst h_3
  exact zX.n rfl (zX.g rfl h_1 (zX.n rfl (zX.g rfl h_1 (zX.n rfl (zX.callQ rfl (congrArg Prod.fst h_4) trivial k_5)))))
theorem s_Pa_canHave_12 {a0 : Nat} {x1 : Int} {x2 : Int} {sx0 : Int} (p_1 : ¬ sx0 = ((-2)) → zX c k_Pa_canHave 19 [some (zR a0), some (zI x1), some (zI x2)] [] (n, K, mr, mi) Q) (p_2 : sx0 = ((-2)) → zX c k_Pa_canHave 17 [some (zR a0), some (zI x1), some (zI x2)] [] (n, K, mr, mi) Q) : zX c k_Pa_canHave 12 [some (zR a0), some (zI x1), some (zI x2)] [zI sx0] (n, K, mr, mi) Q := 
  zX.n rfl (zX.n rfl (zX.itn p_1 p_2))
theorem s_Pa_canHave_17 {w0 : Option zV} {w1 : Option zV} {w2 : Option zV} (p_1 : Q (.inl (some (zI 0))) (n, K, mr, mi)) : zX c k_Pa_canHave 17 [w0, w1, w2] [] (n, K, mr, mi) Q := 
  zX.n rfl (zX.ret rfl (Or.inl rfl) p_1)
theorem s_Pa_canHave_19 {a0 : Nat} {x1 : Int} {x2 : Int} (h_1 : K a0 = (15, 10)) (k_2 : zCall c k_Pa_canHave 24 27 [some (zR a0), some (zI x1), some (zI x2)] [] 0 k_B_has [zI (mi a0 8), zI x1] (n, K, mr, mi) Q) : zX c k_Pa_canHave 19 [some (zR a0), some (zI x1), some (zI x2)] [] (n, K, mr, mi) Q := 
  zX.n rfl (zX.g rfl h_1 (zX.n rfl (zX.callQ rfl trivial trivial k_2)))
theorem s_Pa_canHave_27 {a0 : Nat} {x1 : Int} {x2 : Int} {sx0 : Int} (p_1 : sx0 = 0 → zX c k_Pa_canHave 54 [some (zR a0), some (zI x1), some (zI x2)] [] (n, K, mr, mi) Q) (p_2 : ¬ sx0 = 0 → zX c k_Pa_canHave 30 [some (zR a0), some (zI x1), some (zI x2)] [] (n, K, mr, mi) Q) : zX c k_Pa_canHave 27 [some (zR a0), some (zI x1), some (zI x2)] [zI sx0] (n, K, mr, mi) Q := 
  zX.n rfl (zX.ite p_1 p_2)
theorem s_Pa_canHave_30 {a0 : Nat} {x1 : Int} {x2 : Int} {A2 : Nat} (h_1 : K a0 = (15, 10)) (h_3 : mr a0 5 = A2) (h_4 : K A2 = (6, 13)) (k_5 : zCall c k_Pa_canHave 39 42 [some (zR a0), some (zI x1), some (zI x2)] [] 0 k_Mo_place [zR A2, zI (mi a0 6), zI x1] (n, K, mr, mi) Q) : zX c k_Pa_canHave 30 [some (zR a0), some (zI x1), some (zI x2)] [] (n, K, mr, mi) Q := by
  subst h_3
  exact zX.n rfl (zX.g rfl h_1 (zX.n rfl (zX.g rfl h_1 (zX.n rfl (zX.callQ rfl (congrArg Prod.fst h_4) trivial k_5)))))
theorem s_Pa_canHave_42 {w0 : Option zV} {w1 : Option zV} {x2 : Int} {sx0 : Int} (p_1 : ¬ sx0 = x2 → zX c k_Pa_canHave 50 [w0, w1, some (zI x2)] [] (n, K, mr, mi) Q) (p_2 : sx0 = x2 → zX c k_Pa_canHave 46 [w0, w1, some (zI x2)] [] (n, K, mr, mi) Q) : zX c k_Pa_canHave 42 [w0, w1, some (zI x2)] [zI sx0] (n, K, mr, mi) Q := 
  zX.n rfl (zX.n rfl (zX.itn p_1 p_2))
theorem s_Pa_canHave_46 {w0 : Option zV} {w1 : Option zV} {w2 : Option zV} (p_1 : zX c k_Pa_canHave 78 [w0, w1, w2] [zI 1] (n, K, mr, mi) Q) : zX c k_Pa_canHave 46 [w0, w1, w2] [] (n, K, mr, mi) Q := 
  zX.n rfl (zX.n rfl p_1)
theorem s_Pa_canHave_50 {w0 : Option zV} {w1 : Option zV} {w2 : Option zV} (p_1 : zX c k_Pa_canHave 78 [w0, w1, w2] [zI 0] (n, K, mr, mi) Q) : zX c k_Pa_canHave 50 [w0, w1, w2] [] (n, K, mr, mi) Q := 
  zX.n rfl (zX.n rfl p_1)
theorem s_Pa_canHave_54 {a0 : Nat} {x1 : Int} {x2 : Int} {A2 : Nat} {A5 : Nat} {N7 : Nat} {j11 : Nat} {A13 : Nat} {A15 : Nat} (h_1 : K a0 = (15, 10)) (h_3 : mr a0 4 = A2) (h_4 : K A2 = (18, 12)) (h_6 : mr A2 0 = A5) (h_8 : K A5 = (110, N7)) (h_9 : 0 ≤ x1) (h_10 : x1 < (N7 : Int)) (h_12 : Int.toNat x1 = j11) (h_14 : mr A5 j11 = A13) (h_16 : mr a0 5 = A15) (h_17 : K A15 = (6, 13)) (k_18 : zCall c k_Pa_canHave 72 75 [some (zR a0), some (zI x1), some (zI x2)] [zR A13] 0 k_Mo_colour [zR A15, zI (mi a0 6), zI x2] (n, K, mr, mi) Q) : zX c k_Pa_canHave 54 [some (zR a0), some (zI x1), some (zI x2)] [] (n, K, mr, mi) Q := by
  subst h_3
  subst h_6
  subst h_12
  subst h_14
  subst h_16
  exact zX.n rfl (zX.g rfl h_1 (zX.g rfl h_4 (zX.n rfl (zX.g rfl ⟨N7, h_8, h_9, h_10⟩ (zX.n rfl (zX.g rfl h_1 (zX.n rfl (zX.g rfl h_1 (zX.n rfl (zX.callQ rfl (congrArg Prod.fst h_17) trivial k_18))))))))))
theorem s_Pa_canHave_75 {w0 : Option zV} {w1 : Option zV} {w2 : Option zV} {sa0 : Nat} {sx1 : Int} (h_1 : K sa0 = (19, 12)) (k_2 : zCall c k_Pa_canHave 75 78 [w0, w1, w2] [] 0 k_Pe_doesLike [zR sa0, zI sx1] (n, K, mr, mi) Q) : zX c k_Pa_canHave 75 [w0, w1, w2] [zI sx1, zR sa0] (n, K, mr, mi) Q := 
  zX.callQ rfl (congrArg Prod.fst h_1) trivial k_2
theorem s_Pa_canHave_78 {w0 : Option zV} {w1 : Option zV} {w2 : Option zV} {sx0 : Int} (h_1 : sx0 = 0 ∨ sx0 = 1) (p_2 : Q (.inl (some (zI sx0))) (n, K, mr, mi)) : zX c k_Pa_canHave 78 [w0, w1, w2] [zI sx0] (n, K, mr, mi) Q := 
  zX.ret rfl h_1 p_2
theorem s_Pa_tries_0 {a0 : Nat} {x1 : Int} {x2 : Int} {w3 : Option zV} (h_1 : K a0 = (15, 10)) (p_2 : ¬ x1 = (mi a0 7) → zX c k_Pa_tries 14 [some (zR a0), some (zI x1), some (zI x2), w3] [] (n, K, mr, mi) Q) (p_3 : x1 = (mi a0 7) → zX c k_Pa_tries 8 [some (zR a0), some (zI x1), some (zI x2), w3] [] (n, K, mr, mi) Q) : zX c k_Pa_tries 0 [some (zR a0), some (zI x1), some (zI x2), w3] [] (n, K, mr, mi) Q := 
  zX.n rfl (zX.n rfl (zX.g rfl h_1 (zX.n rfl (zX.itn p_2 p_3))))
theorem s_Pa_tries_8 {a0 : Nat} {w1 : Option zV} {x2 : Int} {w3 : Option zV} (h_1 : K a0 = (15, 10)) (k_2 : zCall c k_Pa_tries 10 13 [some (zR a0), w1, some (zI x2), w3] [] 0 k_Pa_end [zR a0, zI x2] (n, K, mr, mi) Q) : zX c k_Pa_tries 8 [some (zR a0), w1, some (zI x2), w3] [] (n, K, mr, mi) Q := 
  zX.n rfl (zX.n rfl (zX.callQ rfl (congrArg Prod.fst h_1) trivial k_2))
theorem s_Pa_tries_13 {w0 : Option zV} {w1 : Option zV} {w2 : Option zV} {w3 : Option zV} (p_1 : Q (.inl none) (n, K, mr, mi)) : zX c k_Pa_tries 13 [w0, w1, w2, w3] [] (n, K, mr, mi) Q := 
  zX.ret rfl trivial p_1
theorem s_Pa_tries_14 {a0 : Nat} {x1 : Int} {x2 : Int} {w3 : Option zV} (p_1 : zX c k_Pa_tries 16 [some (zR a0), some (zI x1), some (zI x2), some (zI 0)] [] (n, K, mr, mi) Q) : zX c k_Pa_tries 14 [some (zR a0), some (zI x1), some (zI x2), w3] [] (n, K, mr, mi) Q := 
  zX.n rfl (zX.n rfl p_1)
theorem s_Pa_tries_16 {a0 : Nat} {x1 : Int} {x2 : Int} {x3 : Int} {A2 : Nat} (h_1 : K a0 = (15, 10)) (h_3 : mr a0 4 = A2) (h_4 : K A2 = (18, 12)) (p_5 : (mi A2 5) ≤ x3 → zX c k_Pa_tries 77 [some (zR a0), some (zI x1), some (zI x2), some (zI x3)] [] (n, K, mr, mi) Q) (p_6 : ¬ (mi A2 5) ≤ x3 → zX c k_Pa_tries 27 [some (zR a0), some (zI x1), some (zI x2), some (zI x3)] [] (n, K, mr, mi) Q) : zX c k_Pa_tries 16 [some (zR a0), some (zI x1), some (zI x2), some (zI x3)] [] (n, K, mr, mi) Q := by
  subst h_3
  exact zX.n rfl (zX.n rfl (zX.g rfl h_1 (zX.g rfl h_4 (zX.n rfl (zX.ite p_5 p_6)))))
theorem s_Pa_tries_27 {a0 : Nat} {x1 : Int} {x2 : Int} {x3 : Int} (k_1 : zCall c k_Pa_tries 29 32 [some (zR a0), some (zI x1), some (zI x2), some (zI x3)] [] 0 k_B_has [zI x2, zI x3] (n, K, mr, mi) Q) : zX c k_Pa_tries 27 [some (zR a0), some (zI x1), some (zI x2), some (zI x3)] [] (n, K, mr, mi) Q := 
  zX.n rfl (zX.n rfl (zX.callQ rfl trivial trivial k_1))
theorem s_Pa_tries_32 {a0 : Nat} {x1 : Int} {x2 : Int} {x3 : Int} {sx0 : Int} (p_1 : ¬ sx0 = 0 → zX c k_Pa_tries 71 [some (zR a0), some (zI x1), some (zI x2), some (zI x3)] [] (n, K, mr, mi) Q) (p_2 : sx0 = 0 → zX c k_Pa_tries 35 [some (zR a0), some (zI x1), some (zI x2), some (zI x3)] [] (n, K, mr, mi) Q) : zX c k_Pa_tries 32 [some (zR a0), some (zI x1), some (zI x2), some (zI x3)] [zI sx0] (n, K, mr, mi) Q := 
  zX.n rfl (zX.itn p_1 p_2)
theorem s_Pa_tries_35 {a0 : Nat} {x1 : Int} {x2 : Int} {x3 : Int} {A2 : Nat} {N4 : Nat} {j8 : Nat} (h_1 : K a0 = (15, 10)) (h_3 : mr a0 0 = A2) (h_5 : K A2 = (100, N4)) (h_6 : 0 ≤ x1) (h_7 : x1 < (N4 : Int)) (h_9 : Int.toNat x1 = j8) (k_10 : zCall c k_Pa_tries 43 46 [some (zR a0), some (zI x1), some (zI x2), some (zI x3)] [] 0 k_Pa_canHave [zR a0, zI (mi A2 j8), zI x3] (n, K, mr, mi) Q) : zX c k_Pa_tries 35 [some (zR a0), some (zI x1), some (zI x2), some (zI x3)] [] (n, K, mr, mi) Q := by
  subst h_3
  subst h_9
  exact zX.n rfl (zX.n rfl (zX.g rfl h_1 (zX.n rfl (zX.g rfl ⟨N4, h_5, h_6, h_7⟩ (zX.n rfl (zX.callQ rfl (congrArg Prod.fst h_1) trivial k_10))))))
theorem s_Pa_tries_46 {a0 : Nat} {x1 : Int} {x2 : Int} {x3 : Int} {sx0 : Int} (p_1 : ¬ sx0 = 0 → zX c k_Pa_tries 52 [some (zR a0), some (zI x1), some (zI x2), some (zI x3)] [] (n, K, mr, mi) Q) (p_2 : sx0 = 0 → zX c k_Pa_tries 49 [some (zR a0), some (zI x1), some (zI x2), some (zI x3)] [] (n, K, mr, mi) Q) : zX c k_Pa_tries 46 [some (zR a0), some (zI x1), some (zI x2), some (zI x3)] [zI sx0] (n, K, mr, mi) Q := 
  zX.n rfl (zX.itn p_1 p_2)
theorem s_Pa_tries_49 {a0 : Nat} {x1 : Int} {x2 : Int} {x3 : Int} (p_1 : zX c k_Pa_tries 71 [some (zR a0), some (zI x1), some (zI x2), some (zI x3)] [] (n, K, mr, mi) Q) : zX c k_Pa_tries 49 [some (zR a0), some (zI x1), some (zI x2), some (zI x3)] [] (n, K, mr, mi) Q := 
  zX.n rfl p_1
theorem s_Pa_tries_52 {a0 : Nat} {x1 : Int} {x2 : Int} {x3 : Int} {A2 : Nat} {N4 : Nat} {j8 : Nat} (h_1 : K a0 = (15, 10)) (h_3 : mr a0 1 = A2) (h_5 : K A2 = (100, N4)) (h_6 : 0 ≤ x1) (h_7 : x1 < (N4 : Int)) (h_9 : Int.toNat x1 = j8) (h_10 : 64 ≤ A2) (h_11 : 0 < c) (k_12 : zCall c k_Pa_tries 68 71 [some (zR a0), some (zI x1), some (zI x2), some (zI x3)] [] (c - 1) k_Pa_tries [zR a0, zI (zw (x1 + 1)), zI (zor x2 (zshl 1 x3))] (n, K, mr, zst mi A2 j8 x3) Q) : zX c k_Pa_tries 52 [some (zR a0), some (zI x1), some (zI x2), some (zI x3)] [] (n, K, mr, mi) Q := by
  subst h_3
  subst h_9
  exact zX.n rfl (zX.g rfl h_1 (zX.n rfl (zX.n rfl (zX.g rfl ⟨N4, h_10, h_5, h_6, h_7⟩ (zX.n rfl (zX.n rfl (zX.n rfl (zX.n rfl (zX.n rfl (zX.n rfl (zX.n rfl (zX.n rfl (zX.n rfl (zX.callQ rfl (congrArg Prod.fst h_1) h_11 k_12))))))))))))))
theorem s_Pa_tries_71 {a0 : Nat} {x1 : Int} {x2 : Int} {x3 : Int} (p_1 : zX c k_Pa_tries 16 [some (zR a0), some (zI x1), some (zI x2), some (zI (zw (x3 + 1)))] [] (n, K, mr, mi) Q) : zX c k_Pa_tries 71 [some (zR a0), some (zI x1), some (zI x2), some (zI x3)] [] (n, K, mr, mi) Q := 
  zX.n rfl (zX.n rfl p_1)
theorem s_Pa_tries_77 {w0 : Option zV} {w1 : Option zV} {w2 : Option zV} {w3 : Option zV} (p_1 : Q (.inl none) (n, K, mr, mi)) : zX c k_Pa_tries 77 [w0, w1, w2, w3] [] (n, K, mr, mi) Q := 
  zX.ret rfl trivial p_1
theorem s_Pa_lay_0 {a0 : Nat} {a1 : Nat} {a2 : Nat} {x3 : Int} {x4 : Int} {w5 : Option zV} (h_1 : K a0 = (15, 10)) (h_2 : 64 ≤ a0) (p_3 : zX c k_Pa_lay 34 [some (zR a0), some (zR a1), some (zR a2), some (zI x3), some (zI x4), some (zI 0)] [] (n, K, zst (zst mr a0 4 a1) a0 5 a2, zst (zst (zst (zst mi a0 6 x3) a0 8 x4) a0 9 0) a0 7 0) Q) : zX c k_Pa_lay 0 [some (zR a0), some (zR a1), some (zR a2), some (zI x3), some (zI x4), w5] [] (n, K, mr, mi) Q := 
  zX.n rfl (zX.n rfl (zX.g rfl ⟨h_2, h_1⟩ (zX.n rfl (zX.n rfl (zX.g rfl ⟨h_2, h_1⟩ (zX.n rfl (zX.n rfl (zX.g rfl ⟨h_2, h_1⟩ (zX.n rfl (zX.n rfl (zX.g rfl ⟨h_2, h_1⟩ (zX.n rfl (zX.n rfl (zX.g rfl ⟨h_2, h_1⟩ (zX.n rfl (zX.n rfl (zX.g rfl ⟨h_2, h_1⟩ (zX.n rfl (zX.n rfl p_3)))))))))))))))))))
theorem s_Pa_lay_34 {a0 : Nat} {a1 : Nat} {w2 : Option zV} {w3 : Option zV} {w4 : Option zV} {x5 : Int} (h_1 : K a1 = (18, 12)) (p_2 : (mi a1 8) ≤ x5 → zX c k_Pa_lay 90 [some (zR a0), some (zR a1), w2, w3, w4, some (zI x5)] [] (n, K, mr, mi) Q) (p_3 : ¬ (mi a1 8) ≤ x5 → zX c k_Pa_lay 43 [some (zR a0), some (zR a1), w2, w3, w4, some (zI x5)] [] (n, K, mr, mi) Q) : zX c k_Pa_lay 34 [some (zR a0), some (zR a1), w2, w3, w4, some (zI x5)] [] (n, K, mr, mi) Q := 
  zX.n rfl (zX.n rfl (zX.g rfl h_1 (zX.n rfl (zX.ite p_2 p_3))))
theorem s_Pa_lay_43 {a0 : Nat} {a1 : Nat} {w2 : Option zV} {w3 : Option zV} {w4 : Option zV} {x5 : Int} {A2 : Nat} {N4 : Nat} {j8 : Nat} (h_1 : K a0 = (15, 10)) (h_3 : mr a0 2 = A2) (h_5 : K A2 = (100, N4)) (h_6 : 0 ≤ x5) (h_7 : x5 < (N4 : Int)) (h_9 : Int.toNat x5 = j8) (h_10 : 64 ≤ A2) (k_11 : zCall c k_Pa_lay 54 57 [some (zR a0), some (zR a1), w2, w3, w4, some (zI x5)] [] 0 k_Pa_isIn [zR a0, zI x5] (n, K, mr, zst mi A2 j8 0) Q) : zX c k_Pa_lay 43 [some (zR a0), some (zR a1), w2, w3, w4, some (zI x5)] [] (n, K, mr, mi) Q := by
  subst h_3
  subst h_9
  exact zX.n rfl (zX.g rfl h_1 (zX.n rfl (zX.n rfl (zX.g rfl ⟨N4, h_10, h_5, h_6, h_7⟩ (zX.n rfl (zX.n rfl (zX.callQ rfl (congrArg Prod.fst h_1) trivial k_11)))))))
theorem s_Pa_lay_57 {a0 : Nat} {a1 : Nat} {w2 : Option zV} {w3 : Option zV} {w4 : Option zV} {x5 : Int} {sx0 : Int} (p_1 : ¬ sx0 = 0 → zX c k_Pa_lay 63 [some (zR a0), some (zR a1), w2, w3, w4, some (zI x5)] [] (n, K, mr, mi) Q) (p_2 : sx0 = 0 → zX c k_Pa_lay 60 [some (zR a0), some (zR a1), w2, w3, w4, some (zI x5)] [] (n, K, mr, mi) Q) : zX c k_Pa_lay 57 [some (zR a0), some (zR a1), w2, w3, w4, some (zI x5)] [zI sx0] (n, K, mr, mi) Q := 
  zX.n rfl (zX.itn p_1 p_2)
theorem s_Pa_lay_60 {a0 : Nat} {a1 : Nat} {w2 : Option zV} {w3 : Option zV} {w4 : Option zV} {x5 : Int} (p_1 : zX c k_Pa_lay 84 [some (zR a0), some (zR a1), w2, w3, w4, some (zI x5)] [] (n, K, mr, mi) Q) : zX c k_Pa_lay 60 [some (zR a0), some (zR a1), w2, w3, w4, some (zI x5)] [] (n, K, mr, mi) Q := 
  zX.n rfl p_1
theorem s_Pa_lay_63 {a0 : Nat} {a1 : Nat} {w2 : Option zV} {w3 : Option zV} {w4 : Option zV} {x5 : Int} {A2 : Nat} {N4 : Nat} {j8 : Nat} (h_1 : K a0 = (15, 10)) (h_3 : mr a0 0 = A2) (h_5 : K A2 = (100, N4)) (h_6 : 0 ≤ (mi a0 7)) (h_7 : (mi a0 7) < (N4 : Int)) (h_9 : Int.toNat (mi a0 7) = j8) (h_10 : 64 ≤ A2) (h_11 : 64 ≤ a0) (p_12 : zX c k_Pa_lay 84 [some (zR a0), some (zR a1), w2, w3, w4, some (zI x5)] [] (n, K, mr, zst (zst mi A2 j8 x5) a0 7 (zw (((zst mi A2 j8 x5) a0 7) + 1))) Q) : zX c k_Pa_lay 63 [some (zR a0), some (zR a1), w2, w3, w4, some (zI x5)] [] (n, K, mr, mi) Q := by
  subst h_3
  subst h_9
  exact zX.n rfl (zX.g rfl h_1 (zX.n rfl (zX.g rfl h_1 (zX.n rfl (zX.g rfl ⟨N4, h_10, h_5, h_6, h_7⟩ (zX.n rfl (zX.n rfl (zX.g rfl h_1 (zX.n rfl (zX.n rfl (zX.g rfl ⟨h_11, h_1⟩ p_12)))))))))))
theorem s_Pa_lay_84 {a0 : Nat} {a1 : Nat} {w2 : Option zV} {w3 : Option zV} {w4 : Option zV} {x5 : Int} (p_1 : zX c k_Pa_lay 34 [some (zR a0), some (zR a1), w2, w3, (zkill w4), some (zI (zw (x5 + 1)))] [] (n, K, mr, mi) Q) : zX c k_Pa_lay 84 [some (zR a0), some (zR a1), w2, w3, w4, some (zI x5)] [] (n, K, mr, mi) Q := 
  zX.n rfl (zX.n rfl p_1)
theorem s_Pa_lay_90 {a0 : Nat} {w1 : Option zV} {w2 : Option zV} {w3 : Option zV} {w4 : Option zV} {w5 : Option zV} (p_1 : zX c k_Pa_lay 93 [some (zR a0), w1, w2, w3, (zkill w4), some (zI 0)] [] (n, K, mr, mi) Q) : zX c k_Pa_lay 90 [some (zR a0), w1, w2, w3, w4, w5] [] (n, K, mr, mi) Q := 
  zX.n rfl (zX.n rfl p_1)
theorem s_Pa_lay_93 {a0 : Nat} {w1 : Option zV} {w2 : Option zV} {w3 : Option zV} {w4 : Option zV} {x5 : Int} (p_1 : (8 : Int) ≤ x5 → zX c k_Pa_lay 114 [some (zR a0), w1, w2, w3, w4, some (zI x5)] [] (n, K, mr, mi) Q) (p_2 : ¬ (8 : Int) ≤ x5 → zX c k_Pa_lay 100 [some (zR a0), w1, w2, w3, w4, some (zI x5)] [] (n, K, mr, mi) Q) : zX c k_Pa_lay 93 [some (zR a0), w1, w2, w3, w4, some (zI x5)] [] (n, K, mr, mi) Q := 
  zX.n rfl (zX.n rfl (zX.n rfl (zX.ite p_1 p_2)))
theorem s_Pa_lay_100 {a0 : Nat} {w1 : Option zV} {w2 : Option zV} {w3 : Option zV} {w4 : Option zV} {x5 : Int} {A2 : Nat} {N4 : Nat} {j8 : Nat} (h_1 : K a0 = (15, 10)) (h_3 : mr a0 3 = A2) (h_5 : K A2 = (100, N4)) (h_6 : 0 ≤ x5) (h_7 : x5 < (N4 : Int)) (h_9 : Int.toNat x5 = j8) (h_10 : 64 ≤ A2) (p_11 : zX c k_Pa_lay 93 [some (zR a0), w1, w2, w3, (zkill w4), some (zI (zw (x5 + 1)))] [] (n, K, mr, zst mi A2 j8 ((-1))) Q) : zX c k_Pa_lay 100 [some (zR a0), w1, w2, w3, w4, some (zI x5)] [] (n, K, mr, mi) Q := by
  subst h_3
  subst h_9
  exact zX.n rfl (zX.g rfl h_1 (zX.n rfl (zX.n rfl (zX.g rfl ⟨N4, h_10, h_5, h_6, h_7⟩ (zX.n rfl (zX.n rfl p_11))))))
theorem s_Pa_lay_114 {a0 : Nat} {w1 : Option zV} {w2 : Option zV} {w3 : Option zV} {w4 : Option zV} {w5 : Option zV} (h_1 : K a0 = (15, 10)) (k_2 : zCall c k_Pa_lay 117 120 [some (zR a0), w1, w2, w3, w4, w5] [] 10 k_Pa_tries [zR a0, zI 0, zI 0] (n, K, mr, mi) Q) : zX c k_Pa_lay 114 [some (zR a0), w1, w2, w3, w4, w5] [] (n, K, mr, mi) Q := 
  zX.n rfl (zX.n rfl (zX.n rfl (zX.callQ rfl (congrArg Prod.fst h_1) trivial k_2)))
theorem s_Pa_lay_120 {w0 : Option zV} {w1 : Option zV} {w2 : Option zV} {w3 : Option zV} {w4 : Option zV} {w5 : Option zV} (p_1 : Q (.inl none) (n, K, mr, mi)) : zX c k_Pa_lay 120 [w0, w1, w2, w3, w4, w5] [] (n, K, mr, mi) Q := 
  zX.ret rfl trivial p_1
theorem s_Pa_could_0 {a0 : Nat} {x1 : Int} {A2 : Nat} {N4 : Nat} {j8 : Nat} (h_1 : K a0 = (15, 10)) (h_3 : mr a0 2 = A2) (h_5 : K A2 = (100, N4)) (h_6 : 0 ≤ x1) (h_7 : x1 < (N4 : Int)) (h_9 : Int.toNat x1 = j8) (p_10 : Q (.inl (some (zI (mi A2 j8)))) (n, K, mr, mi)) : zX c k_Pa_could 0 [some (zR a0), some (zI x1)] [] (n, K, mr, mi) Q := by
  subst h_3
  subst h_9
  exact zX.n rfl (zX.g rfl h_1 (zX.n rfl (zX.g rfl ⟨N4, h_5, h_6, h_7⟩ (zX.ret rfl trivial p_10))))
theorem s_Pa_surely_0 {a0 : Nat} {x1 : Int} {A2 : Nat} {N4 : Nat} {j8 : Nat} (h_1 : K a0 = (15, 10)) (h_3 : mr a0 3 = A2) (h_5 : K A2 = (100, N4)) (h_6 : 0 ≤ x1) (h_7 : x1 < (N4 : Int)) (h_9 : Int.toNat x1 = j8) (p_10 : ¬ (mi A2 j8) = ((-1)) → zX c k_Pa_surely 15 [some (zR a0), some (zI x1)] [] (n, K, mr, mi) Q) (p_11 : (mi A2 j8) = ((-1)) → zX c k_Pa_surely 10 [some (zR a0), some (zI x1)] [] (n, K, mr, mi) Q) : zX c k_Pa_surely 0 [some (zR a0), some (zI x1)] [] (n, K, mr, mi) Q := by
  subst h_3
  subst h_9
  exact zX.n rfl (zX.g rfl h_1 (zX.n rfl (zX.g rfl ⟨N4, h_5, h_6, h_7⟩ (zX.n rfl (zX.n rfl (zX.itn p_10 p_11))))))
theorem s_Pa_surely_10 {w0 : Option zV} {w1 : Option zV} (p_1 : zX c k_Pa_surely 21 [w0, w1] [zI ((-2))] (n, K, mr, mi) Q) : zX c k_Pa_surely 10 [w0, w1] [] (n, K, mr, mi) Q := 
  zX.n rfl (zX.n rfl p_1)
theorem s_Pa_surely_15 {a0 : Nat} {x1 : Int} {A2 : Nat} {N4 : Nat} {j8 : Nat} (h_1 : K a0 = (15, 10)) (h_3 : mr a0 3 = A2) (h_5 : K A2 = (100, N4)) (h_6 : 0 ≤ x1) (h_7 : x1 < (N4 : Int)) (h_9 : Int.toNat x1 = j8) (p_10 : zX c k_Pa_surely 21 [some (zR a0), some (zI x1)] [zI (mi A2 j8)] (n, K, mr, mi) Q) : zX c k_Pa_surely 15 [some (zR a0), some (zI x1)] [] (n, K, mr, mi) Q := by
  subst h_3
  subst h_9
  exact zX.n rfl (zX.g rfl h_1 (zX.n rfl (zX.g rfl ⟨N4, h_5, h_6, h_7⟩ p_10)))
theorem s_Pa_surely_21 {w0 : Option zV} {w1 : Option zV} {sx0 : Int} (p_1 : Q (.inl (some (zI sx0))) (n, K, mr, mi)) : zX c k_Pa_surely 21 [w0, w1] [zI sx0] (n, K, mr, mi) Q := 
  zX.ret rfl trivial p_1
theorem s_Pa_all_0 {a0 : Nat} {w1 : Option zV} {w2 : Option zV} (p_1 : zX c k_Pa_all 4 [some (zR a0), some (zI 0), some (zI 0)] [] (n, K, mr, mi) Q) : zX c k_Pa_all 0 [some (zR a0), w1, w2] [] (n, K, mr, mi) Q := 
  zX.n rfl (zX.n rfl (zX.n rfl (zX.n rfl p_1)))
theorem s_Pa_all_4 {a0 : Nat} {x1 : Int} {x2 : Int} (h_1 : K a0 = (15, 10)) (p_2 : (mi a0 7) ≤ x2 → zX c k_Pa_all 29 [some (zR a0), some (zI x1), some (zI x2)] [] (n, K, mr, mi) Q) (p_3 : ¬ (mi a0 7) ≤ x2 → zX c k_Pa_all 12 [some (zR a0), some (zI x1), some (zI x2)] [] (n, K, mr, mi) Q) : zX c k_Pa_all 4 [some (zR a0), some (zI x1), some (zI x2)] [] (n, K, mr, mi) Q := 
  zX.n rfl (zX.n rfl (zX.g rfl h_1 (zX.n rfl (zX.ite p_2 p_3))))
theorem s_Pa_all_12 {a0 : Nat} {x1 : Int} {x2 : Int} {A2 : Nat} {N4 : Nat} {j8 : Nat} (h_1 : K a0 = (15, 10)) (h_3 : mr a0 0 = A2) (h_5 : K A2 = (100, N4)) (h_6 : 0 ≤ x2) (h_7 : x2 < (N4 : Int)) (h_9 : Int.toNat x2 = j8) (p_10 : zX c k_Pa_all 4 [some (zR a0), some (zI (zor x1 (zshl 1 (mi A2 j8)))), some (zI (zw (x2 + 1)))] [] (n, K, mr, mi) Q) : zX c k_Pa_all 12 [some (zR a0), some (zI x1), some (zI x2)] [] (n, K, mr, mi) Q := by
  subst h_3
  subst h_9
  exact zX.n rfl (zX.n rfl (zX.n rfl (zX.g rfl h_1 (zX.n rfl (zX.g rfl ⟨N4, h_5, h_6, h_7⟩ (zX.n rfl (zX.n rfl (zX.n rfl (zX.n rfl (zX.n rfl p_10))))))))))
theorem s_Pa_all_29 {w0 : Option zV} {x1 : Int} {w2 : Option zV} (p_1 : Q (.inl (some (zI x1))) (n, K, mr, mi)) : zX c k_Pa_all 29 [w0, some (zI x1), w2] [] (n, K, mr, mi) Q := 
  zX.n rfl (zX.ret rfl trivial p_1)
theorem s_Pl_add_0 {a0 : Nat} {x1 : Int} {x2 : Int} {x3 : Int} {A2 : Nat} {N4 : Nat} {j8 : Nat} {A10 : Nat} (h_1 : K a0 = (5, 6)) (h_3 : mr a0 3 = A2) (h_5 : K A2 = (105, N4)) (h_6 : 0 ≤ (mi a0 4)) (h_7 : (mi a0 4) < (N4 : Int)) (h_9 : Int.toNat (mi a0 4) = j8) (h_11 : mr A2 j8 = A10) (h_12 : K A10 = (1, 3)) (k_13 : zCall c k_Pl_add 12 15 [some (zR a0), some (zI x1), some (zI x2), some (zI x3)] [] 0 k_Mv_be [zR A10, zI x1, zI x2, zI x3] (n, K, mr, mi) Q) : zX c k_Pl_add 0 [some (zR a0), some (zI x1), some (zI x2), some (zI x3)] [] (n, K, mr, mi) Q := by
  subst h_3
  subst h_9
  subst h_11
  exact zX.n rfl (zX.g rfl h_1 (zX.n rfl (zX.g rfl h_1 (zX.g rfl ⟨N4, h_5, h_6, h_7⟩ (zX.n rfl (zX.n rfl (zX.n rfl (zX.callQ rfl (congrArg Prod.fst h_12) trivial k_13))))))))
theorem s_Pl_add_15 {a0 : Nat} {w1 : Option zV} {w2 : Option zV} {w3 : Option zV} (h_1 : K a0 = (5, 6)) (h_2 : 64 ≤ a0) (p_3 : Q (.inl none) (n, K, mr, zst mi a0 4 (zw ((mi a0 4) + 1)))) : zX c k_Pl_add 15 [some (zR a0), w1, w2, w3] [] (n, K, mr, mi) Q := 
  zX.n rfl (zX.n rfl (zX.g rfl h_1 (zX.n rfl (zX.n rfl (zX.g rfl ⟨h_2, h_1⟩ (zX.ret rfl trivial p_3))))))
theorem s_Pl_draw_0 {a0 : Nat} (h_1 : K a0 = (5, 6)) (h_2 : 64 ≤ a0) (p_3 : Q (.inl (some (zI ((zst mi a0 5 (zrem (zw ((zw (75 * (mi a0 5))) + 74)) 65537)) a0 5)))) (n, K, mr, zst mi a0 5 (zrem (zw ((zw (75 * (mi a0 5))) + 74)) 65537))) : zX c k_Pl_draw 0 [some (zR a0)] [] (n, K, mr, mi) Q := 
  zX.n rfl (zX.n rfl (zX.n rfl (zX.g rfl h_1 (zX.n rfl (zX.n rfl (zX.n rfl (zX.n rfl (zX.g rfl (by decide) (zX.g rfl ⟨h_2, h_1⟩ (zX.n rfl (zX.g rfl h_1 (zX.ret rfl trivial p_3))))))))))))
