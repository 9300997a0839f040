/-! BLOCK RULES, printed by gen/gen_rules.py -/
set_option maxRecDepth 100000
variable {c n : Nat} {K : Nat → Nat × Nat} {mr : Nat → Nat → Nat} {mi : Nat → Nat → Int} {Q : zRes → zH → Prop}
theorem s_B_init_0 {a0 : Nat} {w1 : Option zV} {A5 : Nat} (h_1 : (K a0).1 ≠ 0) (h_2 : (zup K n (101, 1000)) a0 = (2, 21)) (h_3 : 64 ≤ a0) (h_4 : (zup (zup K n (101, 1000)) (n + 16) (3, 10)) a0 = (2, 21)) (h_6 : (zup (zst (zup mr n (fun _ => 0)) a0 0 n) (n + 16) (fun _ => 0)) a0 0 = A5) (h_7 : 64 ≤ (n + 16)) (h_8 : ((zup (zup K n (101, 1000)) (n + 16) (3, 10)) (n + 16)).1 ≠ 0) (k_9 : zCall c k_B_init 22 25 [some (zR a0), w1] [zR (n + 16), zR a0] 0 k_Rd_init [zR (n + 16), zR A5] ((n + 16) + 1, zup (zup K n (101, 1000)) (n + 16) (3, 10), zup (zst (zup mr n (fun _ => 0)) a0 0 n) (n + 16) (fun _ => 0), zup (zup mi n (fun _ => 0)) (n + 16) (fun _ => 0)) Q) : zX c k_B_init 0 [some (zR a0), w1] [] (n, K, mr, mi) Q := by
  subst h_6
  exact zX.n rfl (zX.g rfl h_1 (zX.n rfl (zX.n rfl (zX.g rfl (by decide) (zX.g rfl ⟨h_3, h_2⟩ (zX.n rfl (zX.n rfl (zX.n rfl (zX.n rfl (zX.g rfl h_4 (zX.callQ rfl ⟨h_7, h_8⟩ trivial k_9)))))))))))
theorem s_B_init_25 {a0 : Nat} {w1 : Option zV} {sa0 : Nat} {sa1 : Nat} (h_1 : K sa0 = (2, 21)) (h_2 : 64 ≤ sa0) (h_3 : K a0 = (2, 21)) (h_4 : 64 ≤ a0) (h_5 : 64 ≤ n) (h_6 : ((zup K n (5, 6)) n).1 ≠ 0) (k_7 : zCall c k_B_init 38 41 [some (zR a0), w1] [zR n, zR a0] 0 k_Pl_init [zR n] (n + 1, zup K n (5, 6), zup (zst mr sa0 2 sa1) n (fun _ => 0), zup (zst mi a0 6 ((-1))) n (fun _ => 0)) Q) : zX c k_B_init 25 [some (zR a0), w1] [zR sa1, zR sa0] (n, K, mr, mi) Q := 
  zX.g rfl ⟨h_2, h_1⟩ (zX.n rfl (zX.n rfl (zX.g rfl ⟨h_4, h_3⟩ (zX.n rfl (zX.n rfl (zX.n rfl (zX.callQ rfl ⟨h_5, h_6⟩ trivial k_7)))))))
theorem s_B_init_41 {a0 : Nat} {w1 : Option zV} {sa0 : Nat} {sa1 : Nat} (h_1 : K sa0 = (2, 21)) (h_2 : 64 ≤ sa0) (h_3 : 64 ≤ n) (h_4 : ((zup K n (5, 6)) n).1 ≠ 0) (k_5 : zCall c k_B_init 49 52 [some (zR a0), w1] [zR n, zR a0] 0 k_Pl_init [zR n] (n + 1, zup K n (5, 6), zup (zst mr sa0 9 sa1) n (fun _ => 0), zup mi n (fun _ => 0)) Q) : zX c k_B_init 41 [some (zR a0), w1] [zR sa1, zR sa0] (n, K, mr, mi) Q := 
  zX.g rfl ⟨h_2, h_1⟩ (zX.n rfl (zX.n rfl (zX.n rfl (zX.callQ rfl ⟨h_3, h_4⟩ trivial k_5))))
theorem s_B_init_52 {a0 : Nat} {w1 : Option zV} {sa0 : Nat} {sa1 : Nat} (h_1 : K sa0 = (2, 21)) (h_2 : 64 ≤ sa0) (h_3 : 64 ≤ n) (h_4 : ((zup K n (5, 6)) n).1 ≠ 0) (k_5 : zCall c k_B_init 60 63 [some (zR a0), w1] [zR n, zR a0] 0 k_Pl_init [zR n] (n + 1, zup K n (5, 6), zup (zst mr sa0 10 sa1) n (fun _ => 0), zup mi n (fun _ => 0)) Q) : zX c k_B_init 52 [some (zR a0), w1] [zR sa1, zR sa0] (n, K, mr, mi) Q := 
  zX.g rfl ⟨h_2, h_1⟩ (zX.n rfl (zX.n rfl (zX.n rfl (zX.callQ rfl ⟨h_3, h_4⟩ trivial k_5))))
theorem s_B_init_63 {a0 : Nat} {w1 : Option zV} {sa0 : Nat} {sa1 : Nat} (h_1 : K sa0 = (2, 21)) (h_2 : 64 ≤ sa0) (h_3 : 64 ≤ n) (h_4 : ((zup K n (6, 13)) n).1 ≠ 0) (k_5 : zCall c k_B_init 71 74 [some (zR a0), w1] [zR n, zR a0] 0 k_Mo_init [zR n] (n + 1, zup K n (6, 13), zup (zst mr sa0 11 sa1) n (fun _ => 0), zup mi n (fun _ => 0)) Q) : zX c k_B_init 63 [some (zR a0), w1] [zR sa1, zR sa0] (n, K, mr, mi) Q := 
  zX.g rfl ⟨h_2, h_1⟩ (zX.n rfl (zX.n rfl (zX.n rfl (zX.callQ rfl ⟨h_3, h_4⟩ trivial k_5))))
theorem s_B_init_74 {a0 : Nat} {w1 : Option zV} {sa0 : Nat} {sa1 : Nat} (h_1 : K sa0 = (2, 21)) (h_2 : 64 ≤ sa0) (h_3 : 64 ≤ n) (h_4 : ((zup K n (6, 13)) n).1 ≠ 0) (k_5 : zCall c k_B_init 82 85 [some (zR a0), w1] [zR n, zR a0] 0 k_Mo_init [zR n] (n + 1, zup K n (6, 13), zup (zst mr sa0 12 sa1) n (fun _ => 0), zup mi n (fun _ => 0)) Q) : zX c k_B_init 74 [some (zR a0), w1] [zR sa1, zR sa0] (n, K, mr, mi) Q := 
  zX.g rfl ⟨h_2, h_1⟩ (zX.n rfl (zX.n rfl (zX.n rfl (zX.callQ rfl ⟨h_3, h_4⟩ trivial k_5))))
theorem s_B_init_85 {a0 : Nat} {w1 : Option zV} {sa0 : Nat} {sa1 : Nat} (h_1 : K sa0 = (2, 21)) (h_2 : 64 ≤ sa0) (h_3 : 64 ≤ n) (h_4 : ((zup K n (15, 10)) n).1 ≠ 0) (k_5 : zCall c k_B_init 93 96 [some (zR a0), w1] [zR n, zR a0] 0 k_Pa_init [zR n] (n + 1, zup K n (15, 10), zup (zst mr sa0 13 sa1) n (fun _ => 0), zup mi n (fun _ => 0)) Q) : zX c k_B_init 85 [some (zR a0), w1] [zR sa1, zR sa0] (n, K, mr, mi) Q := 
  zX.g rfl ⟨h_2, h_1⟩ (zX.n rfl (zX.n rfl (zX.n rfl (zX.callQ rfl ⟨h_3, h_4⟩ trivial k_5))))
theorem s_B_init_96 {a0 : Nat} {w1 : Option zV} {sa0 : Nat} {sa1 : Nat} (h_1 : K sa0 = (2, 21)) (h_2 : 64 ≤ sa0) (h_3 : 64 ≤ n) (h_4 : ((zup K n (16, 3)) n).1 ≠ 0) (k_5 : zCall c k_B_init 104 107 [some (zR a0), w1] [zR n, zR a0] 0 k_Co_init [zR n] (n + 1, zup K n (16, 3), zup (zst mr sa0 14 sa1) n (fun _ => 0), zup mi n (fun _ => 0)) Q) : zX c k_B_init 96 [some (zR a0), w1] [zR sa1, zR sa0] (n, K, mr, mi) Q := 
  zX.g rfl ⟨h_2, h_1⟩ (zX.n rfl (zX.n rfl (zX.n rfl (zX.callQ rfl ⟨h_3, h_4⟩ trivial k_5))))
theorem s_B_init_107 {a0 : Nat} {w1 : Option zV} {sa0 : Nat} {sa1 : Nat} (h_1 : K sa0 = (2, 21)) (h_2 : 64 ≤ sa0) (h_3 : (zup K n (109, 16)) a0 = (2, 21)) (h_4 : 64 ≤ a0) (h_5 : (zup (zup K n (109, 16)) (n + 1) (109, 3)) a0 = (2, 21)) (h_6 : 64 ≤ ((n + 1) + 1)) (h_7 : ((zup (zup (zup K n (109, 16)) (n + 1) (109, 3)) ((n + 1) + 1) (1, 3)) ((n + 1) + 1)).1 ≠ 0) (k_8 : zCall c k_B_init 132 135 [some (zR a0), w1] [zR ((n + 1) + 1), zR a0] 0 k_Mv_init [zR ((n + 1) + 1)] (((n + 1) + 1) + 1, zup (zup (zup K n (109, 16)) (n + 1) (109, 3)) ((n + 1) + 1) (1, 3), zup (zst (zup (zst (zup (zst mr sa0 15 sa1) n (fun _ => 0)) a0 16 n) (n + 1) (fun _ => 0)) a0 17 (n + 1)) ((n + 1) + 1) (fun _ => 0), zup (zup (zup mi n (fun _ => 0)) (n + 1) (fun _ => 0)) ((n + 1) + 1) (fun _ => 0)) Q) : zX c k_B_init 107 [some (zR a0), w1] [zR sa1, zR sa0] (n, K, mr, mi) Q := 
  zX.g rfl ⟨h_2, h_1⟩ (zX.n rfl (zX.n rfl (zX.g rfl (by decide) (zX.g rfl ⟨h_4, h_3⟩ (zX.n rfl (zX.n rfl (zX.g rfl (by decide) (zX.g rfl ⟨h_4, h_5⟩ (zX.n rfl (zX.n rfl (zX.n rfl (zX.callQ rfl ⟨h_6, h_7⟩ trivial k_8))))))))))))
theorem s_B_init_135 {a0 : Nat} {w1 : Option zV} {sa0 : Nat} {sa1 : Nat} (h_1 : K sa0 = (2, 21)) (h_2 : 64 ≤ sa0) (h_3 : (zup K n (104, 8)) a0 = (2, 21)) (h_4 : 64 ≤ a0) (h_5 : (zup (zup K n (104, 8)) (n + 1) (104, 8)) a0 = (2, 21)) (p_6 : zX c k_B_init 156 [some (zR a0), some (zI 0)] [] ((n + 1) + 1, zup (zup K n (104, 8)) (n + 1) (104, 8), zst (zup (zst (zup (zst mr sa0 18 sa1) n (fun _ => 0)) a0 19 n) (n + 1) (fun _ => 0)) a0 20 (n + 1), zup (zup mi n (fun _ => 0)) (n + 1) (fun _ => 0)) Q) : zX c k_B_init 135 [some (zR a0), w1] [zR sa1, zR sa0] (n, K, mr, mi) Q := 
  zX.g rfl ⟨h_2, h_1⟩ (zX.n rfl (zX.n rfl (zX.g rfl (by decide) (zX.g rfl ⟨h_4, h_3⟩ (zX.n rfl (zX.n rfl (zX.g rfl (by decide) (zX.g rfl ⟨h_4, h_5⟩ (zX.n rfl (zX.n rfl p_6))))))))))
theorem s_B_init_156 {a0 : Nat} {x1 : Int} (p_1 : (16 : Int) ≤ x1 → zX c k_B_init 181 [some (zR a0), some (zI x1)] [] (n, K, mr, mi) Q) (p_2 : ¬ (16 : Int) ≤ x1 → zX c k_B_init 162 [some (zR a0), some (zI x1)] [] (n, K, mr, mi) Q) : zX c k_B_init 156 [some (zR a0), some (zI x1)] [] (n, K, mr, mi) Q := 
  zX.n rfl (zX.n rfl (zX.n rfl (zX.ite p_1 p_2)))
theorem s_B_init_162 {a0 : Nat} {x1 : Int} {A2 : Nat} (h_1 : K a0 = (2, 21)) (h_3 : mr a0 16 = A2) (h_4 : 64 ≤ n) (h_5 : ((zup K n (5, 6)) n).1 ≠ 0) (k_6 : zCall c k_B_init 171 174 [some (zR a0), some (zI x1)] [zR n, zI x1, zR A2] 0 k_Pl_init [zR n] (n + 1, zup K n (5, 6), zup mr n (fun _ => 0), zup mi n (fun _ => 0)) Q) : zX c k_B_init 162 [some (zR a0), some (zI x1)] [] (n, K, mr, mi) Q := by
  subst h_3
  exact zX.n rfl (zX.g rfl h_1 (zX.n rfl (zX.n rfl (zX.n rfl (zX.callQ rfl ⟨h_4, h_5⟩ trivial k_6)))))
theorem s_B_init_174 {a0 : Nat} {x1 : Int} {sa0 : Nat} {sx1 : Int} {sa2 : Nat} {N1 : Nat} {j5 : Nat} (h_2 : K sa0 = (109, N1)) (h_3 : 0 ≤ sx1) (h_4 : sx1 < (N1 : Int)) (h_6 : Int.toNat sx1 = j5) (h_7 : 64 ≤ sa0) (h_8 : (K sa2).1 = 5) (h_9 : 64 ≤ sa2) (p_10 : zX c k_B_init 156 [some (zR a0), some (zI (zw (x1 + 1)))] [] (n, K, zst mr sa0 j5 sa2, mi) Q) : zX c k_B_init 174 [some (zR a0), some (zI x1)] [zR sa2, zI sx1, zR sa0] (n, K, mr, mi) Q := by
  subst h_6
  exact zX.g rfl ⟨N1, h_7, h_2, ⟨h_3, h_4⟩, h_8, h_9⟩ (zX.n rfl (zX.n rfl p_10))
theorem s_B_init_181 {a0 : Nat} {w1 : Option zV} (p_1 : zX c k_B_init 183 [some (zR a0), some (zI 0)] [] (n, K, mr, mi) Q) : zX c k_B_init 181 [some (zR a0), w1] [] (n, K, mr, mi) Q := 
  zX.n rfl (zX.n rfl p_1)
theorem s_B_init_183 {a0 : Nat} {x1 : Int} (p_1 : (3 : Int) ≤ x1 → zX c k_B_init 207 [some (zR a0), some (zI x1)] [] (n, K, mr, mi) Q) (p_2 : ¬ (3 : Int) ≤ x1 → zX c k_B_init 188 [some (zR a0), some (zI x1)] [] (n, K, mr, mi) Q) : zX c k_B_init 183 [some (zR a0), some (zI x1)] [] (n, K, mr, mi) Q := 
  zX.n rfl (zX.n rfl (zX.n rfl (zX.ite p_1 p_2)))
theorem s_B_init_188 {a0 : Nat} {x1 : Int} {A2 : Nat} (h_1 : K a0 = (2, 21)) (h_3 : mr a0 17 = A2) (h_4 : 64 ≤ n) (h_5 : ((zup K n (5, 6)) n).1 ≠ 0) (k_6 : zCall c k_B_init 197 200 [some (zR a0), some (zI x1)] [zR n, zI x1, zR A2] 0 k_Pl_init [zR n] (n + 1, zup K n (5, 6), zup mr n (fun _ => 0), zup mi n (fun _ => 0)) Q) : zX c k_B_init 188 [some (zR a0), some (zI x1)] [] (n, K, mr, mi) Q := by
  subst h_3
  exact zX.n rfl (zX.g rfl h_1 (zX.n rfl (zX.n rfl (zX.n rfl (zX.callQ rfl ⟨h_4, h_5⟩ trivial k_6)))))
theorem s_B_init_200 {a0 : Nat} {x1 : Int} {sa0 : Nat} {sx1 : Int} {sa2 : Nat} {N1 : Nat} {j5 : Nat} (h_2 : K sa0 = (109, N1)) (h_3 : 0 ≤ sx1) (h_4 : sx1 < (N1 : Int)) (h_6 : Int.toNat sx1 = j5) (h_7 : 64 ≤ sa0) (h_8 : (K sa2).1 = 5) (h_9 : 64 ≤ sa2) (p_10 : zX c k_B_init 183 [some (zR a0), some (zI (zw (x1 + 1)))] [] (n, K, zst mr sa0 j5 sa2, mi) Q) : zX c k_B_init 200 [some (zR a0), some (zI x1)] [zR sa2, zI sx1, zR sa0] (n, K, mr, mi) Q := by
  subst h_6
  exact zX.g rfl ⟨N1, h_7, h_2, ⟨h_3, h_4⟩, h_8, h_9⟩ (zX.n rfl (zX.n rfl p_10))
theorem s_B_init_207 {w0 : Option zV} {w1 : Option zV} (p_1 : Q (.inl none) (n, K, mr, mi)) : zX c k_B_init 207 [w0, w1] [] (n, K, mr, mi) Q := 
  zX.ret rfl trivial p_1
theorem s_B_bytes_0 {a0 : Nat} {x1 : Int} {w2 : Option zV} (p_1 : zX c k_B_bytes 3 [some (zR a0), some (zI x1), some (zI 24)] [] (n, K, mr, mi) Q) : zX c k_B_bytes 0 [some (zR a0), some (zI x1), w2] [] (n, K, mr, mi) Q := 
  zX.n rfl (zX.n rfl p_1)
theorem s_B_bytes_3 {a0 : Nat} {x1 : Int} {x2 : Int} (p_1 : x2 < 0 → zX c k_B_bytes 36 [some (zR a0), some (zI x1), some (zI x2)] [] (n, K, mr, mi) Q) (p_2 : ¬ x2 < 0 → zX c k_B_bytes 7 [some (zR a0), some (zI x1), some (zI x2)] [] (n, K, mr, mi) Q) : zX c k_B_bytes 3 [some (zR a0), some (zI x1), some (zI x2)] [] (n, K, mr, mi) Q := 
  zX.n rfl (zX.n rfl (zX.ite p_1 p_2))
theorem s_B_bytes_7 {a0 : Nat} {x1 : Int} {x2 : Int} {A2 : Nat} {N4 : Nat} {j8 : Nat} (h_1 : K a0 = (2, 21)) (h_3 : mr a0 0 = A2) (h_5 : K A2 = (101, N4)) (h_6 : 0 ≤ (mi a0 1)) (h_7 : (mi a0 1) < (N4 : Int)) (h_9 : Int.toNat (mi a0 1) = j8) (h_10 : 64 ≤ A2) (h_11 : 64 ≤ a0) (p_12 : zX c k_B_bytes 3 [some (zR a0), some (zI x1), some (zI (zw (x2 + (-8))))] [] (n, K, mr, zst (zst mi A2 j8 (zi2b (zi2b (zshr x1 x2)))) a0 1 (zw (((zst mi A2 j8 (zi2b (zi2b (zshr x1 x2)))) a0 1) + 1))) Q) : zX c k_B_bytes 7 [some (zR a0), some (zI x1), some (zI x2)] [] (n, K, mr, mi) Q := by
  subst h_3
  subst h_9
  exact zX.n rfl (zX.g rfl h_1 (zX.n rfl (zX.g rfl h_1 (zX.n rfl (zX.n rfl (zX.n rfl (zX.n rfl (zX.g rfl ⟨N4, h_10, h_5, h_6, h_7⟩ (zX.n rfl (zX.n rfl (zX.g rfl h_1 (zX.n rfl (zX.n rfl (zX.g rfl ⟨h_11, h_1⟩ (zX.n rfl (zX.n rfl p_12))))))))))))))))
theorem s_B_bytes_36 {w0 : Option zV} {w1 : Option zV} {w2 : Option zV} (p_1 : Q (.inl none) (n, K, mr, mi)) : zX c k_B_bytes 36 [w0, w1, w2] [] (n, K, mr, mi) Q := 
  zX.ret rfl trivial p_1
theorem s_B_feed_0 {a0 : Nat} {x1 : Int} {x2 : Int} {x3 : Int} {x4 : Int} {x5 : Int} (h_1 : K a0 = (2, 21)) (p_2 : (zw ((mi a0 1) + 20)) ≤ (1000 : Int) → zX c k_B_feed 15 [some (zR a0), some (zI x1), some (zI x2), some (zI x3), some (zI x4), some (zI x5)] [] (n, K, mr, mi) Q) (p_3 : ¬ (zw ((mi a0 1) + 20)) ≤ (1000 : Int) → zX c k_B_feed 13 [some (zR a0), some (zI x1), some (zI x2), some (zI x3), some (zI x4), some (zI x5)] [] (n, K, mr, mi) Q) : zX c k_B_feed 0 [some (zR a0), some (zI x1), some (zI x2), some (zI x3), some (zI x4), some (zI x5)] [] (n, K, mr, mi) Q := 
  zX.n rfl (zX.g rfl h_1 (zX.n rfl (zX.n rfl (zX.n rfl (zX.n rfl (zX.ite p_2 p_3))))))
theorem s_B_feed_13 {w0 : Option zV} {w1 : Option zV} {w2 : Option zV} {w3 : Option zV} {w4 : Option zV} {w5 : Option zV} (p_1 : Q (.inl (some (zI ((-1))))) (n, K, mr, mi)) : zX c k_B_feed 13 [w0, w1, w2, w3, w4, w5] [] (n, K, mr, mi) Q := 
  zX.n rfl (zX.ret rfl trivial p_1)
theorem s_B_feed_15 {a0 : Nat} {x1 : Int} {x2 : Int} {x3 : Int} {x4 : Int} {x5 : Int} (h_1 : K a0 = (2, 21)) (k_2 : zCall c k_B_feed 17 20 [some (zR a0), some (zI x1), some (zI x2), some (zI x3), some (zI x4), some (zI x5)] [] 0 k_B_bytes [zR a0, zI x1] (n, K, mr, mi) Q) : zX c k_B_feed 15 [some (zR a0), some (zI x1), some (zI x2), some (zI x3), some (zI x4), some (zI x5)] [] (n, K, mr, mi) Q := 
  zX.n rfl (zX.n rfl (zX.callQ rfl (congrArg Prod.fst h_1) trivial k_2))
theorem s_B_feed_20 {a0 : Nat} {w1 : Option zV} {x2 : Int} {x3 : Int} {x4 : Int} {x5 : Int} (h_1 : K a0 = (2, 21)) (k_2 : zCall c k_B_feed 22 25 [some (zR a0), w1, some (zI x2), some (zI x3), some (zI x4), some (zI x5)] [] 0 k_B_bytes [zR a0, zI x2] (n, K, mr, mi) Q) : zX c k_B_feed 20 [some (zR a0), w1, some (zI x2), some (zI x3), some (zI x4), some (zI x5)] [] (n, K, mr, mi) Q := 
  zX.n rfl (zX.n rfl (zX.callQ rfl (congrArg Prod.fst h_1) trivial k_2))
theorem s_B_feed_25 {a0 : Nat} {w1 : Option zV} {w2 : Option zV} {x3 : Int} {x4 : Int} {x5 : Int} (h_1 : K a0 = (2, 21)) (k_2 : zCall c k_B_feed 27 30 [some (zR a0), w1, w2, some (zI x3), some (zI x4), some (zI x5)] [] 0 k_B_bytes [zR a0, zI x3] (n, K, mr, mi) Q) : zX c k_B_feed 25 [some (zR a0), w1, w2, some (zI x3), some (zI x4), some (zI x5)] [] (n, K, mr, mi) Q := 
  zX.n rfl (zX.n rfl (zX.callQ rfl (congrArg Prod.fst h_1) trivial k_2))
theorem s_B_feed_30 {a0 : Nat} {w1 : Option zV} {w2 : Option zV} {w3 : Option zV} {x4 : Int} {x5 : Int} (h_1 : K a0 = (2, 21)) (k_2 : zCall c k_B_feed 33 36 [some (zR a0), w1, w2, w3, some (zI x4), some (zI x5)] [] 0 k_B_bytes [zR a0, zI x4] (n, K, mr, mi) Q) : zX c k_B_feed 30 [some (zR a0), w1, w2, w3, some (zI x4), some (zI x5)] [] (n, K, mr, mi) Q := 
  zX.n rfl (zX.n rfl (zX.callQ rfl (congrArg Prod.fst h_1) trivial k_2))
theorem s_B_feed_36 {a0 : Nat} {w1 : Option zV} {w2 : Option zV} {w3 : Option zV} {w4 : Option zV} {x5 : Int} (h_1 : K a0 = (2, 21)) (k_2 : zCall c k_B_feed 39 42 [some (zR a0), w1, w2, w3, w4, some (zI x5)] [] 0 k_B_bytes [zR a0, zI x5] (n, K, mr, mi) Q) : zX c k_B_feed 36 [some (zR a0), w1, w2, w3, w4, some (zI x5)] [] (n, K, mr, mi) Q := 
  zX.n rfl (zX.n rfl (zX.callQ rfl (congrArg Prod.fst h_1) trivial k_2))
theorem s_B_feed_42 {a0 : Nat} {w1 : Option zV} {w2 : Option zV} {w3 : Option zV} {w4 : Option zV} {w5 : Option zV} (h_1 : K a0 = (2, 21)) (p_2 : Q (.inl (some (zI (mi a0 1)))) (n, K, mr, mi)) : zX c k_B_feed 42 [some (zR a0), w1, w2, w3, w4, w5] [] (n, K, mr, mi) Q := 
  zX.n rfl (zX.g rfl h_1 (zX.ret rfl trivial p_2))
theorem s_B_anew_0 {a0 : Nat} (h_1 : K a0 = (2, 21)) (h_2 : 64 ≤ a0) (p_3 : Q (.inl none) (n, K, mr, zst (zst mi a0 4 0) a0 6 ((-1)))) : zX c k_B_anew 0 [some (zR a0)] [] (n, K, mr, mi) Q := 
  zX.n rfl (zX.n rfl (zX.g rfl ⟨h_2, h_1⟩ (zX.n rfl (zX.n rfl (zX.g rfl ⟨h_2, h_1⟩ (zX.ret rfl trivial p_3))))))
theorem s_B_in_0 {x0 : Int} {x1 : Int} {x2 : Int} (p_1 : x0 < x1 → zX c k_B_in 14 [some (zI x0), some (zI x1), some (zI x2)] [] (n, K, mr, mi) Q) (p_2 : ¬ x0 < x1 → zX c k_B_in 5 [some (zI x0), some (zI x1), some (zI x2)] [] (n, K, mr, mi) Q) : zX c k_B_in 0 [some (zI x0), some (zI x1), some (zI x2)] [] (n, K, mr, mi) Q := 
  zX.n rfl (zX.n rfl (zX.n rfl (zX.ite p_1 p_2)))
theorem s_B_in_5 {x0 : Int} {w1 : Option zV} {x2 : Int} (p_1 : x2 < x0 → zX c k_B_in 14 [some (zI x0), w1, some (zI x2)] [] (n, K, mr, mi) Q) (p_2 : ¬ x2 < x0 → zX c k_B_in 10 [some (zI x0), w1, some (zI x2)] [] (n, K, mr, mi) Q) : zX c k_B_in 5 [some (zI x0), w1, some (zI x2)] [] (n, K, mr, mi) Q := 
  zX.n rfl (zX.n rfl (zX.n rfl (zX.ite p_1 p_2)))
theorem s_B_in_10 {w0 : Option zV} {w1 : Option zV} {w2 : Option zV} (p_1 : zX c k_B_in 15 [w0, w1, w2] [zI 1] (n, K, mr, mi) Q) : zX c k_B_in 10 [w0, w1, w2] [] (n, K, mr, mi) Q := 
  zX.n rfl (zX.n rfl p_1)
theorem s_B_in_14 {w0 : Option zV} {w1 : Option zV} {w2 : Option zV} (p_1 : zX c k_B_in 15 [w0, w1, w2] [zI 0] (n, K, mr, mi) Q) : zX c k_B_in 14 [w0, w1, w2] [] (n, K, mr, mi) Q := 
  zX.n rfl p_1
theorem s_B_in_15 {w0 : Option zV} {w1 : Option zV} {w2 : Option zV} {sx0 : Int} (h_1 : sx0 = 0 ∨ sx0 = 1) (p_2 : Q (.inl (some (zI sx0))) (n, K, mr, mi)) : zX c k_B_in 15 [w0, w1, w2] [zI sx0] (n, K, mr, mi) Q := 
  zX.ret rfl h_1 p_2
theorem s_B_no_0 {a0 : Nat} {x1 : Int} (h_1 : K a0 = (2, 21)) (h_2 : 64 ≤ a0) (p_3 : Q (.inl (some (zI ((-1))))) (n, K, mr, zst mi a0 4 x1)) : zX c k_B_no 0 [some (zR a0), some (zI x1)] [] (n, K, mr, mi) Q := 
  zX.n rfl (zX.n rfl (zX.g rfl ⟨h_2, h_1⟩ (zX.n rfl (zX.ret rfl trivial p_3))))
theorem s_B_runMonth_0 {a0 : Nat} {A2 : Nat} {A4 : Nat} {A6 : Nat} (h_1 : K a0 = (2, 21)) (h_3 : mr a0 12 = A2) (h_5 : mr a0 3 = A4) (h_7 : mr a0 9 = A6) (h_8 : K A2 = (6, 13)) (k_9 : zCall c k_B_runMonth 13 16 [some (zR a0)] [] 0 k_Mo_run [zR A2, zR A4, zR A6, zR 0] (n, K, mr, mi) Q) : zX c k_B_runMonth 0 [some (zR a0)] [] (n, K, mr, mi) Q := by
  subst h_3
  subst h_5
  subst h_7
  exact zX.n rfl (zX.g rfl h_1 (zX.n rfl (zX.g rfl h_1 (zX.n rfl (zX.g rfl h_1 (zX.n rfl (zX.callQ rfl (congrArg Prod.fst h_8) trivial k_9)))))))
theorem s_B_runMonth_16 {w0 : Option zV} (p_1 : Q (.inl none) (n, K, mr, mi)) : zX c k_B_runMonth 16 [w0] [] (n, K, mr, mi) Q := 
  zX.ret rfl trivial p_1
theorem s_B_glass_0 {a0 : Nat} {x1 : Int} {w2 : Option zV} (h_1 : K a0 = (2, 21)) (k_2 : zCall c k_B_glass 1 4 [some (zR a0), some (zI x1), w2] [] 0 k_B_anew [zR a0] (n, K, mr, mi) Q) : zX c k_B_glass 0 [some (zR a0), some (zI x1), w2] [] (n, K, mr, mi) Q := 
  zX.n rfl (zX.callQ rfl (congrArg Prod.fst h_1) trivial k_2)
theorem s_B_glass_4 {a0 : Nat} {x1 : Int} {w2 : Option zV} (h_1 : K a0 = (2, 21)) (k_2 : zCall c k_B_glass 10 13 [some (zR a0), some (zI x1), w2] [] 0 k_B_in [zI x1, zI 0, zI (mi a0 1)] (n, K, mr, mi) Q) : zX c k_B_glass 4 [some (zR a0), some (zI x1), w2] [] (n, K, mr, mi) Q := 
  zX.n rfl (zX.n rfl (zX.n rfl (zX.g rfl h_1 (zX.callQ rfl trivial trivial k_2))))
theorem s_B_glass_13 {a0 : Nat} {x1 : Int} {w2 : Option zV} {sx0 : Int} (p_1 : ¬ sx0 = 0 → zX c k_B_glass 22 [some (zR a0), some (zI x1), w2] [] (n, K, mr, mi) Q) (p_2 : sx0 = 0 → zX c k_B_glass 16 [some (zR a0), some (zI x1), w2] [] (n, K, mr, mi) Q) : zX c k_B_glass 13 [some (zR a0), some (zI x1), w2] [zI sx0] (n, K, mr, mi) Q := 
  zX.n rfl (zX.itn p_1 p_2)
theorem s_B_glass_16 {a0 : Nat} {w1 : Option zV} {w2 : Option zV} (h_1 : K a0 = (2, 21)) (k_2 : zCall c k_B_glass 18 21 [some (zR a0), w1, w2] [] 0 k_B_no [zR a0, zI 2] (n, K, mr, mi) Q) : zX c k_B_glass 16 [some (zR a0), w1, w2] [] (n, K, mr, mi) Q := 
  zX.n rfl (zX.n rfl (zX.callQ rfl (congrArg Prod.fst h_1) trivial k_2))
theorem s_B_glass_21 {w0 : Option zV} {w1 : Option zV} {w2 : Option zV} {sx0 : Int} (p_1 : Q (.inl (some (zI sx0))) (n, K, mr, mi)) : zX c k_B_glass 21 [w0, w1, w2] [zI sx0] (n, K, mr, mi) Q := 
  zX.ret rfl trivial p_1
theorem s_B_glass_22 {a0 : Nat} {x1 : Int} {w2 : Option zV} {A3 : Nat} (h_1 : K a0 = (2, 21)) (h_2 : 64 ≤ a0) (h_4 : mr a0 2 = A3) (h_5 : K A3 = (3, 10)) (k_6 : zCall c k_B_glass 38 41 [some (zR a0), some (zI x1), w2] [zR a0] 0 k_Rd_read [zR A3, zI x1] (n, K, mr, zst (zst mi a0 1 0) a0 5 0) Q) : zX c k_B_glass 22 [some (zR a0), some (zI x1), w2] [] (n, K, mr, mi) Q := by
  subst h_4
  exact zX.n rfl (zX.n rfl (zX.g rfl ⟨h_2, h_1⟩ (zX.n rfl (zX.n rfl (zX.g rfl ⟨h_2, h_1⟩ (zX.n rfl (zX.n rfl (zX.g rfl h_1 (zX.n rfl (zX.callQ rfl (congrArg Prod.fst h_5) trivial k_6))))))))))
theorem s_B_glass_41 {a0 : Nat} {w1 : Option zV} {w2 : Option zV} {sa0 : Nat} {sa1 : Nat} {A4 : Nat} {A6 : Nat} (h_1 : K sa0 = (2, 21)) (h_2 : 64 ≤ sa0) (h_3 : K a0 = (2, 21)) (h_5 : (zst mr sa0 3 sa1) a0 9 = A4) (h_7 : (zst mr sa0 3 sa1) a0 3 = A6) (h_8 : K A4 = (5, 6)) (k_9 : zCall c k_B_glass 78 81 [some (zR a0), w1, w2] [] 0 k_Pl_begin [zR A4, zR A6] (n, K, zst mr sa0 3 sa1, mi) Q) : zX c k_B_glass 41 [some (zR a0), w1, w2] [zR sa1, zR sa0] (n, K, mr, mi) Q := by
  subst h_5
  subst h_7
  exact zX.g rfl ⟨h_2, h_1⟩ (zX.n rfl (zX.n rfl (zX.g rfl h_3 (zX.n rfl (zX.g rfl h_3 (zX.callQ rfl (congrArg Prod.fst h_8) trivial k_9))))))
theorem s_B_glass_47 {a0 : Nat} {w1 : Option zV} {w2 : Option zV} {sa0 : Nat} (h_1 : K sa0 = (4, 8)) (h_2 : K a0 = (2, 21)) (h_3 : 64 ≤ a0) (k_4 : zCall c k_B_glass 66 69 [some (zR a0), (zkill w1), some (zR sa0)] [] 0 k_B_no [zR a0, zI 4] (n, K, mr, zst (zst mi a0 5 (mi sa0 6)) a0 6 ((zst mi a0 5 (mi sa0 6)) sa0 7)) Q) : zX c k_B_glass 47 [some (zR a0), w1, w2] [zR sa0] (n, K, mr, mi) Q := 
  zX.n rfl (zX.n rfl (zX.n rfl (zX.g rfl h_1 (zX.g rfl ⟨h_3, h_2⟩ (zX.n rfl (zX.n rfl (zX.g rfl h_1 (zX.g rfl ⟨h_3, h_2⟩ (zX.n rfl (zX.n rfl (zX.callQ rfl (congrArg Prod.fst h_2) trivial k_4)))))))))))
theorem s_B_glass_69 {w0 : Option zV} {w1 : Option zV} {w2 : Option zV} {sx0 : Int} (p_1 : Q (.inl (some (zI sx0))) (n, K, mr, mi)) : zX c k_B_glass 69 [w0, w1, w2] [zI sx0] (n, K, mr, mi) Q := 
  zX.ret rfl trivial p_1
theorem s_B_glass_81 {a0 : Nat} {w1 : Option zV} {w2 : Option zV} (h_1 : K a0 = (2, 21)) (h_2 : 64 ≤ a0) (k_3 : zCall c k_B_glass 92 95 [some (zR a0), w1, w2] [] 0 k_B_runMonth [zR a0] (n, K, mr, zst (zst mi a0 8 0) a0 7 0) Q) : zX c k_B_glass 81 [some (zR a0), w1, w2] [] (n, K, mr, mi) Q := 
  zX.n rfl (zX.n rfl (zX.g rfl ⟨h_2, h_1⟩ (zX.n rfl (zX.n rfl (zX.g rfl ⟨h_2, h_1⟩ (zX.n rfl (zX.callQ rfl (congrArg Prod.fst h_1) trivial k_3)))))))
theorem s_B_glass_95 {a0 : Nat} {w1 : Option zV} {w2 : Option zV} {A2 : Nat} (h_1 : K a0 = (2, 21)) (h_3 : mr a0 3 = A2) (h_4 : K A2 = (18, 12)) (p_5 : Q (.inl (some (zI (mi A2 8)))) (n, K, mr, mi)) : zX c k_B_glass 95 [some (zR a0), w1, w2] [] (n, K, mr, mi) Q := by
  subst h_3
  exact zX.n rfl (zX.g rfl h_1 (zX.g rfl h_4 (zX.ret rfl trivial p_5)))
theorem s_B_fault_0 {a0 : Nat} (h_1 : K a0 = (2, 21)) (p_2 : Q (.inl (some (zI (mi a0 5)))) (n, K, mr, mi)) : zX c k_B_fault 0 [some (zR a0)] [] (n, K, mr, mi) Q := 
  zX.n rfl (zX.g rfl h_1 (zX.ret rfl trivial p_2))
theorem s_B_where_0 {a0 : Nat} (h_1 : K a0 = (2, 21)) (p_2 : ¬ (mi a0 4) = (4 : Int) → zX c k_B_where 15 [some (zR a0)] [] (n, K, mr, mi) Q) (p_3 : (mi a0 4) = (4 : Int) → zX c k_B_where 8 [some (zR a0)] [] (n, K, mr, mi) Q) : zX c k_B_where 0 [some (zR a0)] [] (n, K, mr, mi) Q := 
  zX.n rfl (zX.g rfl h_1 (zX.n rfl (zX.n rfl (zX.itn p_2 p_3))))
theorem s_B_where_8 {a0 : Nat} (h_1 : K a0 = (2, 21)) (p_2 : zX c k_B_where 16 [some (zR a0)] [zI (mi a0 6)] (n, K, mr, mi) Q) : zX c k_B_where 8 [some (zR a0)] [] (n, K, mr, mi) Q := 
  zX.n rfl (zX.g rfl h_1 (zX.n rfl p_2))
theorem s_B_where_15 {w0 : Option zV} (p_1 : zX c k_B_where 16 [w0] [zI ((-1))] (n, K, mr, mi) Q) : zX c k_B_where 15 [w0] [] (n, K, mr, mi) Q := 
  zX.n rfl p_1
theorem s_B_where_16 {w0 : Option zV} {sx0 : Int} (p_1 : Q (.inl (some (zI sx0))) (n, K, mr, mi)) : zX c k_B_where 16 [w0] [zI sx0] (n, K, mr, mi) Q := 
  zX.ret rfl trivial p_1
theorem s_B_isPerson_0 {a0 : Nat} {x1 : Int} {A2 : Nat} (h_1 : K a0 = (2, 21)) (h_3 : mr a0 3 = A2) (h_4 : A2 = 0 ∨ (K A2).1 ≠ 0) (p_5 : A2 = 0 → zX c k_B_isPerson 28 [some (zR a0), some (zI x1)] [] (n, K, mr, mi) Q) (p_6 : ¬ A2 = 0 → zX c k_B_isPerson 7 [some (zR a0), some (zI x1)] [] (n, K, mr, mi) Q) : zX c k_B_isPerson 0 [some (zR a0), some (zI x1)] [] (n, K, mr, mi) Q := by
  subst h_3
  exact zX.n rfl (zX.g rfl h_1 (zX.g rfl h_4 (zX.ite p_5 p_6)))
theorem s_B_isPerson_7 {a0 : Nat} {x1 : Int} {A2 : Nat} (h_1 : K a0 = (2, 21)) (h_3 : mr a0 3 = A2) (h_4 : K A2 = (18, 12)) (k_5 : zCall c k_B_isPerson 18 21 [some (zR a0), some (zI x1)] [] 0 k_B_in [zI x1, zI 0, zI (zw ((mi A2 8) - 1))] (n, K, mr, mi) Q) : zX c k_B_isPerson 7 [some (zR a0), some (zI x1)] [] (n, K, mr, mi) Q := by
  subst h_3
  exact zX.n rfl (zX.n rfl (zX.n rfl (zX.g rfl h_1 (zX.g rfl h_4 (zX.n rfl (zX.n rfl (zX.callQ rfl trivial trivial k_5)))))))
theorem s_B_isPerson_21 {w0 : Option zV} {w1 : Option zV} {sx0 : Int} (p_1 : sx0 = 0 → zX c k_B_isPerson 28 [w0, w1] [] (n, K, mr, mi) Q) (p_2 : ¬ sx0 = 0 → zX c k_B_isPerson 24 [w0, w1] [] (n, K, mr, mi) Q) : zX c k_B_isPerson 21 [w0, w1] [zI sx0] (n, K, mr, mi) Q := 
  zX.n rfl (zX.ite p_1 p_2)
theorem s_B_isPerson_24 {w0 : Option zV} {w1 : Option zV} (p_1 : zX c k_B_isPerson 29 [w0, w1] [zI 1] (n, K, mr, mi) Q) : zX c k_B_isPerson 24 [w0, w1] [] (n, K, mr, mi) Q := 
  zX.n rfl (zX.n rfl p_1)
theorem s_B_isPerson_28 {w0 : Option zV} {w1 : Option zV} (p_1 : zX c k_B_isPerson 29 [w0, w1] [zI 0] (n, K, mr, mi) Q) : zX c k_B_isPerson 28 [w0, w1] [] (n, K, mr, mi) Q := 
  zX.n rfl p_1
theorem s_B_isPerson_29 {w0 : Option zV} {w1 : Option zV} {sx0 : Int} (h_1 : sx0 = 0 ∨ sx0 = 1) (p_2 : Q (.inl (some (zI sx0))) (n, K, mr, mi)) : zX c k_B_isPerson 29 [w0, w1] [zI sx0] (n, K, mr, mi) Q := 
  zX.ret rfl h_1 p_2
theorem s_B_person_0 {a0 : Nat} {x1 : Int} {x2 : Int} {w3 : Option zV} (h_1 : K a0 = (2, 21)) (k_2 : zCall c k_B_person 1 4 [some (zR a0), some (zI x1), some (zI x2), w3] [] 0 k_B_anew [zR a0] (n, K, mr, mi) Q) : zX c k_B_person 0 [some (zR a0), some (zI x1), some (zI x2), w3] [] (n, K, mr, mi) Q := 
  zX.n rfl (zX.callQ rfl (congrArg Prod.fst h_1) trivial k_2)
theorem s_B_person_4 {a0 : Nat} {x1 : Int} {x2 : Int} {w3 : Option zV} (h_1 : K a0 = (2, 21)) (k_2 : zCall c k_B_person 6 9 [some (zR a0), some (zI x1), some (zI x2), w3] [] 0 k_B_isPerson [zR a0, zI x1] (n, K, mr, mi) Q) : zX c k_B_person 4 [some (zR a0), some (zI x1), some (zI x2), w3] [] (n, K, mr, mi) Q := 
  zX.n rfl (zX.n rfl (zX.callQ rfl (congrArg Prod.fst h_1) trivial k_2))
theorem s_B_person_9 {a0 : Nat} {x1 : Int} {x2 : Int} {w3 : Option zV} {sx0 : Int} (p_1 : ¬ sx0 = 0 → zX c k_B_person 18 [some (zR a0), some (zI x1), some (zI x2), w3] [] (n, K, mr, mi) Q) (p_2 : sx0 = 0 → zX c k_B_person 12 [some (zR a0), some (zI x1), some (zI x2), w3] [] (n, K, mr, mi) Q) : zX c k_B_person 9 [some (zR a0), some (zI x1), some (zI x2), w3] [zI sx0] (n, K, mr, mi) Q := 
  zX.n rfl (zX.itn p_1 p_2)
theorem s_B_person_12 {a0 : Nat} {w1 : Option zV} {w2 : Option zV} {w3 : Option zV} (h_1 : K a0 = (2, 21)) (k_2 : zCall c k_B_person 14 17 [some (zR a0), w1, w2, w3] [] 0 k_B_no [zR a0, zI 1] (n, K, mr, mi) Q) : zX c k_B_person 12 [some (zR a0), w1, w2, w3] [] (n, K, mr, mi) Q := 
  zX.n rfl (zX.n rfl (zX.callQ rfl (congrArg Prod.fst h_1) trivial k_2))
theorem s_B_person_17 {w0 : Option zV} {w1 : Option zV} {w2 : Option zV} {w3 : Option zV} {sx0 : Int} (p_1 : Q (.inl (some (zI sx0))) (n, K, mr, mi)) : zX c k_B_person 17 [w0, w1, w2, w3] [zI sx0] (n, K, mr, mi) Q := 
  zX.ret rfl trivial p_1
theorem s_B_person_18 {a0 : Nat} {x1 : Int} {x2 : Int} {w3 : Option zV} {A2 : Nat} {A5 : Nat} {N7 : Nat} {j11 : Nat} {A13 : Nat} (h_1 : K a0 = (2, 21)) (h_3 : mr a0 3 = A2) (h_4 : K A2 = (18, 12)) (h_6 : mr A2 0 = A5) (h_8 : K A5 = (110, N7)) (h_9 : 0 ≤ x1) (h_10 : x1 < (N7 : Int)) (h_12 : Int.toNat x1 = j11) (h_14 : mr A5 j11 = A13) (p_15 : x2 = 0 → zX c k_B_person 68 [some (zR a0), some (zI x1), some (zI x2), some (zR A13)] [] (n, K, mr, mi) Q) (p_16 : x2 = 1 → zX c k_B_person 78 [some (zR a0), some (zI x1), some (zI x2), some (zR A13)] [] (n, K, mr, mi) Q) (p_17 : x2 = 2 → zX c k_B_person 88 [some (zR a0), some (zI x1), some (zI x2), some (zR A13)] [] (n, K, mr, mi) Q) (p_18 : x2 = 3 → zX c k_B_person 98 [some (zR a0), some (zI x1), some (zI x2), some (zR A13)] [] (n, K, mr, mi) Q) (p_19 : x2 = 4 → zX c k_B_person 103 [some (zR a0), some (zI x1), some (zI x2), some (zR A13)] [] (n, K, mr, mi) Q) (p_20 : x2 = 5 → zX c k_B_person 116 [some (zR a0), some (zI x1), some (zI x2), some (zR A13)] [] (n, K, mr, mi) Q) (p_21 : x2 < 0 ∨ 5 < x2 → zX c k_B_person 121 [some (zR a0), some (zI x1), some (zI x2), some (zR A13)] [] (n, K, mr, mi) Q) : zX c k_B_person 18 [some (zR a0), some (zI x1), some (zI x2), w3] [] (n, K, mr, mi) Q := by
  subst h_3
  subst h_6
  subst h_12
  subst h_14
  exact zX.n rfl (zX.g rfl h_1 (zX.g rfl h_4 (zX.n rfl (zX.g rfl ⟨N7, h_8, h_9, h_10⟩ (zX.n rfl (zX.n rfl (zX.n rfl (zX.tsw (fun k hk hx => match k, hk, hx with | 0, _, hx => p_15 hx | 1, _, hx => p_16 hx | 2, _, hx => p_17 hx | 3, _, hx => p_18 hx | 4, _, hx => p_19 hx | 5, _, hx => p_20 hx | k + 6, hk, _ => absurd hk (by omega)) p_21))))))))
theorem s_B_person_68 {a0 : Nat} {x1 : Int} {w2 : Option zV} {w3 : Option zV} {A2 : Nat} {A5 : Nat} {N7 : Nat} {j11 : Nat} (h_1 : K a0 = (2, 21)) (h_3 : mr a0 9 = A2) (h_4 : K A2 = (5, 6)) (h_6 : mr A2 0 = A5) (h_8 : K A5 = (100, N7)) (h_9 : 0 ≤ x1) (h_10 : x1 < (N7 : Int)) (h_12 : Int.toNat x1 = j11) (p_13 : Q (.inl (some (zI (mi A5 j11)))) (n, K, mr, mi)) : zX c k_B_person 68 [some (zR a0), some (zI x1), w2, w3] [] (n, K, mr, mi) Q := by
  subst h_3
  subst h_6
  subst h_12
  exact zX.n rfl (zX.g rfl h_1 (zX.g rfl h_4 (zX.n rfl (zX.g rfl ⟨N7, h_8, h_9, h_10⟩ (zX.ret rfl trivial p_13)))))
theorem s_B_person_78 {a0 : Nat} {x1 : Int} {w2 : Option zV} {w3 : Option zV} {A2 : Nat} {A5 : Nat} {N7 : Nat} {j11 : Nat} (h_1 : K a0 = (2, 21)) (h_3 : mr a0 9 = A2) (h_4 : K A2 = (5, 6)) (h_6 : mr A2 1 = A5) (h_8 : K A5 = (100, N7)) (h_9 : 0 ≤ x1) (h_10 : x1 < (N7 : Int)) (h_12 : Int.toNat x1 = j11) (p_13 : Q (.inl (some (zI (mi A5 j11)))) (n, K, mr, mi)) : zX c k_B_person 78 [some (zR a0), some (zI x1), w2, w3] [] (n, K, mr, mi) Q := by
  subst h_3
  subst h_6
  subst h_12
  exact zX.n rfl (zX.g rfl h_1 (zX.g rfl h_4 (zX.n rfl (zX.g rfl ⟨N7, h_8, h_9, h_10⟩ (zX.ret rfl trivial p_13)))))
theorem s_B_person_88 {a0 : Nat} {x1 : Int} {w2 : Option zV} {w3 : Option zV} {A2 : Nat} {A5 : Nat} {N7 : Nat} {j11 : Nat} (h_1 : K a0 = (2, 21)) (h_3 : mr a0 9 = A2) (h_4 : K A2 = (5, 6)) (h_6 : mr A2 2 = A5) (h_8 : K A5 = (100, N7)) (h_9 : 0 ≤ x1) (h_10 : x1 < (N7 : Int)) (h_12 : Int.toNat x1 = j11) (p_13 : Q (.inl (some (zI (mi A5 j11)))) (n, K, mr, mi)) : zX c k_B_person 88 [some (zR a0), some (zI x1), w2, w3] [] (n, K, mr, mi) Q := by
  subst h_3
  subst h_6
  subst h_12
  exact zX.n rfl (zX.g rfl h_1 (zX.g rfl h_4 (zX.n rfl (zX.g rfl ⟨N7, h_8, h_9, h_10⟩ (zX.ret rfl trivial p_13)))))
theorem s_B_person_98 {w0 : Option zV} {w1 : Option zV} {w2 : Option zV} {a3 : Nat} (h_1 : K a3 = (19, 12)) (p_2 : Q (.inl (some (zI (mi a3 10)))) (n, K, mr, mi)) : zX c k_B_person 98 [w0, w1, w2, some (zR a3)] [] (n, K, mr, mi) Q := 
  zX.n rfl (zX.g rfl h_1 (zX.ret rfl trivial p_2))
theorem s_B_person_103 {w0 : Option zV} {w1 : Option zV} {w2 : Option zV} {a3 : Nat} (h_1 : K a3 = (19, 12)) (p_2 : (mi a3 11) = 0 → zX c k_B_person 114 [w0, w1, w2, some (zR a3)] [] (n, K, mr, mi) Q) (p_3 : ¬ (mi a3 11) = 0 → zX c k_B_person 110 [w0, w1, w2, some (zR a3)] [] (n, K, mr, mi) Q) : zX c k_B_person 103 [w0, w1, w2, some (zR a3)] [] (n, K, mr, mi) Q := 
  zX.n rfl (zX.g rfl h_1 (zX.n rfl (zX.ite p_2 p_3)))
theorem s_B_person_110 {w0 : Option zV} {w1 : Option zV} {w2 : Option zV} {w3 : Option zV} (p_1 : zX c k_B_person 115 [w0, w1, w2, w3] [zI 1] (n, K, mr, mi) Q) : zX c k_B_person 110 [w0, w1, w2, w3] [] (n, K, mr, mi) Q := 
  zX.n rfl (zX.n rfl p_1)
theorem s_B_person_114 {w0 : Option zV} {w1 : Option zV} {w2 : Option zV} {w3 : Option zV} (p_1 : zX c k_B_person 115 [w0, w1, w2, w3] [zI 0] (n, K, mr, mi) Q) : zX c k_B_person 114 [w0, w1, w2, w3] [] (n, K, mr, mi) Q := 
  zX.n rfl p_1
theorem s_B_person_115 {w0 : Option zV} {w1 : Option zV} {w2 : Option zV} {w3 : Option zV} {sx0 : Int} (p_1 : Q (.inl (some (zI sx0))) (n, K, mr, mi)) : zX c k_B_person 115 [w0, w1, w2, w3] [zI sx0] (n, K, mr, mi) Q := 
  zX.ret rfl trivial p_1
theorem s_B_person_116 {w0 : Option zV} {w1 : Option zV} {w2 : Option zV} {a3 : Nat} (h_1 : K a3 = (19, 12)) (p_2 : Q (.inl (some (zI (mi a3 6)))) (n, K, mr, mi)) : zX c k_B_person 116 [w0, w1, w2, some (zR a3)] [] (n, K, mr, mi) Q := 
  zX.n rfl (zX.g rfl h_1 (zX.ret rfl trivial p_2))
theorem s_B_person_121 {a0 : Nat} {w1 : Option zV} {w2 : Option zV} {w3 : Option zV} (h_1 : K a0 = (2, 21)) (k_2 : zCall c k_B_person 123 126 [some (zR a0), w1, w2, w3] [] 0 k_B_no [zR a0, zI 1] (n, K, mr, mi) Q) : zX c k_B_person 121 [some (zR a0), w1, w2, w3] [] (n, K, mr, mi) Q := 
  zX.n rfl (zX.n rfl (zX.callQ rfl (congrArg Prod.fst h_1) trivial k_2))
theorem s_B_person_126 {w0 : Option zV} {w1 : Option zV} {w2 : Option zV} {w3 : Option zV} {sx0 : Int} (p_1 : Q (.inl (some (zI sx0))) (n, K, mr, mi)) : zX c k_B_person 126 [w0, w1, w2, w3] [zI sx0] (n, K, mr, mi) Q := 
  zX.ret rfl trivial p_1
theorem s_B_likes_0 {a0 : Nat} {x1 : Int} {x2 : Int} (h_1 : K a0 = (2, 21)) (k_2 : zCall c k_B_likes 1 4 [some (zR a0), some (zI x1), some (zI x2)] [] 0 k_B_anew [zR a0] (n, K, mr, mi) Q) : zX c k_B_likes 0 [some (zR a0), some (zI x1), some (zI x2)] [] (n, K, mr, mi) Q := 
  zX.n rfl (zX.callQ rfl (congrArg Prod.fst h_1) trivial k_2)
theorem s_B_likes_4 {a0 : Nat} {x1 : Int} {x2 : Int} (h_1 : K a0 = (2, 21)) (k_2 : zCall c k_B_likes 6 9 [some (zR a0), some (zI x1), some (zI x2)] [] 0 k_B_isPerson [zR a0, zI x1] (n, K, mr, mi) Q) : zX c k_B_likes 4 [some (zR a0), some (zI x1), some (zI x2)] [] (n, K, mr, mi) Q := 
  zX.n rfl (zX.n rfl (zX.callQ rfl (congrArg Prod.fst h_1) trivial k_2))
theorem s_B_likes_9 {a0 : Nat} {x1 : Int} {x2 : Int} {sx0 : Int} (p_1 : sx0 = 0 → zX c k_B_likes 51 [some (zR a0), some (zI x1), some (zI x2)] [] (n, K, mr, mi) Q) (p_2 : ¬ sx0 = 0 → zX c k_B_likes 12 [some (zR a0), some (zI x1), some (zI x2)] [] (n, K, mr, mi) Q) : zX c k_B_likes 9 [some (zR a0), some (zI x1), some (zI x2)] [zI sx0] (n, K, mr, mi) Q := 
  zX.n rfl (zX.ite p_1 p_2)
theorem s_B_likes_12 {a0 : Nat} {x1 : Int} {x2 : Int} {A2 : Nat} {A5 : Nat} {N7 : Nat} {j11 : Nat} {A13 : Nat} (h_1 : K a0 = (2, 21)) (h_3 : mr a0 3 = A2) (h_4 : K A2 = (18, 12)) (h_6 : mr A2 0 = A5) (h_8 : K A5 = (110, N7)) (h_9 : 0 ≤ x1) (h_10 : x1 < (N7 : Int)) (h_12 : Int.toNat x1 = j11) (h_14 : mr A5 j11 = A13) (h_15 : K A13 = (19, 12)) (k_16 : zCall c k_B_likes 28 31 [some (zR a0), some (zI x1), some (zI x2)] [] 0 k_B_in [zI x2, zI 0, zI (zw ((mi A13 5) - 1))] (n, K, mr, mi) Q) : zX c k_B_likes 12 [some (zR a0), some (zI x1), some (zI x2)] [] (n, K, mr, mi) Q := by
  subst h_3
  subst h_6
  subst h_12
  subst h_14
  exact zX.n rfl (zX.n rfl (zX.n rfl (zX.g rfl h_1 (zX.g rfl h_4 (zX.n rfl (zX.g rfl ⟨N7, h_8, h_9, h_10⟩ (zX.g rfl h_15 (zX.n rfl (zX.n rfl (zX.callQ rfl trivial trivial k_16))))))))))
theorem s_B_likes_31 {a0 : Nat} {x1 : Int} {x2 : Int} {sx0 : Int} (p_1 : sx0 = 0 → zX c k_B_likes 51 [some (zR a0), some (zI x1), some (zI x2)] [] (n, K, mr, mi) Q) (p_2 : ¬ sx0 = 0 → zX c k_B_likes 34 [some (zR a0), some (zI x1), some (zI x2)] [] (n, K, mr, mi) Q) : zX c k_B_likes 31 [some (zR a0), some (zI x1), some (zI x2)] [zI sx0] (n, K, mr, mi) Q := 
  zX.n rfl (zX.ite p_1 p_2)
theorem s_B_likes_34 {a0 : Nat} {x1 : Int} {x2 : Int} {A2 : Nat} {A5 : Nat} {N7 : Nat} {j11 : Nat} {A13 : Nat} {A16 : Nat} {N18 : Nat} {j22 : Nat} (h_1 : K a0 = (2, 21)) (h_3 : mr a0 3 = A2) (h_4 : K A2 = (18, 12)) (h_6 : mr A2 0 = A5) (h_8 : K A5 = (110, N7)) (h_9 : 0 ≤ x1) (h_10 : x1 < (N7 : Int)) (h_12 : Int.toNat x1 = j11) (h_14 : mr A5 j11 = A13) (h_15 : K A13 = (19, 12)) (h_17 : mr A13 2 = A16) (h_19 : K A16 = (100, N18)) (h_20 : 0 ≤ x2) (h_21 : x2 < (N18 : Int)) (h_23 : Int.toNat x2 = j22) (p_24 : zX c k_B_likes 56 [some (zR a0), some (zI x1), some (zI x2)] [zI (mi A16 j22)] (n, K, mr, mi) Q) : zX c k_B_likes 34 [some (zR a0), some (zI x1), some (zI x2)] [] (n, K, mr, mi) Q := by
  subst h_3
  subst h_6
  subst h_12
  subst h_14
  subst h_17
  subst h_23
  exact zX.n rfl (zX.g rfl h_1 (zX.g rfl h_4 (zX.n rfl (zX.g rfl ⟨N7, h_8, h_9, h_10⟩ (zX.g rfl h_15 (zX.n rfl (zX.g rfl ⟨N18, h_19, h_20, h_21⟩ (zX.n rfl p_24))))))))
theorem s_B_likes_51 {a0 : Nat} {w1 : Option zV} {w2 : Option zV} (h_1 : K a0 = (2, 21)) (k_2 : zCall c k_B_likes 53 56 [some (zR a0), w1, w2] [] 0 k_B_no [zR a0, zI 1] (n, K, mr, mi) Q) : zX c k_B_likes 51 [some (zR a0), w1, w2] [] (n, K, mr, mi) Q := 
  zX.n rfl (zX.n rfl (zX.callQ rfl (congrArg Prod.fst h_1) trivial k_2))
theorem s_B_likes_56 {w0 : Option zV} {w1 : Option zV} {w2 : Option zV} {sx0 : Int} (p_1 : Q (.inl (some (zI sx0))) (n, K, mr, mi)) : zX c k_B_likes 56 [w0, w1, w2] [zI sx0] (n, K, mr, mi) Q := 
  zX.ret rfl trivial p_1
theorem s_B_stay_0 {a0 : Nat} {x1 : Int} {x2 : Int} {x3 : Int} (h_1 : K a0 = (2, 21)) (k_2 : zCall c k_B_stay 1 4 [some (zR a0), some (zI x1), some (zI x2), some (zI x3)] [] 0 k_B_anew [zR a0] (n, K, mr, mi) Q) : zX c k_B_stay 0 [some (zR a0), some (zI x1), some (zI x2), some (zI x3)] [] (n, K, mr, mi) Q := 
  zX.n rfl (zX.callQ rfl (congrArg Prod.fst h_1) trivial k_2)
theorem s_B_stay_4 {a0 : Nat} {x1 : Int} {x2 : Int} {x3 : Int} (h_1 : K a0 = (2, 21)) (k_2 : zCall c k_B_stay 6 9 [some (zR a0), some (zI x1), some (zI x2), some (zI x3)] [] 0 k_B_isPerson [zR a0, zI x1] (n, K, mr, mi) Q) : zX c k_B_stay 4 [some (zR a0), some (zI x1), some (zI x2), some (zI x3)] [] (n, K, mr, mi) Q := 
  zX.n rfl (zX.n rfl (zX.callQ rfl (congrArg Prod.fst h_1) trivial k_2))
theorem s_B_stay_9 {a0 : Nat} {x1 : Int} {x2 : Int} {x3 : Int} {sx0 : Int} (p_1 : sx0 = 0 → zX c k_B_stay 43 [some (zR a0), some (zI x1), some (zI x2), some (zI x3)] [] (n, K, mr, mi) Q) (p_2 : ¬ sx0 = 0 → zX c k_B_stay 12 [some (zR a0), some (zI x1), some (zI x2), some (zI x3)] [] (n, K, mr, mi) Q) : zX c k_B_stay 9 [some (zR a0), some (zI x1), some (zI x2), some (zI x3)] [zI sx0] (n, K, mr, mi) Q := 
  zX.n rfl (zX.ite p_1 p_2)
theorem s_B_stay_12 {a0 : Nat} {x1 : Int} {x2 : Int} {x3 : Int} {A2 : Nat} {A5 : Nat} {N7 : Nat} {j11 : Nat} {A13 : Nat} (h_1 : K a0 = (2, 21)) (h_3 : mr a0 3 = A2) (h_4 : K A2 = (18, 12)) (h_6 : mr A2 0 = A5) (h_8 : K A5 = (110, N7)) (h_9 : 0 ≤ x1) (h_10 : x1 < (N7 : Int)) (h_12 : Int.toNat x1 = j11) (h_14 : mr A5 j11 = A13) (h_15 : K A13 = (19, 12)) (k_16 : zCall c k_B_stay 28 31 [some (zR a0), some (zI x1), some (zI x2), some (zI x3)] [] 0 k_B_in [zI x2, zI 0, zI (zw ((mi A13 6) - 1))] (n, K, mr, mi) Q) : zX c k_B_stay 12 [some (zR a0), some (zI x1), some (zI x2), some (zI x3)] [] (n, K, mr, mi) Q := by
  subst h_3
  subst h_6
  subst h_12
  subst h_14
  exact zX.n rfl (zX.n rfl (zX.n rfl (zX.g rfl h_1 (zX.g rfl h_4 (zX.n rfl (zX.g rfl ⟨N7, h_8, h_9, h_10⟩ (zX.g rfl h_15 (zX.n rfl (zX.n rfl (zX.callQ rfl trivial trivial k_16))))))))))
theorem s_B_stay_31 {a0 : Nat} {x1 : Int} {x2 : Int} {x3 : Int} {sx0 : Int} (p_1 : sx0 = 0 → zX c k_B_stay 43 [some (zR a0), some (zI x1), some (zI x2), some (zI x3)] [] (n, K, mr, mi) Q) (p_2 : ¬ sx0 = 0 → zX c k_B_stay 34 [some (zR a0), some (zI x1), some (zI x2), some (zI x3)] [] (n, K, mr, mi) Q) : zX c k_B_stay 31 [some (zR a0), some (zI x1), some (zI x2), some (zI x3)] [zI sx0] (n, K, mr, mi) Q := 
  zX.n rfl (zX.ite p_1 p_2)
theorem s_B_stay_34 {a0 : Nat} {x1 : Int} {x2 : Int} {x3 : Int} (k_1 : zCall c k_B_stay 37 40 [some (zR a0), some (zI x1), some (zI x2), some (zI x3)] [] 0 k_B_in [zI x3, zI 0, zI 1] (n, K, mr, mi) Q) : zX c k_B_stay 34 [some (zR a0), some (zI x1), some (zI x2), some (zI x3)] [] (n, K, mr, mi) Q := 
  zX.n rfl (zX.n rfl (zX.n rfl (zX.callQ rfl trivial trivial k_1)))
theorem s_B_stay_40 {a0 : Nat} {x1 : Int} {x2 : Int} {x3 : Int} {sx0 : Int} (p_1 : ¬ sx0 = 0 → zX c k_B_stay 49 [some (zR a0), some (zI x1), some (zI x2), some (zI x3)] [] (n, K, mr, mi) Q) (p_2 : sx0 = 0 → zX c k_B_stay 43 [some (zR a0), some (zI x1), some (zI x2), some (zI x3)] [] (n, K, mr, mi) Q) : zX c k_B_stay 40 [some (zR a0), some (zI x1), some (zI x2), some (zI x3)] [zI sx0] (n, K, mr, mi) Q := 
  zX.n rfl (zX.itn p_1 p_2)
theorem s_B_stay_43 {a0 : Nat} {w1 : Option zV} {w2 : Option zV} {w3 : Option zV} (h_1 : K a0 = (2, 21)) (k_2 : zCall c k_B_stay 45 48 [some (zR a0), w1, w2, w3] [] 0 k_B_no [zR a0, zI 1] (n, K, mr, mi) Q) : zX c k_B_stay 43 [some (zR a0), w1, w2, w3] [] (n, K, mr, mi) Q := 
  zX.n rfl (zX.n rfl (zX.callQ rfl (congrArg Prod.fst h_1) trivial k_2))
theorem s_B_stay_48 {w0 : Option zV} {w1 : Option zV} {w2 : Option zV} {w3 : Option zV} {sx0 : Int} (p_1 : Q (.inl (some (zI sx0))) (n, K, mr, mi)) : zX c k_B_stay 48 [w0, w1, w2, w3] [zI sx0] (n, K, mr, mi) Q := 
  zX.ret rfl trivial p_1
theorem s_B_stay_49 {a0 : Nat} {x1 : Int} {x2 : Int} {x3 : Int} (p_1 : ¬ x3 = 0 → zX c k_B_stay 70 [some (zR a0), some (zI x1), some (zI x2), some (zI x3)] [] (n, K, mr, mi) Q) (p_2 : x3 = 0 → zX c k_B_stay 53 [some (zR a0), some (zI x1), some (zI x2), some (zI x3)] [] (n, K, mr, mi) Q) : zX c k_B_stay 49 [some (zR a0), some (zI x1), some (zI x2), some (zI x3)] [] (n, K, mr, mi) Q := 
  zX.n rfl (zX.n rfl (zX.itn p_1 p_2))
theorem s_B_stay_53 {a0 : Nat} {x1 : Int} {x2 : Int} {w3 : Option zV} {A2 : Nat} {A5 : Nat} {N7 : Nat} {j11 : Nat} {A13 : Nat} {A16 : Nat} {N18 : Nat} {j22 : Nat} (h_1 : K a0 = (2, 21)) (h_3 : mr a0 3 = A2) (h_4 : K A2 = (18, 12)) (h_6 : mr A2 0 = A5) (h_8 : K A5 = (110, N7)) (h_9 : 0 ≤ x1) (h_10 : x1 < (N7 : Int)) (h_12 : Int.toNat x1 = j11) (h_14 : mr A5 j11 = A13) (h_15 : K A13 = (19, 12)) (h_17 : mr A13 3 = A16) (h_19 : K A16 = (100, N18)) (h_20 : 0 ≤ x2) (h_21 : x2 < (N18 : Int)) (h_23 : Int.toNat x2 = j22) (p_24 : zX c k_B_stay 84 [some (zR a0), some (zI x1), some (zI x2), w3] [zI (mi A16 j22)] (n, K, mr, mi) Q) : zX c k_B_stay 53 [some (zR a0), some (zI x1), some (zI x2), w3] [] (n, K, mr, mi) Q := by
  subst h_3
  subst h_6
  subst h_12
  subst h_14
  subst h_17
  subst h_23
  exact zX.n rfl (zX.g rfl h_1 (zX.g rfl h_4 (zX.n rfl (zX.g rfl ⟨N7, h_8, h_9, h_10⟩ (zX.g rfl h_15 (zX.n rfl (zX.g rfl ⟨N18, h_19, h_20, h_21⟩ (zX.n rfl p_24))))))))
theorem s_B_stay_70 {a0 : Nat} {x1 : Int} {x2 : Int} {w3 : Option zV} {A2 : Nat} {A5 : Nat} {N7 : Nat} {j11 : Nat} {A13 : Nat} {A16 : Nat} {N18 : Nat} {j22 : Nat} (h_1 : K a0 = (2, 21)) (h_3 : mr a0 3 = A2) (h_4 : K A2 = (18, 12)) (h_6 : mr A2 0 = A5) (h_8 : K A5 = (110, N7)) (h_9 : 0 ≤ x1) (h_10 : x1 < (N7 : Int)) (h_12 : Int.toNat x1 = j11) (h_14 : mr A5 j11 = A13) (h_15 : K A13 = (19, 12)) (h_17 : mr A13 4 = A16) (h_19 : K A16 = (100, N18)) (h_20 : 0 ≤ x2) (h_21 : x2 < (N18 : Int)) (h_23 : Int.toNat x2 = j22) (p_24 : zX c k_B_stay 84 [some (zR a0), some (zI x1), some (zI x2), w3] [zI (mi A16 j22)] (n, K, mr, mi) Q) : zX c k_B_stay 70 [some (zR a0), some (zI x1), some (zI x2), w3] [] (n, K, mr, mi) Q := by
  subst h_3
  subst h_6
  subst h_12
  subst h_14
  subst h_17
  subst h_23
  exact zX.n rfl (zX.g rfl h_1 (zX.g rfl h_4 (zX.n rfl (zX.g rfl ⟨N7, h_8, h_9, h_10⟩ (zX.g rfl h_15 (zX.n rfl (zX.g rfl ⟨N18, h_19, h_20, h_21⟩ p_24)))))))
theorem s_B_stay_84 {w0 : Option zV} {w1 : Option zV} {w2 : Option zV} {w3 : Option zV} {sx0 : Int} (p_1 : Q (.inl (some (zI sx0))) (n, K, mr, mi)) : zX c k_B_stay 84 [w0, w1, w2, w3] [zI sx0] (n, K, mr, mi) Q := 
  zX.ret rfl trivial p_1
theorem s_B_isDay_0 {a0 : Nat} {x1 : Int} {A2 : Nat} (h_1 : K a0 = (2, 21)) (h_3 : mr a0 3 = A2) (h_4 : K A2 = (18, 12)) (k_5 : zCall c k_B_isDay 11 14 [some (zR a0), some (zI x1)] [] 0 k_B_in [zI x1, zI 0, zI (zw ((mi A2 4) - 1))] (n, K, mr, mi) Q) : zX c k_B_isDay 0 [some (zR a0), some (zI x1)] [] (n, K, mr, mi) Q := by
  subst h_3
  exact zX.n rfl (zX.n rfl (zX.n rfl (zX.g rfl h_1 (zX.g rfl h_4 (zX.n rfl (zX.n rfl (zX.callQ rfl trivial trivial k_5)))))))
theorem s_B_isDay_14 {w0 : Option zV} {w1 : Option zV} {sx0 : Int} (h_1 : sx0 = 0 ∨ sx0 = 1) (p_2 : Q (.inl (some (zI sx0))) (n, K, mr, mi)) : zX c k_B_isDay 14 [w0, w1] [zI sx0] (n, K, mr, mi) Q := 
  zX.ret rfl h_1 p_2
theorem s_B_dayWhy_0 {a0 : Nat} {x1 : Int} {x2 : Int} (p_1 : ¬ x1 = 0 → zX c k_B_dayWhy 8 [some (zR a0), some (zI x1), some (zI x2)] [] (n, K, mr, mi) Q) (p_2 : x1 = 0 → zX c k_B_dayWhy 4 [some (zR a0), some (zI x1), some (zI x2)] [] (n, K, mr, mi) Q) : zX c k_B_dayWhy 0 [some (zR a0), some (zI x1), some (zI x2)] [] (n, K, mr, mi) Q := 
  zX.n rfl (zX.n rfl (zX.itn p_1 p_2))
theorem s_B_dayWhy_4 {w0 : Option zV} {w1 : Option zV} {w2 : Option zV} (p_1 : zX c k_B_dayWhy 21 [w0, w1, w2] [zI 1] (n, K, mr, mi) Q) : zX c k_B_dayWhy 4 [w0, w1, w2] [] (n, K, mr, mi) Q := 
  zX.n rfl (zX.n rfl p_1)
theorem s_B_dayWhy_8 {a0 : Nat} {w1 : Option zV} {x2 : Int} (h_1 : K a0 = (2, 21)) (k_2 : zCall c k_B_dayWhy 10 13 [some (zR a0), w1, some (zI x2)] [] 0 k_B_isDay [zR a0, zI x2] (n, K, mr, mi) Q) : zX c k_B_dayWhy 8 [some (zR a0), w1, some (zI x2)] [] (n, K, mr, mi) Q := 
  zX.n rfl (zX.n rfl (zX.callQ rfl (congrArg Prod.fst h_1) trivial k_2))
theorem s_B_dayWhy_13 {w0 : Option zV} {w1 : Option zV} {w2 : Option zV} {sx0 : Int} (p_1 : sx0 = 0 → zX c k_B_dayWhy 20 [w0, w1, w2] [] (n, K, mr, mi) Q) (p_2 : ¬ sx0 = 0 → zX c k_B_dayWhy 16 [w0, w1, w2] [] (n, K, mr, mi) Q) : zX c k_B_dayWhy 13 [w0, w1, w2] [zI sx0] (n, K, mr, mi) Q := 
  zX.n rfl (zX.ite p_1 p_2)
theorem s_B_dayWhy_16 {w0 : Option zV} {w1 : Option zV} {w2 : Option zV} (p_1 : zX c k_B_dayWhy 21 [w0, w1, w2] [zI 0] (n, K, mr, mi) Q) : zX c k_B_dayWhy 16 [w0, w1, w2] [] (n, K, mr, mi) Q := 
  zX.n rfl (zX.n rfl p_1)
theorem s_B_dayWhy_20 {w0 : Option zV} {w1 : Option zV} {w2 : Option zV} (p_1 : zX c k_B_dayWhy 21 [w0, w1, w2] [zI 2] (n, K, mr, mi) Q) : zX c k_B_dayWhy 20 [w0, w1, w2] [] (n, K, mr, mi) Q := 
  zX.n rfl p_1
theorem s_B_dayWhy_21 {w0 : Option zV} {w1 : Option zV} {w2 : Option zV} {sx0 : Int} (p_1 : Q (.inl (some (zI sx0))) (n, K, mr, mi)) : zX c k_B_dayWhy 21 [w0, w1, w2] [zI sx0] (n, K, mr, mi) Q := 
  zX.ret rfl trivial p_1
theorem s_B_here_0 {a0 : Nat} {x1 : Int} {w2 : Option zV} (h_1 : K a0 = (2, 21)) (k_2 : zCall c k_B_here 1 4 [some (zR a0), some (zI x1), w2] [] 0 k_B_anew [zR a0] (n, K, mr, mi) Q) : zX c k_B_here 0 [some (zR a0), some (zI x1), w2] [] (n, K, mr, mi) Q := 
  zX.n rfl (zX.callQ rfl (congrArg Prod.fst h_1) trivial k_2)
theorem s_B_here_4 {a0 : Nat} {x1 : Int} {w2 : Option zV} {A2 : Nat} (h_1 : K a0 = (2, 21)) (h_3 : mr a0 3 = A2) (h_4 : A2 = 0 ∨ (K A2).1 ≠ 0) (p_5 : A2 = 0 → zX c k_B_here 16 [some (zR a0), some (zI x1), w2] [zR a0] (n, K, mr, mi) Q) (p_6 : ¬ A2 = 0 → zX c k_B_here 12 [some (zR a0), some (zI x1), w2] [zR a0] (n, K, mr, mi) Q) : zX c k_B_here 4 [some (zR a0), some (zI x1), w2] [] (n, K, mr, mi) Q := by
  subst h_3
  exact zX.n rfl (zX.n rfl (zX.g rfl h_1 (zX.g rfl h_4 (zX.ite p_5 p_6))))
theorem s_B_here_12 {a0 : Nat} {x1 : Int} {w2 : Option zV} {sa0 : Nat} (p_1 : zX c k_B_here 17 [some (zR a0), some (zI x1), w2] [zI 1, zR sa0] (n, K, mr, mi) Q) : zX c k_B_here 12 [some (zR a0), some (zI x1), w2] [zR sa0] (n, K, mr, mi) Q := 
  zX.n rfl (zX.n rfl p_1)
theorem s_B_here_16 {a0 : Nat} {x1 : Int} {w2 : Option zV} {sa0 : Nat} (p_1 : zX c k_B_here 17 [some (zR a0), some (zI x1), w2] [zI 0, zR sa0] (n, K, mr, mi) Q) : zX c k_B_here 16 [some (zR a0), some (zI x1), w2] [zR sa0] (n, K, mr, mi) Q := 
  zX.n rfl p_1
theorem s_B_here_17 {a0 : Nat} {x1 : Int} {w2 : Option zV} {sa0 : Nat} {sx1 : Int} (h_1 : K sa0 = (2, 21)) (k_2 : zCall c k_B_here 18 21 [some (zR a0), some (zI x1), w2] [] 0 k_B_dayWhy [zR sa0, zI sx1, zI x1] (n, K, mr, mi) Q) : zX c k_B_here 17 [some (zR a0), some (zI x1), w2] [zI sx1, zR sa0] (n, K, mr, mi) Q := 
  zX.n rfl (zX.callQ rfl (congrArg Prod.fst h_1) trivial k_2)
theorem s_B_here_21 {a0 : Nat} {x1 : Int} {w2 : Option zV} {sx0 : Int} (p_1 : sx0 = 0 → zX c k_B_here 34 [some (zR a0), some (zI x1), some (zI sx0)] [] (n, K, mr, mi) Q) (p_2 : ¬ sx0 = 0 → zX c k_B_here 26 [some (zR a0), some (zI x1), some (zI sx0)] [] (n, K, mr, mi) Q) : zX c k_B_here 21 [some (zR a0), some (zI x1), w2] [zI sx0] (n, K, mr, mi) Q := 
  zX.n rfl (zX.n rfl (zX.n rfl (zX.ite p_1 p_2)))
theorem s_B_here_26 {a0 : Nat} {w1 : Option zV} {x2 : Int} (h_1 : K a0 = (2, 21)) (k_2 : zCall c k_B_here 28 31 [some (zR a0), w1, some (zI x2)] [] 0 k_B_no [zR a0, zI x2] (n, K, mr, mi) Q) : zX c k_B_here 26 [some (zR a0), w1, some (zI x2)] [] (n, K, mr, mi) Q := 
  zX.n rfl (zX.n rfl (zX.callQ rfl (congrArg Prod.fst h_1) trivial k_2))
theorem s_B_here_31 {w0 : Option zV} {w1 : Option zV} {w2 : Option zV} {sx0 : Int} (p_1 : zX c k_B_here 42 [w0, w1, w2] [zI sx0] (n, K, mr, mi) Q) : zX c k_B_here 31 [w0, w1, w2] [zI sx0] (n, K, mr, mi) Q := 
  zX.n rfl p_1
theorem s_B_here_34 {a0 : Nat} {x1 : Int} {w2 : Option zV} {A2 : Nat} (h_1 : K a0 = (2, 21)) (h_3 : mr a0 3 = A2) (h_4 : K A2 = (18, 12)) (k_5 : zCall c k_B_here 39 42 [some (zR a0), some (zI x1), w2] [] 0 k_G_here [zR A2, zI x1] (n, K, mr, mi) Q) : zX c k_B_here 34 [some (zR a0), some (zI x1), w2] [] (n, K, mr, mi) Q := by
  subst h_3
  exact zX.n rfl (zX.g rfl h_1 (zX.n rfl (zX.callQ rfl (congrArg Prod.fst h_4) trivial k_5)))
theorem s_B_here_42 {w0 : Option zV} {w1 : Option zV} {w2 : Option zV} {sx0 : Int} (p_1 : Q (.inl (some (zI sx0))) (n, K, mr, mi)) : zX c k_B_here 42 [w0, w1, w2] [zI sx0] (n, K, mr, mi) Q := 
  zX.ret rfl trivial p_1
theorem s_B_ones_0 {x0 : Int} {w1 : Option zV} {w2 : Option zV} (p_1 : zX c k_B_ones 4 [some (zI x0), some (zI 0), some (zI x0)] [] (n, K, mr, mi) Q) : zX c k_B_ones 0 [some (zI x0), w1, w2] [] (n, K, mr, mi) Q := 
  zX.n rfl (zX.n rfl (zX.n rfl (zX.n rfl p_1)))
theorem s_B_ones_4 {w0 : Option zV} {x1 : Int} {x2 : Int} (p_1 : x2 = 0 → zX c k_B_ones 20 [w0, some (zI x1), some (zI x2)] [] (n, K, mr, mi) Q) (p_2 : ¬ x2 = 0 → zX c k_B_ones 8 [w0, some (zI x1), some (zI x2)] [] (n, K, mr, mi) Q) : zX c k_B_ones 4 [w0, some (zI x1), some (zI x2)] [] (n, K, mr, mi) Q := 
  zX.n rfl (zX.n rfl (zX.ite p_1 p_2))
theorem s_B_ones_8 {w0 : Option zV} {x1 : Int} {x2 : Int} (p_1 : zX c k_B_ones 4 [(zkill w0), some (zI (zw (x1 + 1))), some (zI (zand x2 (zw (x2 - 1))))] [] (n, K, mr, mi) Q) : zX c k_B_ones 8 [w0, some (zI x1), some (zI x2)] [] (n, K, mr, mi) Q := 
  zX.n rfl (zX.n rfl (zX.n rfl (zX.n rfl (zX.n rfl (zX.n rfl (zX.n rfl (zX.n rfl p_1)))))))
theorem s_B_ones_20 {w0 : Option zV} {x1 : Int} {w2 : Option zV} (p_1 : Q (.inl (some (zI x1))) (n, K, mr, mi)) : zX c k_B_ones 20 [w0, some (zI x1), w2] [] (n, K, mr, mi) Q := 
  zX.n rfl (zX.ret rfl trivial p_1)
theorem s_B_most_0 {a0 : Nat} {w1 : Option zV} {w2 : Option zV} (h_1 : K a0 = (2, 21)) (k_2 : zCall c k_B_most 1 4 [some (zR a0), w1, w2] [] 0 k_B_anew [zR a0] (n, K, mr, mi) Q) : zX c k_B_most 0 [some (zR a0), w1, w2] [] (n, K, mr, mi) Q := 
  zX.n rfl (zX.callQ rfl (congrArg Prod.fst h_1) trivial k_2)
theorem s_B_most_4 {a0 : Nat} {w1 : Option zV} {w2 : Option zV} {A2 : Nat} (h_1 : K a0 = (2, 21)) (h_3 : mr a0 3 = A2) (h_4 : A2 = 0 ∨ (K A2).1 ≠ 0) (p_5 : ¬ A2 = 0 → zX c k_B_most 17 [some (zR a0), w1, w2] [] (n, K, mr, mi) Q) (p_6 : A2 = 0 → zX c k_B_most 11 [some (zR a0), w1, w2] [] (n, K, mr, mi) Q) : zX c k_B_most 4 [some (zR a0), w1, w2] [] (n, K, mr, mi) Q := by
  subst h_3
  exact zX.n rfl (zX.g rfl h_1 (zX.g rfl h_4 (zX.itn p_5 p_6)))
theorem s_B_most_11 {a0 : Nat} {w1 : Option zV} {w2 : Option zV} (h_1 : K a0 = (2, 21)) (k_2 : zCall c k_B_most 13 16 [some (zR a0), w1, w2] [] 0 k_B_no [zR a0, zI 1] (n, K, mr, mi) Q) : zX c k_B_most 11 [some (zR a0), w1, w2] [] (n, K, mr, mi) Q := 
  zX.n rfl (zX.n rfl (zX.callQ rfl (congrArg Prod.fst h_1) trivial k_2))
theorem s_B_most_16 {w0 : Option zV} {w1 : Option zV} {w2 : Option zV} {sx0 : Int} (p_1 : Q (.inl (some (zI sx0))) (n, K, mr, mi)) : zX c k_B_most 16 [w0, w1, w2] [zI sx0] (n, K, mr, mi) Q := 
  zX.ret rfl trivial p_1
theorem s_B_most_17 {a0 : Nat} {w1 : Option zV} {w2 : Option zV} (p_1 : zX c k_B_most 21 [some (zR a0), some (zI 0), some (zI 0)] [] (n, K, mr, mi) Q) : zX c k_B_most 17 [some (zR a0), w1, w2] [] (n, K, mr, mi) Q := 
  zX.n rfl (zX.n rfl (zX.n rfl (zX.n rfl p_1)))
theorem s_B_most_21 {a0 : Nat} {x1 : Int} {x2 : Int} {A2 : Nat} (h_1 : K a0 = (2, 21)) (h_3 : mr a0 3 = A2) (h_4 : K A2 = (18, 12)) (p_5 : (mi A2 4) ≤ x2 → zX c k_B_most 54 [some (zR a0), some (zI x1), some (zI x2)] [] (n, K, mr, mi) Q) (p_6 : ¬ (mi A2 4) ≤ x2 → zX c k_B_most 32 [some (zR a0), some (zI x1), some (zI x2)] [] (n, K, mr, mi) Q) : zX c k_B_most 21 [some (zR a0), some (zI x1), some (zI x2)] [] (n, K, mr, mi) Q := by
  subst h_3
  exact zX.n rfl (zX.n rfl (zX.g rfl h_1 (zX.g rfl h_4 (zX.n rfl (zX.ite p_5 p_6)))))
theorem s_B_most_32 {a0 : Nat} {x1 : Int} {x2 : Int} {A2 : Nat} (h_1 : K a0 = (2, 21)) (h_3 : mr a0 3 = A2) (h_4 : K A2 = (18, 12)) (k_5 : zCall c k_B_most 38 41 [some (zR a0), some (zI x1), some (zI x2)] [zI x1] 0 k_G_here [zR A2, zI x2] (n, K, mr, mi) Q) : zX c k_B_most 32 [some (zR a0), some (zI x1), some (zI x2)] [] (n, K, mr, mi) Q := by
  subst h_3
  exact zX.n rfl (zX.n rfl (zX.g rfl h_1 (zX.n rfl (zX.callQ rfl (congrArg Prod.fst h_4) trivial k_5))))
theorem s_B_most_41 {a0 : Nat} {w1 : Option zV} {x2 : Int} {sx0 : Int} {sx1 : Int} (k_1 : zCall c k_B_most 41 44 [some (zR a0), w1, some (zI x2)] [zI sx0] 0 k_B_ones [zI sx1] (n, K, mr, mi) Q) : zX c k_B_most 41 [some (zR a0), w1, some (zI x2)] [zI sx1, zI sx0] (n, K, mr, mi) Q := 
  zX.callQ rfl trivial trivial k_1
theorem s_B_most_44 {a0 : Nat} {w1 : Option zV} {x2 : Int} {sx0 : Int} {sx1 : Int} (p_1 : zX c k_B_most 21 [some (zR a0), some (zI (zmax sx0 sx1)), some (zI (zw (x2 + 1)))] [] (n, K, mr, mi) Q) : zX c k_B_most 44 [some (zR a0), w1, some (zI x2)] [zI sx1, zI sx0] (n, K, mr, mi) Q := 
  zX.n rfl (zX.n rfl (zX.n rfl (zX.n rfl p_1)))
theorem s_B_most_54 {w0 : Option zV} {x1 : Int} {w2 : Option zV} (p_1 : Q (.inl (some (zI x1))) (n, K, mr, mi)) : zX c k_B_most 54 [w0, some (zI x1), w2] [] (n, K, mr, mi) Q := 
  zX.n rfl (zX.ret rfl trivial p_1)
theorem s_B_brushes_0 {a0 : Nat} (h_1 : K a0 = (2, 21)) (k_2 : zCall c k_B_brushes 1 4 [some (zR a0)] [] 0 k_B_anew [zR a0] (n, K, mr, mi) Q) : zX c k_B_brushes 0 [some (zR a0)] [] (n, K, mr, mi) Q := 
  zX.n rfl (zX.callQ rfl (congrArg Prod.fst h_1) trivial k_2)
theorem s_B_brushes_4 {a0 : Nat} {A2 : Nat} (h_1 : K a0 = (2, 21)) (h_3 : mr a0 3 = A2) (h_4 : A2 = 0 ∨ (K A2).1 ≠ 0) (p_5 : ¬ A2 = 0 → zX c k_B_brushes 19 [some (zR a0)] [] (n, K, mr, mi) Q) (p_6 : A2 = 0 → zX c k_B_brushes 11 [some (zR a0)] [] (n, K, mr, mi) Q) : zX c k_B_brushes 4 [some (zR a0)] [] (n, K, mr, mi) Q := by
  subst h_3
  exact zX.n rfl (zX.g rfl h_1 (zX.g rfl h_4 (zX.itn p_5 p_6)))
theorem s_B_brushes_11 {a0 : Nat} (h_1 : K a0 = (2, 21)) (k_2 : zCall c k_B_brushes 13 16 [some (zR a0)] [] 0 k_B_no [zR a0, zI 1] (n, K, mr, mi) Q) : zX c k_B_brushes 11 [some (zR a0)] [] (n, K, mr, mi) Q := 
  zX.n rfl (zX.n rfl (zX.callQ rfl (congrArg Prod.fst h_1) trivial k_2))
theorem s_B_brushes_16 {w0 : Option zV} {sx0 : Int} (p_1 : zX c k_B_brushes 26 [w0] [zI sx0] (n, K, mr, mi) Q) : zX c k_B_brushes 16 [w0] [zI sx0] (n, K, mr, mi) Q := 
  zX.n rfl p_1
theorem s_B_brushes_19 {a0 : Nat} {A2 : Nat} (h_1 : K a0 = (2, 21)) (h_3 : mr a0 12 = A2) (h_4 : K A2 = (6, 13)) (p_5 : zX c k_B_brushes 26 [some (zR a0)] [zI (mi A2 12)] (n, K, mr, mi) Q) : zX c k_B_brushes 19 [some (zR a0)] [] (n, K, mr, mi) Q := by
  subst h_3
  exact zX.n rfl (zX.g rfl h_1 (zX.g rfl h_4 p_5))
theorem s_B_brushes_26 {w0 : Option zV} {sx0 : Int} (p_1 : Q (.inl (some (zI sx0))) (n, K, mr, mi)) : zX c k_B_brushes 26 [w0] [zI sx0] (n, K, mr, mi) Q := 
  zX.ret rfl trivial p_1
theorem s_B_brush_0 {a0 : Nat} {x1 : Int} {x2 : Int} {w3 : Option zV} (h_1 : K a0 = (2, 21)) (k_2 : zCall c k_B_brush 1 4 [some (zR a0), some (zI x1), some (zI x2), w3] [] 0 k_B_anew [zR a0] (n, K, mr, mi) Q) : zX c k_B_brush 0 [some (zR a0), some (zI x1), some (zI x2), w3] [] (n, K, mr, mi) Q := 
  zX.n rfl (zX.callQ rfl (congrArg Prod.fst h_1) trivial k_2)
theorem s_B_brush_4 {a0 : Nat} {x1 : Int} {x2 : Int} {w3 : Option zV} {A2 : Nat} (h_1 : K a0 = (2, 21)) (h_3 : mr a0 3 = A2) (h_4 : A2 = 0 ∨ (K A2).1 ≠ 0) (p_5 : A2 = 0 → zX c k_B_brush 28 [some (zR a0), some (zI x1), some (zI x2), w3] [] (n, K, mr, mi) Q) (p_6 : ¬ A2 = 0 → zX c k_B_brush 11 [some (zR a0), some (zI x1), some (zI x2), w3] [] (n, K, mr, mi) Q) : zX c k_B_brush 4 [some (zR a0), some (zI x1), some (zI x2), w3] [] (n, K, mr, mi) Q := by
  subst h_3
  exact zX.n rfl (zX.g rfl h_1 (zX.g rfl h_4 (zX.ite p_5 p_6)))
theorem s_B_brush_11 {a0 : Nat} {x1 : Int} {x2 : Int} {w3 : Option zV} {A2 : Nat} (h_1 : K a0 = (2, 21)) (h_3 : mr a0 12 = A2) (h_4 : K A2 = (6, 13)) (k_5 : zCall c k_B_brush 22 25 [some (zR a0), some (zI x1), some (zI x2), w3] [] 0 k_B_in [zI x1, zI 0, zI (zw ((mi A2 12) - 1))] (n, K, mr, mi) Q) : zX c k_B_brush 11 [some (zR a0), some (zI x1), some (zI x2), w3] [] (n, K, mr, mi) Q := by
  subst h_3
  exact zX.n rfl (zX.n rfl (zX.n rfl (zX.g rfl h_1 (zX.g rfl h_4 (zX.n rfl (zX.n rfl (zX.callQ rfl trivial trivial k_5)))))))
theorem s_B_brush_25 {a0 : Nat} {x1 : Int} {x2 : Int} {w3 : Option zV} {sx0 : Int} (p_1 : ¬ sx0 = 0 → zX c k_B_brush 34 [some (zR a0), some (zI x1), some (zI x2), w3] [] (n, K, mr, mi) Q) (p_2 : sx0 = 0 → zX c k_B_brush 28 [some (zR a0), some (zI x1), some (zI x2), w3] [] (n, K, mr, mi) Q) : zX c k_B_brush 25 [some (zR a0), some (zI x1), some (zI x2), w3] [zI sx0] (n, K, mr, mi) Q := 
  zX.n rfl (zX.itn p_1 p_2)
theorem s_B_brush_28 {a0 : Nat} {w1 : Option zV} {w2 : Option zV} {w3 : Option zV} (h_1 : K a0 = (2, 21)) (k_2 : zCall c k_B_brush 30 33 [some (zR a0), w1, w2, w3] [] 0 k_B_no [zR a0, zI 1] (n, K, mr, mi) Q) : zX c k_B_brush 28 [some (zR a0), w1, w2, w3] [] (n, K, mr, mi) Q := 
  zX.n rfl (zX.n rfl (zX.callQ rfl (congrArg Prod.fst h_1) trivial k_2))
theorem s_B_brush_33 {w0 : Option zV} {w1 : Option zV} {w2 : Option zV} {w3 : Option zV} {sx0 : Int} (p_1 : Q (.inl (some (zI sx0))) (n, K, mr, mi)) : zX c k_B_brush 33 [w0, w1, w2, w3] [zI sx0] (n, K, mr, mi) Q := 
  zX.ret rfl trivial p_1
theorem s_B_brush_34 {a0 : Nat} {x1 : Int} {x2 : Int} {w3 : Option zV} {A2 : Nat} (h_1 : K a0 = (2, 21)) (h_3 : mr a0 12 = A2) (h_4 : K A2 = (6, 13)) (k_5 : zCall c k_B_brush 39 42 [some (zR a0), some (zI x1), some (zI x2), w3] [] 0 k_Mo_brush [zR A2, zI x1] (n, K, mr, mi) Q) : zX c k_B_brush 34 [some (zR a0), some (zI x1), some (zI x2), w3] [] (n, K, mr, mi) Q := by
  subst h_3
  exact zX.n rfl (zX.g rfl h_1 (zX.n rfl (zX.callQ rfl (congrArg Prod.fst h_4) trivial k_5)))
theorem s_B_brush_42 {a0 : Nat} {w1 : Option zV} {x2 : Int} {w3 : Option zV} {sa0 : Nat} (p_1 : x2 = 0 → zX c k_B_brush 80 [some (zR a0), w1, some (zI x2), some (zR sa0)] [] (n, K, mr, mi) Q) (p_2 : x2 = 1 → zX c k_B_brush 85 [some (zR a0), w1, some (zI x2), some (zR sa0)] [] (n, K, mr, mi) Q) (p_3 : x2 = 2 → zX c k_B_brush 90 [some (zR a0), w1, some (zI x2), some (zR sa0)] [] (n, K, mr, mi) Q) (p_4 : x2 = 3 → zX c k_B_brush 95 [some (zR a0), w1, some (zI x2), some (zR sa0)] [] (n, K, mr, mi) Q) (p_5 : x2 = 4 → zX c k_B_brush 100 [some (zR a0), w1, some (zI x2), some (zR sa0)] [] (n, K, mr, mi) Q) (p_6 : x2 < 0 ∨ 4 < x2 → zX c k_B_brush 105 [some (zR a0), w1, some (zI x2), some (zR sa0)] [] (n, K, mr, mi) Q) : zX c k_B_brush 42 [some (zR a0), w1, some (zI x2), w3] [zR sa0] (n, K, mr, mi) Q := 
  zX.n rfl (zX.n rfl (zX.n rfl (zX.tsw (fun k hk hx => match k, hk, hx with | 0, _, hx => p_1 hx | 1, _, hx => p_2 hx | 2, _, hx => p_3 hx | 3, _, hx => p_4 hx | 4, _, hx => p_5 hx | k + 5, hk, _ => absurd hk (by omega)) p_6)))
theorem s_B_brush_80 {w0 : Option zV} {w1 : Option zV} {w2 : Option zV} {a3 : Nat} (h_1 : K a3 = (14, 7)) (p_2 : Q (.inl (some (zI (mi a3 0)))) (n, K, mr, mi)) : zX c k_B_brush 80 [w0, w1, w2, some (zR a3)] [] (n, K, mr, mi) Q := 
  zX.n rfl (zX.g rfl h_1 (zX.ret rfl trivial p_2))
theorem s_B_brush_85 {w0 : Option zV} {w1 : Option zV} {w2 : Option zV} {a3 : Nat} (h_1 : K a3 = (14, 7)) (p_2 : Q (.inl (some (zI (mi a3 1)))) (n, K, mr, mi)) : zX c k_B_brush 85 [w0, w1, w2, some (zR a3)] [] (n, K, mr, mi) Q := 
  zX.n rfl (zX.g rfl h_1 (zX.ret rfl trivial p_2))
theorem s_B_brush_90 {w0 : Option zV} {w1 : Option zV} {w2 : Option zV} {a3 : Nat} (h_1 : K a3 = (14, 7)) (p_2 : Q (.inl (some (zI (mi a3 2)))) (n, K, mr, mi)) : zX c k_B_brush 90 [w0, w1, w2, some (zR a3)] [] (n, K, mr, mi) Q := 
  zX.n rfl (zX.g rfl h_1 (zX.ret rfl trivial p_2))
theorem s_B_brush_95 {w0 : Option zV} {w1 : Option zV} {w2 : Option zV} {a3 : Nat} (h_1 : K a3 = (14, 7)) (p_2 : Q (.inl (some (zI (mi a3 3)))) (n, K, mr, mi)) : zX c k_B_brush 95 [w0, w1, w2, some (zR a3)] [] (n, K, mr, mi) Q := 
  zX.n rfl (zX.g rfl h_1 (zX.ret rfl trivial p_2))
theorem s_B_brush_100 {w0 : Option zV} {w1 : Option zV} {w2 : Option zV} {a3 : Nat} (h_1 : K a3 = (14, 7)) (p_2 : Q (.inl (some (zI (mi a3 4)))) (n, K, mr, mi)) : zX c k_B_brush 100 [w0, w1, w2, some (zR a3)] [] (n, K, mr, mi) Q := 
  zX.n rfl (zX.g rfl h_1 (zX.ret rfl trivial p_2))
theorem s_B_brush_105 {a0 : Nat} {w1 : Option zV} {w2 : Option zV} {w3 : Option zV} (h_1 : K a0 = (2, 21)) (k_2 : zCall c k_B_brush 107 110 [some (zR a0), w1, w2, w3] [] 0 k_B_no [zR a0, zI 1] (n, K, mr, mi) Q) : zX c k_B_brush 105 [some (zR a0), w1, w2, w3] [] (n, K, mr, mi) Q := 
  zX.n rfl (zX.n rfl (zX.callQ rfl (congrArg Prod.fst h_1) trivial k_2))
theorem s_B_brush_110 {w0 : Option zV} {w1 : Option zV} {w2 : Option zV} {w3 : Option zV} {sx0 : Int} (p_1 : Q (.inl (some (zI sx0))) (n, K, mr, mi)) : zX c k_B_brush 110 [w0, w1, w2, w3] [zI sx0] (n, K, mr, mi) Q := 
  zX.ret rfl trivial p_1
theorem s_B_isPlace_0 {a0 : Nat} {x1 : Int} {A2 : Nat} (h_1 : K a0 = (2, 21)) (h_3 : mr a0 3 = A2) (h_4 : A2 = 0 ∨ (K A2).1 ≠ 0) (p_5 : A2 = 0 → zX c k_B_isPlace 28 [some (zR a0), some (zI x1)] [] (n, K, mr, mi) Q) (p_6 : ¬ A2 = 0 → zX c k_B_isPlace 7 [some (zR a0), some (zI x1)] [] (n, K, mr, mi) Q) : zX c k_B_isPlace 0 [some (zR a0), some (zI x1)] [] (n, K, mr, mi) Q := by
  subst h_3
  exact zX.n rfl (zX.g rfl h_1 (zX.g rfl h_4 (zX.ite p_5 p_6)))
theorem s_B_isPlace_7 {a0 : Nat} {x1 : Int} {A2 : Nat} (h_1 : K a0 = (2, 21)) (h_3 : mr a0 3 = A2) (h_4 : K A2 = (18, 12)) (k_5 : zCall c k_B_isPlace 18 21 [some (zR a0), some (zI x1)] [] 0 k_B_in [zI x1, zI 0, zI (zw ((mi A2 5) - 1))] (n, K, mr, mi) Q) : zX c k_B_isPlace 7 [some (zR a0), some (zI x1)] [] (n, K, mr, mi) Q := by
  subst h_3
  exact zX.n rfl (zX.n rfl (zX.n rfl (zX.g rfl h_1 (zX.g rfl h_4 (zX.n rfl (zX.n rfl (zX.callQ rfl trivial trivial k_5)))))))
theorem s_B_isPlace_21 {w0 : Option zV} {w1 : Option zV} {sx0 : Int} (p_1 : sx0 = 0 → zX c k_B_isPlace 28 [w0, w1] [] (n, K, mr, mi) Q) (p_2 : ¬ sx0 = 0 → zX c k_B_isPlace 24 [w0, w1] [] (n, K, mr, mi) Q) : zX c k_B_isPlace 21 [w0, w1] [zI sx0] (n, K, mr, mi) Q := 
  zX.n rfl (zX.ite p_1 p_2)
theorem s_B_isPlace_24 {w0 : Option zV} {w1 : Option zV} (p_1 : zX c k_B_isPlace 29 [w0, w1] [zI 1] (n, K, mr, mi) Q) : zX c k_B_isPlace 24 [w0, w1] [] (n, K, mr, mi) Q := 
  zX.n rfl (zX.n rfl p_1)
theorem s_B_isPlace_28 {w0 : Option zV} {w1 : Option zV} (p_1 : zX c k_B_isPlace 29 [w0, w1] [zI 0] (n, K, mr, mi) Q) : zX c k_B_isPlace 28 [w0, w1] [] (n, K, mr, mi) Q := 
  zX.n rfl p_1
theorem s_B_isPlace_29 {w0 : Option zV} {w1 : Option zV} {sx0 : Int} (h_1 : sx0 = 0 ∨ sx0 = 1) (p_2 : Q (.inl (some (zI sx0))) (n, K, mr, mi)) : zX c k_B_isPlace 29 [w0, w1] [zI sx0] (n, K, mr, mi) Q := 
  zX.ret rfl h_1 p_2
theorem s_B_at_0 {a0 : Nat} {x1 : Int} {x2 : Int} {w3 : Option zV} (h_1 : K a0 = (2, 21)) (k_2 : zCall c k_B_at 1 4 [some (zR a0), some (zI x1), some (zI x2), w3] [] 0 k_B_anew [zR a0] (n, K, mr, mi) Q) : zX c k_B_at 0 [some (zR a0), some (zI x1), some (zI x2), w3] [] (n, K, mr, mi) Q := 
  zX.n rfl (zX.callQ rfl (congrArg Prod.fst h_1) trivial k_2)
theorem s_B_at_4 {a0 : Nat} {x1 : Int} {x2 : Int} {w3 : Option zV} (h_1 : K a0 = (2, 21)) (k_2 : zCall c k_B_at 7 10 [some (zR a0), some (zI x1), some (zI x2), w3] [zR a0] 0 k_B_isPlace [zR a0, zI x2] (n, K, mr, mi) Q) : zX c k_B_at 4 [some (zR a0), some (zI x1), some (zI x2), w3] [] (n, K, mr, mi) Q := 
  zX.n rfl (zX.n rfl (zX.n rfl (zX.callQ rfl (congrArg Prod.fst h_1) trivial k_2)))
theorem s_B_at_10 {a0 : Nat} {x1 : Int} {x2 : Int} {w3 : Option zV} {sa0 : Nat} {sx1 : Int} (h_1 : K sa0 = (2, 21)) (k_2 : zCall c k_B_at 11 14 [some (zR a0), some (zI x1), some (zI x2), w3] [] 0 k_B_dayWhy [zR sa0, zI sx1, zI x1] (n, K, mr, mi) Q) : zX c k_B_at 10 [some (zR a0), some (zI x1), some (zI x2), w3] [zI sx1, zR sa0] (n, K, mr, mi) Q := 
  zX.n rfl (zX.callQ rfl (congrArg Prod.fst h_1) trivial k_2)
theorem s_B_at_14 {a0 : Nat} {x1 : Int} {x2 : Int} {w3 : Option zV} {sx0 : Int} (p_1 : sx0 = 0 → zX c k_B_at 27 [some (zR a0), some (zI x1), some (zI x2), some (zI sx0)] [] (n, K, mr, mi) Q) (p_2 : ¬ sx0 = 0 → zX c k_B_at 19 [some (zR a0), some (zI x1), some (zI x2), some (zI sx0)] [] (n, K, mr, mi) Q) : zX c k_B_at 14 [some (zR a0), some (zI x1), some (zI x2), w3] [zI sx0] (n, K, mr, mi) Q := 
  zX.n rfl (zX.n rfl (zX.n rfl (zX.ite p_1 p_2)))
theorem s_B_at_19 {a0 : Nat} {w1 : Option zV} {w2 : Option zV} {x3 : Int} (h_1 : K a0 = (2, 21)) (k_2 : zCall c k_B_at 21 24 [some (zR a0), w1, w2, some (zI x3)] [] 0 k_B_no [zR a0, zI x3] (n, K, mr, mi) Q) : zX c k_B_at 19 [some (zR a0), w1, w2, some (zI x3)] [] (n, K, mr, mi) Q := 
  zX.n rfl (zX.n rfl (zX.callQ rfl (congrArg Prod.fst h_1) trivial k_2))
theorem s_B_at_24 {w0 : Option zV} {w1 : Option zV} {w2 : Option zV} {w3 : Option zV} {sx0 : Int} (p_1 : zX c k_B_at 36 [w0, w1, w2, w3] [zI sx0] (n, K, mr, mi) Q) : zX c k_B_at 24 [w0, w1, w2, w3] [zI sx0] (n, K, mr, mi) Q := 
  zX.n rfl p_1
theorem s_B_at_27 {a0 : Nat} {x1 : Int} {x2 : Int} {w3 : Option zV} {A2 : Nat} (h_1 : K a0 = (2, 21)) (h_3 : mr a0 12 = A2) (h_4 : K A2 = (6, 13)) (k_5 : zCall c k_B_at 33 36 [some (zR a0), some (zI x1), some (zI x2), w3] [] 0 k_Mo_at [zR A2, zI x1, zI x2] (n, K, mr, mi) Q) : zX c k_B_at 27 [some (zR a0), some (zI x1), some (zI x2), w3] [] (n, K, mr, mi) Q := by
  subst h_3
  exact zX.n rfl (zX.g rfl h_1 (zX.n rfl (zX.n rfl (zX.callQ rfl (congrArg Prod.fst h_4) trivial k_5))))
theorem s_B_at_36 {w0 : Option zV} {w1 : Option zV} {w2 : Option zV} {w3 : Option zV} {sx0 : Int} (p_1 : Q (.inl (some (zI sx0))) (n, K, mr, mi)) : zX c k_B_at 36 [w0, w1, w2, w3] [zI sx0] (n, K, mr, mi) Q := 
  zX.ret rfl trivial p_1
theorem s_B_colour_0 {a0 : Nat} {x1 : Int} {x2 : Int} {w3 : Option zV} (h_1 : K a0 = (2, 21)) (k_2 : zCall c k_B_colour 1 4 [some (zR a0), some (zI x1), some (zI x2), w3] [] 0 k_B_anew [zR a0] (n, K, mr, mi) Q) : zX c k_B_colour 0 [some (zR a0), some (zI x1), some (zI x2), w3] [] (n, K, mr, mi) Q := 
  zX.n rfl (zX.callQ rfl (congrArg Prod.fst h_1) trivial k_2)
theorem s_B_colour_4 {a0 : Nat} {x1 : Int} {x2 : Int} {w3 : Option zV} (h_1 : K a0 = (2, 21)) (k_2 : zCall c k_B_colour 7 10 [some (zR a0), some (zI x1), some (zI x2), w3] [zR a0] 0 k_B_isPlace [zR a0, zI x2] (n, K, mr, mi) Q) : zX c k_B_colour 4 [some (zR a0), some (zI x1), some (zI x2), w3] [] (n, K, mr, mi) Q := 
  zX.n rfl (zX.n rfl (zX.n rfl (zX.callQ rfl (congrArg Prod.fst h_1) trivial k_2)))
theorem s_B_colour_10 {a0 : Nat} {x1 : Int} {x2 : Int} {w3 : Option zV} {sa0 : Nat} {sx1 : Int} (h_1 : K sa0 = (2, 21)) (k_2 : zCall c k_B_colour 11 14 [some (zR a0), some (zI x1), some (zI x2), w3] [] 0 k_B_dayWhy [zR sa0, zI sx1, zI x1] (n, K, mr, mi) Q) : zX c k_B_colour 10 [some (zR a0), some (zI x1), some (zI x2), w3] [zI sx1, zR sa0] (n, K, mr, mi) Q := 
  zX.n rfl (zX.callQ rfl (congrArg Prod.fst h_1) trivial k_2)
theorem s_B_colour_14 {a0 : Nat} {x1 : Int} {x2 : Int} {w3 : Option zV} {sx0 : Int} (p_1 : sx0 = 0 → zX c k_B_colour 27 [some (zR a0), some (zI x1), some (zI x2), some (zI sx0)] [] (n, K, mr, mi) Q) (p_2 : ¬ sx0 = 0 → zX c k_B_colour 19 [some (zR a0), some (zI x1), some (zI x2), some (zI sx0)] [] (n, K, mr, mi) Q) : zX c k_B_colour 14 [some (zR a0), some (zI x1), some (zI x2), w3] [zI sx0] (n, K, mr, mi) Q := 
  zX.n rfl (zX.n rfl (zX.n rfl (zX.ite p_1 p_2)))
theorem s_B_colour_19 {a0 : Nat} {w1 : Option zV} {w2 : Option zV} {x3 : Int} (h_1 : K a0 = (2, 21)) (k_2 : zCall c k_B_colour 21 24 [some (zR a0), w1, w2, some (zI x3)] [] 0 k_B_no [zR a0, zI x3] (n, K, mr, mi) Q) : zX c k_B_colour 19 [some (zR a0), w1, w2, some (zI x3)] [] (n, K, mr, mi) Q := 
  zX.n rfl (zX.n rfl (zX.callQ rfl (congrArg Prod.fst h_1) trivial k_2))
theorem s_B_colour_24 {w0 : Option zV} {w1 : Option zV} {w2 : Option zV} {w3 : Option zV} {sx0 : Int} (p_1 : zX c k_B_colour 36 [w0, w1, w2, w3] [zI sx0] (n, K, mr, mi) Q) : zX c k_B_colour 24 [w0, w1, w2, w3] [zI sx0] (n, K, mr, mi) Q := 
  zX.n rfl p_1
theorem s_B_colour_27 {a0 : Nat} {x1 : Int} {x2 : Int} {w3 : Option zV} {A2 : Nat} (h_1 : K a0 = (2, 21)) (h_3 : mr a0 12 = A2) (h_4 : K A2 = (6, 13)) (k_5 : zCall c k_B_colour 33 36 [some (zR a0), some (zI x1), some (zI x2), w3] [] 0 k_Mo_colour [zR A2, zI x1, zI x2] (n, K, mr, mi) Q) : zX c k_B_colour 27 [some (zR a0), some (zI x1), some (zI x2), w3] [] (n, K, mr, mi) Q := by
  subst h_3
  exact zX.n rfl (zX.g rfl h_1 (zX.n rfl (zX.n rfl (zX.callQ rfl (congrArg Prod.fst h_4) trivial k_5))))
theorem s_B_colour_36 {w0 : Option zV} {w1 : Option zV} {w2 : Option zV} {w3 : Option zV} {sx0 : Int} (p_1 : Q (.inl (some (zI sx0))) (n, K, mr, mi)) : zX c k_B_colour 36 [w0, w1, w2, w3] [zI sx0] (n, K, mr, mi) Q := 
  zX.ret rfl trivial p_1
theorem s_B_whose_0 {a0 : Nat} {x1 : Int} {x2 : Int} {w3 : Option zV} (h_1 : K a0 = (2, 21)) (k_2 : zCall c k_B_whose 1 4 [some (zR a0), some (zI x1), some (zI x2), w3] [] 0 k_B_anew [zR a0] (n, K, mr, mi) Q) : zX c k_B_whose 0 [some (zR a0), some (zI x1), some (zI x2), w3] [] (n, K, mr, mi) Q := 
  zX.n rfl (zX.callQ rfl (congrArg Prod.fst h_1) trivial k_2)
theorem s_B_whose_4 {a0 : Nat} {x1 : Int} {x2 : Int} {w3 : Option zV} (h_1 : K a0 = (2, 21)) (k_2 : zCall c k_B_whose 7 10 [some (zR a0), some (zI x1), some (zI x2), w3] [zR a0] 0 k_B_isPlace [zR a0, zI x2] (n, K, mr, mi) Q) : zX c k_B_whose 4 [some (zR a0), some (zI x1), some (zI x2), w3] [] (n, K, mr, mi) Q := 
  zX.n rfl (zX.n rfl (zX.n rfl (zX.callQ rfl (congrArg Prod.fst h_1) trivial k_2)))
theorem s_B_whose_10 {a0 : Nat} {x1 : Int} {x2 : Int} {w3 : Option zV} {sa0 : Nat} {sx1 : Int} (h_1 : K sa0 = (2, 21)) (k_2 : zCall c k_B_whose 11 14 [some (zR a0), some (zI x1), some (zI x2), w3] [] 0 k_B_dayWhy [zR sa0, zI sx1, zI x1] (n, K, mr, mi) Q) : zX c k_B_whose 10 [some (zR a0), some (zI x1), some (zI x2), w3] [zI sx1, zR sa0] (n, K, mr, mi) Q := 
  zX.n rfl (zX.callQ rfl (congrArg Prod.fst h_1) trivial k_2)
theorem s_B_whose_14 {a0 : Nat} {x1 : Int} {x2 : Int} {w3 : Option zV} {sx0 : Int} (p_1 : sx0 = 0 → zX c k_B_whose 27 [some (zR a0), some (zI x1), some (zI x2), some (zI sx0)] [] (n, K, mr, mi) Q) (p_2 : ¬ sx0 = 0 → zX c k_B_whose 19 [some (zR a0), some (zI x1), some (zI x2), some (zI sx0)] [] (n, K, mr, mi) Q) : zX c k_B_whose 14 [some (zR a0), some (zI x1), some (zI x2), w3] [zI sx0] (n, K, mr, mi) Q := 
  zX.n rfl (zX.n rfl (zX.n rfl (zX.ite p_1 p_2)))
theorem s_B_whose_19 {a0 : Nat} {w1 : Option zV} {w2 : Option zV} {x3 : Int} (h_1 : K a0 = (2, 21)) (k_2 : zCall c k_B_whose 21 24 [some (zR a0), w1, w2, some (zI x3)] [] 0 k_B_no [zR a0, zI x3] (n, K, mr, mi) Q) : zX c k_B_whose 19 [some (zR a0), w1, w2, some (zI x3)] [] (n, K, mr, mi) Q := 
  zX.n rfl (zX.n rfl (zX.callQ rfl (congrArg Prod.fst h_1) trivial k_2))
theorem s_B_whose_24 {w0 : Option zV} {w1 : Option zV} {w2 : Option zV} {w3 : Option zV} {sx0 : Int} (p_1 : zX c k_B_whose 36 [w0, w1, w2, w3] [zI sx0] (n, K, mr, mi) Q) : zX c k_B_whose 24 [w0, w1, w2, w3] [zI sx0] (n, K, mr, mi) Q := 
  zX.n rfl p_1
theorem s_B_whose_27 {a0 : Nat} {x1 : Int} {x2 : Int} {w3 : Option zV} {A2 : Nat} (h_1 : K a0 = (2, 21)) (h_3 : mr a0 12 = A2) (h_4 : K A2 = (6, 13)) (k_5 : zCall c k_B_whose 33 36 [some (zR a0), some (zI x1), some (zI x2), w3] [] 0 k_Mo_whose [zR A2, zI x1, zI x2] (n, K, mr, mi) Q) : zX c k_B_whose 27 [some (zR a0), some (zI x1), some (zI x2), w3] [] (n, K, mr, mi) Q := by
  subst h_3
  exact zX.n rfl (zX.g rfl h_1 (zX.n rfl (zX.n rfl (zX.callQ rfl (congrArg Prod.fst h_4) trivial k_5))))
theorem s_B_whose_36 {w0 : Option zV} {w1 : Option zV} {w2 : Option zV} {w3 : Option zV} {sx0 : Int} (p_1 : Q (.inl (some (zI sx0))) (n, K, mr, mi)) : zX c k_B_whose 36 [w0, w1, w2, w3] [zI sx0] (n, K, mr, mi) Q := 
  zX.ret rfl trivial p_1
theorem s_B_place_0 {a0 : Nat} {x1 : Int} {x2 : Int} {w3 : Option zV} (h_1 : K a0 = (2, 21)) (k_2 : zCall c k_B_place 1 4 [some (zR a0), some (zI x1), some (zI x2), w3] [] 0 k_B_anew [zR a0] (n, K, mr, mi) Q) : zX c k_B_place 0 [some (zR a0), some (zI x1), some (zI x2), w3] [] (n, K, mr, mi) Q := 
  zX.n rfl (zX.callQ rfl (congrArg Prod.fst h_1) trivial k_2)
theorem s_B_place_4 {a0 : Nat} {x1 : Int} {x2 : Int} {w3 : Option zV} (h_1 : K a0 = (2, 21)) (k_2 : zCall c k_B_place 7 10 [some (zR a0), some (zI x1), some (zI x2), w3] [zR a0] 0 k_B_isPerson [zR a0, zI x2] (n, K, mr, mi) Q) : zX c k_B_place 4 [some (zR a0), some (zI x1), some (zI x2), w3] [] (n, K, mr, mi) Q := 
  zX.n rfl (zX.n rfl (zX.n rfl (zX.callQ rfl (congrArg Prod.fst h_1) trivial k_2)))
theorem s_B_place_10 {a0 : Nat} {x1 : Int} {x2 : Int} {w3 : Option zV} {sa0 : Nat} {sx1 : Int} (h_1 : K sa0 = (2, 21)) (k_2 : zCall c k_B_place 11 14 [some (zR a0), some (zI x1), some (zI x2), w3] [] 0 k_B_dayWhy [zR sa0, zI sx1, zI x1] (n, K, mr, mi) Q) : zX c k_B_place 10 [some (zR a0), some (zI x1), some (zI x2), w3] [zI sx1, zR sa0] (n, K, mr, mi) Q := 
  zX.n rfl (zX.callQ rfl (congrArg Prod.fst h_1) trivial k_2)
theorem s_B_place_14 {a0 : Nat} {x1 : Int} {x2 : Int} {w3 : Option zV} {sx0 : Int} (p_1 : sx0 = 0 → zX c k_B_place 27 [some (zR a0), some (zI x1), some (zI x2), some (zI sx0)] [] (n, K, mr, mi) Q) (p_2 : ¬ sx0 = 0 → zX c k_B_place 19 [some (zR a0), some (zI x1), some (zI x2), some (zI sx0)] [] (n, K, mr, mi) Q) : zX c k_B_place 14 [some (zR a0), some (zI x1), some (zI x2), w3] [zI sx0] (n, K, mr, mi) Q := 
  zX.n rfl (zX.n rfl (zX.n rfl (zX.ite p_1 p_2)))
theorem s_B_place_19 {a0 : Nat} {w1 : Option zV} {w2 : Option zV} {x3 : Int} (h_1 : K a0 = (2, 21)) (k_2 : zCall c k_B_place 21 24 [some (zR a0), w1, w2, some (zI x3)] [] 0 k_B_no [zR a0, zI x3] (n, K, mr, mi) Q) : zX c k_B_place 19 [some (zR a0), w1, w2, some (zI x3)] [] (n, K, mr, mi) Q := 
  zX.n rfl (zX.n rfl (zX.callQ rfl (congrArg Prod.fst h_1) trivial k_2))
theorem s_B_place_24 {w0 : Option zV} {w1 : Option zV} {w2 : Option zV} {w3 : Option zV} {sx0 : Int} (p_1 : zX c k_B_place 36 [w0, w1, w2, w3] [zI sx0] (n, K, mr, mi) Q) : zX c k_B_place 24 [w0, w1, w2, w3] [zI sx0] (n, K, mr, mi) Q := 
  zX.n rfl p_1
theorem s_B_place_27 {a0 : Nat} {x1 : Int} {x2 : Int} {w3 : Option zV} {A2 : Nat} (h_1 : K a0 = (2, 21)) (h_3 : mr a0 12 = A2) (h_4 : K A2 = (6, 13)) (k_5 : zCall c k_B_place 33 36 [some (zR a0), some (zI x1), some (zI x2), w3] [] 0 k_Mo_place [zR A2, zI x1, zI x2] (n, K, mr, mi) Q) : zX c k_B_place 27 [some (zR a0), some (zI x1), some (zI x2), w3] [] (n, K, mr, mi) Q := by
  subst h_3
  exact zX.n rfl (zX.g rfl h_1 (zX.n rfl (zX.n rfl (zX.callQ rfl (congrArg Prod.fst h_4) trivial k_5))))
theorem s_B_place_36 {w0 : Option zV} {w1 : Option zV} {w2 : Option zV} {w3 : Option zV} {sx0 : Int} (p_1 : Q (.inl (some (zI sx0))) (n, K, mr, mi)) : zX c k_B_place 36 [w0, w1, w2, w3] [zI sx0] (n, K, mr, mi) Q := 
  zX.ret rfl trivial p_1
theorem s_B_many_0 {a0 : Nat} {x1 : Int} {w2 : Option zV} (h_1 : K a0 = (2, 21)) (k_2 : zCall c k_B_many 1 4 [some (zR a0), some (zI x1), w2] [] 0 k_B_anew [zR a0] (n, K, mr, mi) Q) : zX c k_B_many 0 [some (zR a0), some (zI x1), w2] [] (n, K, mr, mi) Q := 
  zX.n rfl (zX.callQ rfl (congrArg Prod.fst h_1) trivial k_2)
theorem s_B_many_4 {a0 : Nat} {x1 : Int} {w2 : Option zV} {A2 : Nat} (h_1 : K a0 = (2, 21)) (h_3 : mr a0 3 = A2) (h_4 : A2 = 0 ∨ (K A2).1 ≠ 0) (p_5 : A2 = 0 → zX c k_B_many 16 [some (zR a0), some (zI x1), w2] [zR a0] (n, K, mr, mi) Q) (p_6 : ¬ A2 = 0 → zX c k_B_many 12 [some (zR a0), some (zI x1), w2] [zR a0] (n, K, mr, mi) Q) : zX c k_B_many 4 [some (zR a0), some (zI x1), w2] [] (n, K, mr, mi) Q := by
  subst h_3
  exact zX.n rfl (zX.n rfl (zX.g rfl h_1 (zX.g rfl h_4 (zX.ite p_5 p_6))))
theorem s_B_many_12 {a0 : Nat} {x1 : Int} {w2 : Option zV} {sa0 : Nat} (p_1 : zX c k_B_many 17 [some (zR a0), some (zI x1), w2] [zI 1, zR sa0] (n, K, mr, mi) Q) : zX c k_B_many 12 [some (zR a0), some (zI x1), w2] [zR sa0] (n, K, mr, mi) Q := 
  zX.n rfl (zX.n rfl p_1)
theorem s_B_many_16 {a0 : Nat} {x1 : Int} {w2 : Option zV} {sa0 : Nat} (p_1 : zX c k_B_many 17 [some (zR a0), some (zI x1), w2] [zI 0, zR sa0] (n, K, mr, mi) Q) : zX c k_B_many 16 [some (zR a0), some (zI x1), w2] [zR sa0] (n, K, mr, mi) Q := 
  zX.n rfl p_1
theorem s_B_many_17 {a0 : Nat} {x1 : Int} {w2 : Option zV} {sa0 : Nat} {sx1 : Int} (h_1 : K sa0 = (2, 21)) (k_2 : zCall c k_B_many 18 21 [some (zR a0), some (zI x1), w2] [] 0 k_B_dayWhy [zR sa0, zI sx1, zI x1] (n, K, mr, mi) Q) : zX c k_B_many 17 [some (zR a0), some (zI x1), w2] [zI sx1, zR sa0] (n, K, mr, mi) Q := 
  zX.n rfl (zX.callQ rfl (congrArg Prod.fst h_1) trivial k_2)
theorem s_B_many_21 {a0 : Nat} {x1 : Int} {w2 : Option zV} {sx0 : Int} (p_1 : sx0 = 0 → zX c k_B_many 34 [some (zR a0), some (zI x1), some (zI sx0)] [] (n, K, mr, mi) Q) (p_2 : ¬ sx0 = 0 → zX c k_B_many 26 [some (zR a0), some (zI x1), some (zI sx0)] [] (n, K, mr, mi) Q) : zX c k_B_many 21 [some (zR a0), some (zI x1), w2] [zI sx0] (n, K, mr, mi) Q := 
  zX.n rfl (zX.n rfl (zX.n rfl (zX.ite p_1 p_2)))
theorem s_B_many_26 {a0 : Nat} {w1 : Option zV} {x2 : Int} (h_1 : K a0 = (2, 21)) (k_2 : zCall c k_B_many 28 31 [some (zR a0), w1, some (zI x2)] [] 0 k_B_no [zR a0, zI x2] (n, K, mr, mi) Q) : zX c k_B_many 26 [some (zR a0), w1, some (zI x2)] [] (n, K, mr, mi) Q := 
  zX.n rfl (zX.n rfl (zX.callQ rfl (congrArg Prod.fst h_1) trivial k_2))
theorem s_B_many_31 {w0 : Option zV} {w1 : Option zV} {w2 : Option zV} {sx0 : Int} (p_1 : zX c k_B_many 42 [w0, w1, w2] [zI sx0] (n, K, mr, mi) Q) : zX c k_B_many 31 [w0, w1, w2] [zI sx0] (n, K, mr, mi) Q := 
  zX.n rfl p_1
theorem s_B_many_34 {a0 : Nat} {x1 : Int} {w2 : Option zV} {A2 : Nat} (h_1 : K a0 = (2, 21)) (h_3 : mr a0 12 = A2) (h_4 : K A2 = (6, 13)) (k_5 : zCall c k_B_many 39 42 [some (zR a0), some (zI x1), w2] [] 0 k_Mo_there [zR A2, zI x1] (n, K, mr, mi) Q) : zX c k_B_many 34 [some (zR a0), some (zI x1), w2] [] (n, K, mr, mi) Q := by
  subst h_3
  exact zX.n rfl (zX.g rfl h_1 (zX.n rfl (zX.callQ rfl (congrArg Prod.fst h_4) trivial k_5)))
theorem s_B_many_42 {w0 : Option zV} {w1 : Option zV} {w2 : Option zV} {sx0 : Int} (p_1 : Q (.inl (some (zI sx0))) (n, K, mr, mi)) : zX c k_B_many 42 [w0, w1, w2] [zI sx0] (n, K, mr, mi) Q := 
  zX.ret rfl trivial p_1
theorem s_B_full_0 {a0 : Nat} {w1 : Option zV} {w2 : Option zV} (h_1 : K a0 = (2, 21)) (k_2 : zCall c k_B_full 1 4 [some (zR a0), w1, w2] [] 0 k_B_anew [zR a0] (n, K, mr, mi) Q) : zX c k_B_full 0 [some (zR a0), w1, w2] [] (n, K, mr, mi) Q := 
  zX.n rfl (zX.callQ rfl (congrArg Prod.fst h_1) trivial k_2)
theorem s_B_full_4 {a0 : Nat} {w1 : Option zV} {w2 : Option zV} {A2 : Nat} (h_1 : K a0 = (2, 21)) (h_3 : mr a0 3 = A2) (h_4 : A2 = 0 ∨ (K A2).1 ≠ 0) (p_5 : ¬ A2 = 0 → zX c k_B_full 17 [some (zR a0), w1, w2] [] (n, K, mr, mi) Q) (p_6 : A2 = 0 → zX c k_B_full 11 [some (zR a0), w1, w2] [] (n, K, mr, mi) Q) : zX c k_B_full 4 [some (zR a0), w1, w2] [] (n, K, mr, mi) Q := by
  subst h_3
  exact zX.n rfl (zX.g rfl h_1 (zX.g rfl h_4 (zX.itn p_5 p_6)))
theorem s_B_full_11 {a0 : Nat} {w1 : Option zV} {w2 : Option zV} (h_1 : K a0 = (2, 21)) (k_2 : zCall c k_B_full 13 16 [some (zR a0), w1, w2] [] 0 k_B_no [zR a0, zI 1] (n, K, mr, mi) Q) : zX c k_B_full 11 [some (zR a0), w1, w2] [] (n, K, mr, mi) Q := 
  zX.n rfl (zX.n rfl (zX.callQ rfl (congrArg Prod.fst h_1) trivial k_2))
theorem s_B_full_16 {w0 : Option zV} {w1 : Option zV} {w2 : Option zV} {sx0 : Int} (p_1 : Q (.inl (some (zI sx0))) (n, K, mr, mi)) : zX c k_B_full 16 [w0, w1, w2] [zI sx0] (n, K, mr, mi) Q := 
  zX.ret rfl trivial p_1
theorem s_B_full_17 {a0 : Nat} {w1 : Option zV} {w2 : Option zV} (p_1 : zX c k_B_full 19 [some (zR a0), some (zI 0), w2] [] (n, K, mr, mi) Q) : zX c k_B_full 17 [some (zR a0), w1, w2] [] (n, K, mr, mi) Q := 
  zX.n rfl (zX.n rfl p_1)
theorem s_B_full_19 {a0 : Nat} {x1 : Int} {w2 : Option zV} {A2 : Nat} (h_1 : K a0 = (2, 21)) (h_3 : mr a0 3 = A2) (h_4 : K A2 = (18, 12)) (p_5 : (mi A2 4) ≤ x1 → zX c k_B_full 71 [some (zR a0), some (zI x1), w2] [] (n, K, mr, mi) Q) (p_6 : ¬ (mi A2 4) ≤ x1 → zX c k_B_full 30 [some (zR a0), some (zI x1), w2] [] (n, K, mr, mi) Q) : zX c k_B_full 19 [some (zR a0), some (zI x1), w2] [] (n, K, mr, mi) Q := by
  subst h_3
  exact zX.n rfl (zX.n rfl (zX.g rfl h_1 (zX.g rfl h_4 (zX.n rfl (zX.ite p_5 p_6)))))
theorem s_B_full_30 {a0 : Nat} {x1 : Int} {w2 : Option zV} (p_1 : zX c k_B_full 32 [some (zR a0), some (zI x1), some (zI 0)] [] (n, K, mr, mi) Q) : zX c k_B_full 30 [some (zR a0), some (zI x1), w2] [] (n, K, mr, mi) Q := 
  zX.n rfl (zX.n rfl p_1)
theorem s_B_full_32 {a0 : Nat} {x1 : Int} {x2 : Int} {A2 : Nat} (h_1 : K a0 = (2, 21)) (h_3 : mr a0 3 = A2) (h_4 : K A2 = (18, 12)) (p_5 : (mi A2 8) ≤ x2 → zX c k_B_full 65 [some (zR a0), some (zI x1), some (zI x2)] [] (n, K, mr, mi) Q) (p_6 : ¬ (mi A2 8) ≤ x2 → zX c k_B_full 43 [some (zR a0), some (zI x1), some (zI x2)] [] (n, K, mr, mi) Q) : zX c k_B_full 32 [some (zR a0), some (zI x1), some (zI x2)] [] (n, K, mr, mi) Q := by
  subst h_3
  exact zX.n rfl (zX.n rfl (zX.g rfl h_1 (zX.g rfl h_4 (zX.n rfl (zX.ite p_5 p_6)))))
theorem s_B_full_43 {a0 : Nat} {x1 : Int} {x2 : Int} {A2 : Nat} (h_1 : K a0 = (2, 21)) (h_3 : mr a0 12 = A2) (h_4 : K A2 = (6, 13)) (k_5 : zCall c k_B_full 49 52 [some (zR a0), some (zI x1), some (zI x2)] [] 0 k_Mo_place [zR A2, zI x1, zI x2] (n, K, mr, mi) Q) : zX c k_B_full 43 [some (zR a0), some (zI x1), some (zI x2)] [] (n, K, mr, mi) Q := by
  subst h_3
  exact zX.n rfl (zX.g rfl h_1 (zX.n rfl (zX.n rfl (zX.callQ rfl (congrArg Prod.fst h_4) trivial k_5))))
theorem s_B_full_52 {a0 : Nat} {x1 : Int} {x2 : Int} {sx0 : Int} (p_1 : ¬ sx0 = (8 : Int) → zX c k_B_full 59 [some (zR a0), some (zI x1), some (zI x2)] [] (n, K, mr, mi) Q) (p_2 : sx0 = (8 : Int) → zX c k_B_full 57 [some (zR a0), some (zI x1), some (zI x2)] [] (n, K, mr, mi) Q) : zX c k_B_full 52 [some (zR a0), some (zI x1), some (zI x2)] [zI sx0] (n, K, mr, mi) Q := 
  zX.n rfl (zX.n rfl (zX.itn p_1 p_2))
theorem s_B_full_57 {w0 : Option zV} {x1 : Int} {w2 : Option zV} (p_1 : Q (.inl (some (zI x1))) (n, K, mr, mi)) : zX c k_B_full 57 [w0, some (zI x1), w2] [] (n, K, mr, mi) Q := 
  zX.n rfl (zX.ret rfl trivial p_1)
theorem s_B_full_59 {a0 : Nat} {x1 : Int} {x2 : Int} (p_1 : zX c k_B_full 32 [some (zR a0), some (zI x1), some (zI (zw (x2 + 1)))] [] (n, K, mr, mi) Q) : zX c k_B_full 59 [some (zR a0), some (zI x1), some (zI x2)] [] (n, K, mr, mi) Q := 
  zX.n rfl (zX.n rfl p_1)
theorem s_B_full_65 {a0 : Nat} {x1 : Int} {w2 : Option zV} (p_1 : zX c k_B_full 19 [some (zR a0), some (zI (zw (x1 + 1))), w2] [] (n, K, mr, mi) Q) : zX c k_B_full 65 [some (zR a0), some (zI x1), w2] [] (n, K, mr, mi) Q := 
  zX.n rfl (zX.n rfl p_1)
theorem s_B_full_71 {w0 : Option zV} {w1 : Option zV} {w2 : Option zV} (p_1 : Q (.inl (some (zI ((-2))))) (n, K, mr, mi)) : zX c k_B_full 71 [w0, w1, w2] [] (n, K, mr, mi) Q := 
  zX.n rfl (zX.ret rfl trivial p_1)
theorem s_B_uses_0 {a0 : Nat} {x1 : Int} {x2 : Int} {w3 : Option zV} (h_1 : K a0 = (2, 21)) (k_2 : zCall c k_B_uses 1 4 [some (zR a0), some (zI x1), some (zI x2), w3] [] 0 k_B_anew [zR a0] (n, K, mr, mi) Q) : zX c k_B_uses 0 [some (zR a0), some (zI x1), some (zI x2), w3] [] (n, K, mr, mi) Q := 
  zX.n rfl (zX.callQ rfl (congrArg Prod.fst h_1) trivial k_2)
theorem s_B_uses_4 {a0 : Nat} {x1 : Int} {x2 : Int} {w3 : Option zV} (h_1 : K a0 = (2, 21)) (k_2 : zCall c k_B_uses 7 10 [some (zR a0), some (zI x1), some (zI x2), w3] [zR a0] 0 k_B_isPerson [zR a0, zI x2] (n, K, mr, mi) Q) : zX c k_B_uses 4 [some (zR a0), some (zI x1), some (zI x2), w3] [] (n, K, mr, mi) Q := 
  zX.n rfl (zX.n rfl (zX.n rfl (zX.callQ rfl (congrArg Prod.fst h_1) trivial k_2)))
theorem s_B_uses_10 {a0 : Nat} {x1 : Int} {x2 : Int} {w3 : Option zV} {sa0 : Nat} {sx1 : Int} (h_1 : K sa0 = (2, 21)) (k_2 : zCall c k_B_uses 11 14 [some (zR a0), some (zI x1), some (zI x2), w3] [] 0 k_B_dayWhy [zR sa0, zI sx1, zI x1] (n, K, mr, mi) Q) : zX c k_B_uses 10 [some (zR a0), some (zI x1), some (zI x2), w3] [zI sx1, zR sa0] (n, K, mr, mi) Q := 
  zX.n rfl (zX.callQ rfl (congrArg Prod.fst h_1) trivial k_2)
theorem s_B_uses_14 {a0 : Nat} {x1 : Int} {x2 : Int} {w3 : Option zV} {sx0 : Int} (p_1 : sx0 = 0 → zX c k_B_uses 27 [some (zR a0), some (zI x1), some (zI x2), some (zI sx0)] [] (n, K, mr, mi) Q) (p_2 : ¬ sx0 = 0 → zX c k_B_uses 19 [some (zR a0), some (zI x1), some (zI x2), some (zI sx0)] [] (n, K, mr, mi) Q) : zX c k_B_uses 14 [some (zR a0), some (zI x1), some (zI x2), w3] [zI sx0] (n, K, mr, mi) Q := 
  zX.n rfl (zX.n rfl (zX.n rfl (zX.ite p_1 p_2)))
theorem s_B_uses_19 {a0 : Nat} {w1 : Option zV} {w2 : Option zV} {x3 : Int} (h_1 : K a0 = (2, 21)) (k_2 : zCall c k_B_uses 21 24 [some (zR a0), w1, w2, some (zI x3)] [] 0 k_B_no [zR a0, zI x3] (n, K, mr, mi) Q) : zX c k_B_uses 19 [some (zR a0), w1, w2, some (zI x3)] [] (n, K, mr, mi) Q := 
  zX.n rfl (zX.n rfl (zX.callQ rfl (congrArg Prod.fst h_1) trivial k_2))
theorem s_B_uses_24 {w0 : Option zV} {w1 : Option zV} {w2 : Option zV} {w3 : Option zV} {sx0 : Int} (p_1 : zX c k_B_uses 36 [w0, w1, w2, w3] [zI sx0] (n, K, mr, mi) Q) : zX c k_B_uses 24 [w0, w1, w2, w3] [zI sx0] (n, K, mr, mi) Q := 
  zX.n rfl p_1
theorem s_B_uses_27 {a0 : Nat} {x1 : Int} {x2 : Int} {w3 : Option zV} {A2 : Nat} (h_1 : K a0 = (2, 21)) (h_3 : mr a0 12 = A2) (h_4 : K A2 = (6, 13)) (k_5 : zCall c k_B_uses 33 36 [some (zR a0), some (zI x1), some (zI x2), w3] [] 0 k_Mo_used [zR A2, zI x1, zI x2] (n, K, mr, mi) Q) : zX c k_B_uses 27 [some (zR a0), some (zI x1), some (zI x2), w3] [] (n, K, mr, mi) Q := by
  subst h_3
  exact zX.n rfl (zX.g rfl h_1 (zX.n rfl (zX.n rfl (zX.callQ rfl (congrArg Prod.fst h_4) trivial k_5))))
theorem s_B_uses_36 {w0 : Option zV} {w1 : Option zV} {w2 : Option zV} {w3 : Option zV} {sx0 : Int} (p_1 : Q (.inl (some (zI sx0))) (n, K, mr, mi)) : zX c k_B_uses 36 [w0, w1, w2, w3] [zI sx0] (n, K, mr, mi) Q := 
  zX.ret rfl trivial p_1
theorem s_B_wet_0 {a0 : Nat} {x1 : Int} {x2 : Int} {w3 : Option zV} {w4 : Option zV} {w5 : Option zV} {w6 : Option zV} (h_1 : K a0 = (2, 21)) (k_2 : zCall c k_B_wet 1 4 [some (zR a0), some (zI x1), some (zI x2), w3, w4, w5, w6] [] 0 k_B_anew [zR a0] (n, K, mr, mi) Q) : zX c k_B_wet 0 [some (zR a0), some (zI x1), some (zI x2), w3, w4, w5, w6] [] (n, K, mr, mi) Q := 
  zX.n rfl (zX.callQ rfl (congrArg Prod.fst h_1) trivial k_2)
theorem s_B_wet_4 {a0 : Nat} {x1 : Int} {x2 : Int} {w3 : Option zV} {w4 : Option zV} {w5 : Option zV} {w6 : Option zV} (h_1 : K a0 = (2, 21)) (k_2 : zCall c k_B_wet 7 10 [some (zR a0), some (zI x1), some (zI x2), w3, w4, w5, w6] [zR a0] 0 k_B_isPlace [zR a0, zI x2] (n, K, mr, mi) Q) : zX c k_B_wet 4 [some (zR a0), some (zI x1), some (zI x2), w3, w4, w5, w6] [] (n, K, mr, mi) Q := 
  zX.n rfl (zX.n rfl (zX.n rfl (zX.callQ rfl (congrArg Prod.fst h_1) trivial k_2)))
theorem s_B_wet_10 {a0 : Nat} {x1 : Int} {x2 : Int} {w3 : Option zV} {w4 : Option zV} {w5 : Option zV} {w6 : Option zV} {sa0 : Nat} {sx1 : Int} (h_1 : K sa0 = (2, 21)) (k_2 : zCall c k_B_wet 11 14 [some (zR a0), some (zI x1), some (zI x2), w3, w4, w5, w6] [] 0 k_B_dayWhy [zR sa0, zI sx1, zI x1] (n, K, mr, mi) Q) : zX c k_B_wet 10 [some (zR a0), some (zI x1), some (zI x2), w3, w4, w5, w6] [zI sx1, zR sa0] (n, K, mr, mi) Q := 
  zX.n rfl (zX.callQ rfl (congrArg Prod.fst h_1) trivial k_2)
theorem s_B_wet_14 {a0 : Nat} {x1 : Int} {x2 : Int} {w3 : Option zV} {w4 : Option zV} {w5 : Option zV} {w6 : Option zV} {sx0 : Int} (p_1 : sx0 = 0 → zX c k_B_wet 25 [some (zR a0), some (zI x1), some (zI x2), some (zI sx0), w4, w5, w6] [] (n, K, mr, mi) Q) (p_2 : ¬ sx0 = 0 → zX c k_B_wet 19 [some (zR a0), some (zI x1), some (zI x2), some (zI sx0), w4, w5, w6] [] (n, K, mr, mi) Q) : zX c k_B_wet 14 [some (zR a0), some (zI x1), some (zI x2), w3, w4, w5, w6] [zI sx0] (n, K, mr, mi) Q := 
  zX.n rfl (zX.n rfl (zX.n rfl (zX.ite p_1 p_2)))
theorem s_B_wet_19 {a0 : Nat} {w1 : Option zV} {w2 : Option zV} {x3 : Int} {w4 : Option zV} {w5 : Option zV} {w6 : Option zV} (h_1 : K a0 = (2, 21)) (k_2 : zCall c k_B_wet 21 24 [some (zR a0), w1, w2, some (zI x3), w4, w5, w6] [] 0 k_B_no [zR a0, zI x3] (n, K, mr, mi) Q) : zX c k_B_wet 19 [some (zR a0), w1, w2, some (zI x3), w4, w5, w6] [] (n, K, mr, mi) Q := 
  zX.n rfl (zX.n rfl (zX.callQ rfl (congrArg Prod.fst h_1) trivial k_2))
theorem s_B_wet_24 {w0 : Option zV} {w1 : Option zV} {w2 : Option zV} {w3 : Option zV} {w4 : Option zV} {w5 : Option zV} {w6 : Option zV} {sx0 : Int} (p_1 : Q (.inl (some (zI sx0))) (n, K, mr, mi)) : zX c k_B_wet 24 [w0, w1, w2, w3, w4, w5, w6] [zI sx0] (n, K, mr, mi) Q := 
  zX.ret rfl trivial p_1
theorem s_B_wet_25 {a0 : Nat} {x1 : Int} {x2 : Int} {w3 : Option zV} {w4 : Option zV} {w5 : Option zV} {w6 : Option zV} {A2 : Nat} (h_1 : K a0 = (2, 21)) (h_3 : mr a0 12 = A2) (h_4 : K A2 = (6, 13)) (k_5 : zCall c k_B_wet 31 34 [some (zR a0), some (zI x1), some (zI x2), w3, w4, w5, w6] [] 0 k_Mo_at [zR A2, zI x1, zI x2] (n, K, mr, mi) Q) : zX c k_B_wet 25 [some (zR a0), some (zI x1), some (zI x2), w3, w4, w5, w6] [] (n, K, mr, mi) Q := by
  subst h_3
  exact zX.n rfl (zX.g rfl h_1 (zX.n rfl (zX.n rfl (zX.callQ rfl (congrArg Prod.fst h_4) trivial k_5))))
theorem s_B_wet_34 {a0 : Nat} {x1 : Int} {w2 : Option zV} {w3 : Option zV} {w4 : Option zV} {w5 : Option zV} {w6 : Option zV} {sx0 : Int} (p_1 : zX c k_B_wet 42 [some (zR a0), some (zI x1), w2, (zkill w3), some (zI sx0), some (zI 0), some (zI 0)] [] (n, K, mr, mi) Q) : zX c k_B_wet 34 [some (zR a0), some (zI x1), w2, w3, w4, w5, w6] [zI sx0] (n, K, mr, mi) Q := 
  zX.n rfl (zX.n rfl (zX.n rfl (zX.n rfl (zX.n rfl p_1))))
theorem s_B_wet_42 {a0 : Nat} {x1 : Int} {w2 : Option zV} {w3 : Option zV} {x4 : Int} {x5 : Int} {x6 : Int} {A2 : Nat} (h_1 : K a0 = (2, 21)) (h_3 : mr a0 3 = A2) (h_4 : K A2 = (18, 12)) (p_5 : (mi A2 8) ≤ x6 → zX c k_B_wet 94 [some (zR a0), some (zI x1), w2, w3, some (zI x4), some (zI x5), some (zI x6)] [] (n, K, mr, mi) Q) (p_6 : ¬ (mi A2 8) ≤ x6 → zX c k_B_wet 54 [some (zR a0), some (zI x1), w2, w3, some (zI x4), some (zI x5), some (zI x6)] [] (n, K, mr, mi) Q) : zX c k_B_wet 42 [some (zR a0), some (zI x1), w2, w3, some (zI x4), some (zI x5), some (zI x6)] [] (n, K, mr, mi) Q := by
  subst h_3
  exact zX.n rfl (zX.n rfl (zX.g rfl h_1 (zX.g rfl h_4 (zX.n rfl (zX.ite p_5 p_6)))))
theorem s_B_wet_54 {a0 : Nat} {x1 : Int} {w2 : Option zV} {w3 : Option zV} {x4 : Int} {x5 : Int} {x6 : Int} (p_1 : ¬ x5 = 0 → zX c k_B_wet 81 [some (zR a0), some (zI x1), w2, w3, some (zI x4), some (zI x5), some (zI x6)] [] (n, K, mr, mi) Q) (p_2 : x5 = 0 → zX c k_B_wet 59 [some (zR a0), some (zI x1), w2, w3, some (zI x4), some (zI x5), some (zI x6)] [] (n, K, mr, mi) Q) : zX c k_B_wet 54 [some (zR a0), some (zI x1), w2, w3, some (zI x4), some (zI x5), some (zI x6)] [] (n, K, mr, mi) Q := 
  zX.n rfl (zX.n rfl (zX.itn p_1 p_2))
theorem s_B_wet_59 {a0 : Nat} {x1 : Int} {w2 : Option zV} {w3 : Option zV} {x4 : Int} {w5 : Option zV} {x6 : Int} (p_1 : x4 = ((-2)) → zX c k_B_wet 85 [some (zR a0), some (zI x1), w2, w3, some (zI x4), w5, some (zI x6)] [] (n, K, mr, mi) Q) (p_2 : ¬ x4 = ((-2)) → zX c k_B_wet 66 [some (zR a0), some (zI x1), w2, w3, some (zI x4), w5, some (zI x6)] [] (n, K, mr, mi) Q) : zX c k_B_wet 59 [some (zR a0), some (zI x1), w2, w3, some (zI x4), w5, some (zI x6)] [] (n, K, mr, mi) Q := 
  zX.n rfl (zX.n rfl (zX.n rfl (zX.ite p_1 p_2)))
theorem s_B_wet_66 {a0 : Nat} {x1 : Int} {w2 : Option zV} {w3 : Option zV} {x4 : Int} {w5 : Option zV} {x6 : Int} {A2 : Nat} (h_1 : K a0 = (2, 21)) (h_3 : mr a0 12 = A2) (h_4 : K A2 = (6, 13)) (k_5 : zCall c k_B_wet 73 76 [some (zR a0), some (zI x1), w2, w3, some (zI x4), w5, some (zI x6)] [] 0 k_Mo_used [zR A2, zI x1, zI x6] (n, K, mr, mi) Q) : zX c k_B_wet 66 [some (zR a0), some (zI x1), w2, w3, some (zI x4), w5, some (zI x6)] [] (n, K, mr, mi) Q := by
  subst h_3
  exact zX.n rfl (zX.g rfl h_1 (zX.n rfl (zX.n rfl (zX.callQ rfl (congrArg Prod.fst h_4) trivial k_5))))
theorem s_B_wet_76 {a0 : Nat} {x1 : Int} {w2 : Option zV} {w3 : Option zV} {x4 : Int} {w5 : Option zV} {x6 : Int} {sx0 : Int} (p_1 : ¬ sx0 = x4 → zX c k_B_wet 85 [some (zR a0), some (zI x1), w2, w3, some (zI x4), w5, some (zI x6)] [] (n, K, mr, mi) Q) (p_2 : sx0 = x4 → zX c k_B_wet 81 [some (zR a0), some (zI x1), w2, w3, some (zI x4), w5, some (zI x6)] [] (n, K, mr, mi) Q) : zX c k_B_wet 76 [some (zR a0), some (zI x1), w2, w3, some (zI x4), w5, some (zI x6)] [zI sx0] (n, K, mr, mi) Q := 
  zX.n rfl (zX.n rfl (zX.itn p_1 p_2))
theorem s_B_wet_81 {a0 : Nat} {x1 : Int} {w2 : Option zV} {w3 : Option zV} {x4 : Int} {w5 : Option zV} {x6 : Int} (p_1 : zX c k_B_wet 86 [some (zR a0), some (zI x1), w2, w3, some (zI x4), w5, some (zI x6)] [zI 1] (n, K, mr, mi) Q) : zX c k_B_wet 81 [some (zR a0), some (zI x1), w2, w3, some (zI x4), w5, some (zI x6)] [] (n, K, mr, mi) Q := 
  zX.n rfl (zX.n rfl p_1)
theorem s_B_wet_85 {a0 : Nat} {x1 : Int} {w2 : Option zV} {w3 : Option zV} {x4 : Int} {w5 : Option zV} {x6 : Int} (p_1 : zX c k_B_wet 86 [some (zR a0), some (zI x1), w2, w3, some (zI x4), w5, some (zI x6)] [zI 0] (n, K, mr, mi) Q) : zX c k_B_wet 85 [some (zR a0), some (zI x1), w2, w3, some (zI x4), w5, some (zI x6)] [] (n, K, mr, mi) Q := 
  zX.n rfl p_1
theorem s_B_wet_86 {a0 : Nat} {x1 : Int} {w2 : Option zV} {w3 : Option zV} {x4 : Int} {w5 : Option zV} {x6 : Int} {sx0 : Int} (p_1 : zX c k_B_wet 42 [some (zR a0), some (zI x1), w2, w3, some (zI x4), some (zI sx0), some (zI (zw (x6 + 1)))] [] (n, K, mr, mi) Q) : zX c k_B_wet 86 [some (zR a0), some (zI x1), w2, w3, some (zI x4), w5, some (zI x6)] [zI sx0] (n, K, mr, mi) Q := 
  zX.n rfl (zX.n rfl (zX.n rfl p_1))
theorem s_B_wet_94 {w0 : Option zV} {w1 : Option zV} {w2 : Option zV} {w3 : Option zV} {w4 : Option zV} {x5 : Int} {w6 : Option zV} (p_1 : x5 = 0 → zX c k_B_wet 103 [w0, w1, w2, w3, w4, some (zI x5), w6] [] (n, K, mr, mi) Q) (p_2 : ¬ x5 = 0 → zX c k_B_wet 99 [w0, w1, w2, w3, w4, some (zI x5), w6] [] (n, K, mr, mi) Q) : zX c k_B_wet 94 [w0, w1, w2, w3, w4, some (zI x5), w6] [] (n, K, mr, mi) Q := 
  zX.n rfl (zX.n rfl (zX.ite p_1 p_2))
theorem s_B_wet_99 {w0 : Option zV} {w1 : Option zV} {w2 : Option zV} {w3 : Option zV} {w4 : Option zV} {w5 : Option zV} {w6 : Option zV} (p_1 : zX c k_B_wet 104 [w0, w1, w2, w3, w4, w5, w6] [zI 1] (n, K, mr, mi) Q) : zX c k_B_wet 99 [w0, w1, w2, w3, w4, w5, w6] [] (n, K, mr, mi) Q := 
  zX.n rfl (zX.n rfl p_1)
theorem s_B_wet_103 {w0 : Option zV} {w1 : Option zV} {w2 : Option zV} {w3 : Option zV} {w4 : Option zV} {w5 : Option zV} {w6 : Option zV} (p_1 : zX c k_B_wet 104 [w0, w1, w2, w3, w4, w5, w6] [zI 0] (n, K, mr, mi) Q) : zX c k_B_wet 103 [w0, w1, w2, w3, w4, w5, w6] [] (n, K, mr, mi) Q := 
  zX.n rfl p_1
theorem s_B_wet_104 {w0 : Option zV} {w1 : Option zV} {w2 : Option zV} {w3 : Option zV} {w4 : Option zV} {w5 : Option zV} {w6 : Option zV} {sx0 : Int} (p_1 : Q (.inl (some (zI sx0))) (n, K, mr, mi)) : zX c k_B_wet 104 [w0, w1, w2, w3, w4, w5, w6] [zI sx0] (n, K, mr, mi) Q := 
  zX.ret rfl trivial p_1
theorem s_B_shared_0 {a0 : Nat} {x1 : Int} {w2 : Option zV} (h_1 : K a0 = (2, 21)) (k_2 : zCall c k_B_shared 1 4 [some (zR a0), some (zI x1), w2] [] 0 k_B_anew [zR a0] (n, K, mr, mi) Q) : zX c k_B_shared 0 [some (zR a0), some (zI x1), w2] [] (n, K, mr, mi) Q := 
  zX.n rfl (zX.callQ rfl (congrArg Prod.fst h_1) trivial k_2)
theorem s_B_shared_4 {a0 : Nat} {x1 : Int} {w2 : Option zV} {A2 : Nat} (h_1 : K a0 = (2, 21)) (h_3 : mr a0 3 = A2) (h_4 : A2 = 0 ∨ (K A2).1 ≠ 0) (p_5 : A2 = 0 → zX c k_B_shared 16 [some (zR a0), some (zI x1), w2] [zR a0] (n, K, mr, mi) Q) (p_6 : ¬ A2 = 0 → zX c k_B_shared 12 [some (zR a0), some (zI x1), w2] [zR a0] (n, K, mr, mi) Q) : zX c k_B_shared 4 [some (zR a0), some (zI x1), w2] [] (n, K, mr, mi) Q := by
  subst h_3
  exact zX.n rfl (zX.n rfl (zX.g rfl h_1 (zX.g rfl h_4 (zX.ite p_5 p_6))))
theorem s_B_shared_12 {a0 : Nat} {x1 : Int} {w2 : Option zV} {sa0 : Nat} (p_1 : zX c k_B_shared 17 [some (zR a0), some (zI x1), w2] [zI 1, zR sa0] (n, K, mr, mi) Q) : zX c k_B_shared 12 [some (zR a0), some (zI x1), w2] [zR sa0] (n, K, mr, mi) Q := 
  zX.n rfl (zX.n rfl p_1)
theorem s_B_shared_16 {a0 : Nat} {x1 : Int} {w2 : Option zV} {sa0 : Nat} (p_1 : zX c k_B_shared 17 [some (zR a0), some (zI x1), w2] [zI 0, zR sa0] (n, K, mr, mi) Q) : zX c k_B_shared 16 [some (zR a0), some (zI x1), w2] [zR sa0] (n, K, mr, mi) Q := 
  zX.n rfl p_1
theorem s_B_shared_17 {a0 : Nat} {x1 : Int} {w2 : Option zV} {sa0 : Nat} {sx1 : Int} (h_1 : K sa0 = (2, 21)) (k_2 : zCall c k_B_shared 18 21 [some (zR a0), some (zI x1), w2] [] 0 k_B_dayWhy [zR sa0, zI sx1, zI x1] (n, K, mr, mi) Q) : zX c k_B_shared 17 [some (zR a0), some (zI x1), w2] [zI sx1, zR sa0] (n, K, mr, mi) Q := 
  zX.n rfl (zX.callQ rfl (congrArg Prod.fst h_1) trivial k_2)
theorem s_B_shared_21 {a0 : Nat} {x1 : Int} {w2 : Option zV} {sx0 : Int} (p_1 : sx0 = 0 → zX c k_B_shared 34 [some (zR a0), some (zI x1), some (zI sx0)] [] (n, K, mr, mi) Q) (p_2 : ¬ sx0 = 0 → zX c k_B_shared 26 [some (zR a0), some (zI x1), some (zI sx0)] [] (n, K, mr, mi) Q) : zX c k_B_shared 21 [some (zR a0), some (zI x1), w2] [zI sx0] (n, K, mr, mi) Q := 
  zX.n rfl (zX.n rfl (zX.n rfl (zX.ite p_1 p_2)))
theorem s_B_shared_26 {a0 : Nat} {w1 : Option zV} {x2 : Int} (h_1 : K a0 = (2, 21)) (k_2 : zCall c k_B_shared 28 31 [some (zR a0), w1, some (zI x2)] [] 0 k_B_no [zR a0, zI x2] (n, K, mr, mi) Q) : zX c k_B_shared 26 [some (zR a0), w1, some (zI x2)] [] (n, K, mr, mi) Q := 
  zX.n rfl (zX.n rfl (zX.callQ rfl (congrArg Prod.fst h_1) trivial k_2))
theorem s_B_shared_31 {w0 : Option zV} {w1 : Option zV} {w2 : Option zV} {sx0 : Int} (p_1 : zX c k_B_shared 42 [w0, w1, w2] [zI sx0] (n, K, mr, mi) Q) : zX c k_B_shared 31 [w0, w1, w2] [zI sx0] (n, K, mr, mi) Q := 
  zX.n rfl p_1
theorem s_B_shared_34 {a0 : Nat} {x1 : Int} {w2 : Option zV} {A2 : Nat} (h_1 : K a0 = (2, 21)) (h_3 : mr a0 12 = A2) (h_4 : K A2 = (6, 13)) (k_5 : zCall c k_B_shared 39 42 [some (zR a0), some (zI x1), w2] [] 0 k_Mo_shared [zR A2, zI x1] (n, K, mr, mi) Q) : zX c k_B_shared 34 [some (zR a0), some (zI x1), w2] [] (n, K, mr, mi) Q := by
  subst h_3
  exact zX.n rfl (zX.g rfl h_1 (zX.n rfl (zX.callQ rfl (congrArg Prod.fst h_4) trivial k_5)))
theorem s_B_shared_42 {w0 : Option zV} {w1 : Option zV} {w2 : Option zV} {sx0 : Int} (p_1 : Q (.inl (some (zI sx0))) (n, K, mr, mi)) : zX c k_B_shared 42 [w0, w1, w2] [zI sx0] (n, K, mr, mi) Q := 
  zX.ret rfl trivial p_1
theorem s_B_sharedAll_0 {a0 : Nat} (h_1 : K a0 = (2, 21)) (k_2 : zCall c k_B_sharedAll 1 4 [some (zR a0)] [] 0 k_B_anew [zR a0] (n, K, mr, mi) Q) : zX c k_B_sharedAll 0 [some (zR a0)] [] (n, K, mr, mi) Q := 
  zX.n rfl (zX.callQ rfl (congrArg Prod.fst h_1) trivial k_2)
theorem s_B_sharedAll_4 {a0 : Nat} {A2 : Nat} (h_1 : K a0 = (2, 21)) (h_3 : mr a0 3 = A2) (h_4 : A2 = 0 ∨ (K A2).1 ≠ 0) (p_5 : ¬ A2 = 0 → zX c k_B_sharedAll 19 [some (zR a0)] [] (n, K, mr, mi) Q) (p_6 : A2 = 0 → zX c k_B_sharedAll 11 [some (zR a0)] [] (n, K, mr, mi) Q) : zX c k_B_sharedAll 4 [some (zR a0)] [] (n, K, mr, mi) Q := by
  subst h_3
  exact zX.n rfl (zX.g rfl h_1 (zX.g rfl h_4 (zX.itn p_5 p_6)))
theorem s_B_sharedAll_11 {a0 : Nat} (h_1 : K a0 = (2, 21)) (k_2 : zCall c k_B_sharedAll 13 16 [some (zR a0)] [] 0 k_B_no [zR a0, zI 1] (n, K, mr, mi) Q) : zX c k_B_sharedAll 11 [some (zR a0)] [] (n, K, mr, mi) Q := 
  zX.n rfl (zX.n rfl (zX.callQ rfl (congrArg Prod.fst h_1) trivial k_2))
theorem s_B_sharedAll_16 {w0 : Option zV} {sx0 : Int} (p_1 : zX c k_B_sharedAll 26 [w0] [zI sx0] (n, K, mr, mi) Q) : zX c k_B_sharedAll 16 [w0] [zI sx0] (n, K, mr, mi) Q := 
  zX.n rfl p_1
theorem s_B_sharedAll_19 {a0 : Nat} {A2 : Nat} (h_1 : K a0 = (2, 21)) (h_3 : mr a0 12 = A2) (h_4 : K A2 = (6, 13)) (k_5 : zCall c k_B_sharedAll 23 26 [some (zR a0)] [] 0 k_Mo_sharedAll [zR A2] (n, K, mr, mi) Q) : zX c k_B_sharedAll 19 [some (zR a0)] [] (n, K, mr, mi) Q := by
  subst h_3
  exact zX.n rfl (zX.g rfl h_1 (zX.callQ rfl (congrArg Prod.fst h_4) trivial k_5))
theorem s_B_sharedAll_26 {w0 : Option zV} {sx0 : Int} (p_1 : Q (.inl (some (zI sx0))) (n, K, mr, mi)) : zX c k_B_sharedAll 26 [w0] [zI sx0] (n, K, mr, mi) Q := 
  zX.ret rfl trivial p_1
theorem s_B_suffers_0 {a0 : Nat} {x1 : Int} {w2 : Option zV} {w3 : Option zV} {w4 : Option zV} (h_1 : K a0 = (2, 21)) (k_2 : zCall c k_B_suffers 1 4 [some (zR a0), some (zI x1), w2, w3, w4] [] 0 k_B_anew [zR a0] (n, K, mr, mi) Q) : zX c k_B_suffers 0 [some (zR a0), some (zI x1), w2, w3, w4] [] (n, K, mr, mi) Q := 
  zX.n rfl (zX.callQ rfl (congrArg Prod.fst h_1) trivial k_2)
theorem s_B_suffers_4 {a0 : Nat} {x1 : Int} {w2 : Option zV} {w3 : Option zV} {w4 : Option zV} (h_1 : K a0 = (2, 21)) (k_2 : zCall c k_B_suffers 6 9 [some (zR a0), some (zI x1), w2, w3, w4] [] 0 k_B_isPerson [zR a0, zI x1] (n, K, mr, mi) Q) : zX c k_B_suffers 4 [some (zR a0), some (zI x1), w2, w3, w4] [] (n, K, mr, mi) Q := 
  zX.n rfl (zX.n rfl (zX.callQ rfl (congrArg Prod.fst h_1) trivial k_2))
theorem s_B_suffers_9 {a0 : Nat} {x1 : Int} {w2 : Option zV} {w3 : Option zV} {w4 : Option zV} {sx0 : Int} (p_1 : ¬ sx0 = 0 → zX c k_B_suffers 18 [some (zR a0), some (zI x1), w2, w3, w4] [] (n, K, mr, mi) Q) (p_2 : sx0 = 0 → zX c k_B_suffers 12 [some (zR a0), some (zI x1), w2, w3, w4] [] (n, K, mr, mi) Q) : zX c k_B_suffers 9 [some (zR a0), some (zI x1), w2, w3, w4] [zI sx0] (n, K, mr, mi) Q := 
  zX.n rfl (zX.itn p_1 p_2)
theorem s_B_suffers_12 {a0 : Nat} {w1 : Option zV} {w2 : Option zV} {w3 : Option zV} {w4 : Option zV} (h_1 : K a0 = (2, 21)) (k_2 : zCall c k_B_suffers 14 17 [some (zR a0), w1, w2, w3, w4] [] 0 k_B_no [zR a0, zI 1] (n, K, mr, mi) Q) : zX c k_B_suffers 12 [some (zR a0), w1, w2, w3, w4] [] (n, K, mr, mi) Q := 
  zX.n rfl (zX.n rfl (zX.callQ rfl (congrArg Prod.fst h_1) trivial k_2))
theorem s_B_suffers_17 {w0 : Option zV} {w1 : Option zV} {w2 : Option zV} {w3 : Option zV} {w4 : Option zV} {sx0 : Int} (p_1 : Q (.inl (some (zI sx0))) (n, K, mr, mi)) : zX c k_B_suffers 17 [w0, w1, w2, w3, w4] [zI sx0] (n, K, mr, mi) Q := 
  zX.ret rfl trivial p_1
theorem s_B_suffers_18 {a0 : Nat} {x1 : Int} {w2 : Option zV} {w3 : Option zV} {w4 : Option zV} (p_1 : zX c k_B_suffers 22 [some (zR a0), some (zI x1), some (zI 0), some (zI 0), w4] [] (n, K, mr, mi) Q) : zX c k_B_suffers 18 [some (zR a0), some (zI x1), w2, w3, w4] [] (n, K, mr, mi) Q := 
  zX.n rfl (zX.n rfl (zX.n rfl (zX.n rfl p_1)))
theorem s_B_suffers_22 {a0 : Nat} {x1 : Int} {x2 : Int} {x3 : Int} {w4 : Option zV} {A2 : Nat} (h_1 : K a0 = (2, 21)) (h_3 : mr a0 3 = A2) (h_4 : K A2 = (18, 12)) (p_5 : (mi A2 4) ≤ x3 → zX c k_B_suffers 105 [some (zR a0), some (zI x1), some (zI x2), some (zI x3), w4] [] (n, K, mr, mi) Q) (p_6 : ¬ (mi A2 4) ≤ x3 → zX c k_B_suffers 33 [some (zR a0), some (zI x1), some (zI x2), some (zI x3), w4] [] (n, K, mr, mi) Q) : zX c k_B_suffers 22 [some (zR a0), some (zI x1), some (zI x2), some (zI x3), w4] [] (n, K, mr, mi) Q := by
  subst h_3
  exact zX.n rfl (zX.n rfl (zX.g rfl h_1 (zX.g rfl h_4 (zX.n rfl (zX.ite p_5 p_6)))))
theorem s_B_suffers_33 {a0 : Nat} {x1 : Int} {x2 : Int} {x3 : Int} {w4 : Option zV} (p_1 : zX c k_B_suffers 36 [some (zR a0), some (zI x1), some (zI x2), some (zI x3), some (zI 0)] [] (n, K, mr, mi) Q) : zX c k_B_suffers 33 [some (zR a0), some (zI x1), some (zI x2), some (zI x3), w4] [] (n, K, mr, mi) Q := 
  zX.n rfl (zX.n rfl p_1)
theorem s_B_suffers_36 {a0 : Nat} {x1 : Int} {x2 : Int} {x3 : Int} {x4 : Int} {A2 : Nat} (h_1 : K a0 = (2, 21)) (h_3 : mr a0 3 = A2) (h_4 : K A2 = (18, 12)) (p_5 : (mi A2 8) ≤ x4 → zX c k_B_suffers 99 [some (zR a0), some (zI x1), some (zI x2), some (zI x3), some (zI x4)] [] (n, K, mr, mi) Q) (p_6 : ¬ (mi A2 8) ≤ x4 → zX c k_B_suffers 48 [some (zR a0), some (zI x1), some (zI x2), some (zI x3), some (zI x4)] [] (n, K, mr, mi) Q) : zX c k_B_suffers 36 [some (zR a0), some (zI x1), some (zI x2), some (zI x3), some (zI x4)] [] (n, K, mr, mi) Q := by
  subst h_3
  exact zX.n rfl (zX.n rfl (zX.g rfl h_1 (zX.g rfl h_4 (zX.n rfl (zX.ite p_5 p_6)))))
theorem s_B_suffers_48 {a0 : Nat} {x1 : Int} {x2 : Int} {x3 : Int} {x4 : Int} {A2 : Nat} (h_1 : K a0 = (2, 21)) (h_3 : mr a0 12 = A2) (h_4 : K A2 = (6, 13)) (k_5 : zCall c k_B_suffers 56 59 [some (zR a0), some (zI x1), some (zI x2), some (zI x3), some (zI x4)] [zI x2] 0 k_Mo_isShared [zR A2, zI x3, zI x4] (n, K, mr, mi) Q) : zX c k_B_suffers 48 [some (zR a0), some (zI x1), some (zI x2), some (zI x3), some (zI x4)] [] (n, K, mr, mi) Q := by
  subst h_3
  exact zX.n rfl (zX.n rfl (zX.g rfl h_1 (zX.n rfl (zX.n rfl (zX.callQ rfl (congrArg Prod.fst h_4) trivial k_5)))))
theorem s_B_suffers_59 {a0 : Nat} {x1 : Int} {w2 : Option zV} {x3 : Int} {x4 : Int} {sx0 : Int} {sx1 : Int} (p_1 : sx1 = 0 → zX c k_B_suffers 90 [some (zR a0), some (zI x1), w2, some (zI x3), some (zI x4)] [zI sx0] (n, K, mr, mi) Q) (p_2 : ¬ sx1 = 0 → zX c k_B_suffers 62 [some (zR a0), some (zI x1), w2, some (zI x3), some (zI x4)] [zI sx0] (n, K, mr, mi) Q) : zX c k_B_suffers 59 [some (zR a0), some (zI x1), w2, some (zI x3), some (zI x4)] [zI sx1, zI sx0] (n, K, mr, mi) Q := 
  zX.n rfl (zX.ite p_1 p_2)
theorem s_B_suffers_62 {a0 : Nat} {x1 : Int} {w2 : Option zV} {x3 : Int} {x4 : Int} {sx0 : Int} {A2 : Nat} (h_1 : K a0 = (2, 21)) (h_3 : mr a0 12 = A2) (h_4 : K A2 = (6, 13)) (k_5 : zCall c k_B_suffers 73 76 [some (zR a0), some (zI x1), w2, some (zI x3), some (zI x4)] [zR A2, zI sx0] 0 k_Mo_used [zR A2, zI x3, zI x4] (n, K, mr, mi) Q) : zX c k_B_suffers 62 [some (zR a0), some (zI x1), w2, some (zI x3), some (zI x4)] [zI sx0] (n, K, mr, mi) Q := by
  subst h_3
  exact zX.n rfl (zX.g rfl h_1 (zX.n rfl (zX.g rfl h_1 (zX.n rfl (zX.n rfl (zX.callQ rfl (congrArg Prod.fst h_4) trivial k_5))))))
theorem s_B_suffers_76 {a0 : Nat} {x1 : Int} {w2 : Option zV} {x3 : Int} {x4 : Int} {sx0 : Int} {sa1 : Nat} {sx2 : Int} (h_1 : K sa1 = (6, 13)) (k_2 : zCall c k_B_suffers 76 79 [some (zR a0), some (zI x1), w2, some (zI x3), some (zI x4)] [zI sx0] 0 k_Mo_brush [zR sa1, zI sx2] (n, K, mr, mi) Q) : zX c k_B_suffers 76 [some (zR a0), some (zI x1), w2, some (zI x3), some (zI x4)] [zI sx2, zR sa1, zI sx0] (n, K, mr, mi) Q := 
  zX.callQ rfl (congrArg Prod.fst h_1) trivial k_2
theorem s_B_suffers_79 {a0 : Nat} {x1 : Int} {w2 : Option zV} {x3 : Int} {x4 : Int} {sx0 : Int} {sa1 : Nat} (h_1 : K sa1 = (14, 7)) (p_2 : ¬ (mi sa1 0) = x1 → zX c k_B_suffers 90 [some (zR a0), some (zI x1), w2, some (zI x3), some (zI x4)] [zI sx0] (n, K, mr, mi) Q) (p_3 : (mi sa1 0) = x1 → zX c k_B_suffers 86 [some (zR a0), some (zI x1), w2, some (zI x3), some (zI x4)] [zI sx0] (n, K, mr, mi) Q) : zX c k_B_suffers 79 [some (zR a0), some (zI x1), w2, some (zI x3), some (zI x4)] [zR sa1, zI sx0] (n, K, mr, mi) Q := 
  zX.g rfl h_1 (zX.n rfl (zX.n rfl (zX.itn p_2 p_3)))
theorem s_B_suffers_86 {a0 : Nat} {x1 : Int} {w2 : Option zV} {x3 : Int} {x4 : Int} {sx0 : Int} (p_1 : zX c k_B_suffers 91 [some (zR a0), some (zI x1), w2, some (zI x3), some (zI x4)] [zI 1, zI sx0] (n, K, mr, mi) Q) : zX c k_B_suffers 86 [some (zR a0), some (zI x1), w2, some (zI x3), some (zI x4)] [zI sx0] (n, K, mr, mi) Q := 
  zX.n rfl (zX.n rfl p_1)
theorem s_B_suffers_90 {a0 : Nat} {x1 : Int} {w2 : Option zV} {x3 : Int} {x4 : Int} {sx0 : Int} (p_1 : zX c k_B_suffers 91 [some (zR a0), some (zI x1), w2, some (zI x3), some (zI x4)] [zI 0, zI sx0] (n, K, mr, mi) Q) : zX c k_B_suffers 90 [some (zR a0), some (zI x1), w2, some (zI x3), some (zI x4)] [zI sx0] (n, K, mr, mi) Q := 
  zX.n rfl p_1
theorem s_B_suffers_91 {a0 : Nat} {x1 : Int} {w2 : Option zV} {x3 : Int} {x4 : Int} {sx0 : Int} {sx1 : Int} (p_1 : zX c k_B_suffers 36 [some (zR a0), some (zI x1), some (zI (zw (sx0 + sx1))), some (zI x3), some (zI (zw (x4 + 1)))] [] (n, K, mr, mi) Q) : zX c k_B_suffers 91 [some (zR a0), some (zI x1), w2, some (zI x3), some (zI x4)] [zI sx1, zI sx0] (n, K, mr, mi) Q := 
  zX.n rfl (zX.n rfl (zX.n rfl (zX.n rfl p_1)))
theorem s_B_suffers_99 {a0 : Nat} {x1 : Int} {x2 : Int} {x3 : Int} {w4 : Option zV} (p_1 : zX c k_B_suffers 22 [some (zR a0), some (zI x1), some (zI x2), some (zI (zw (x3 + 1))), w4] [] (n, K, mr, mi) Q) : zX c k_B_suffers 99 [some (zR a0), some (zI x1), some (zI x2), some (zI x3), w4] [] (n, K, mr, mi) Q := 
  zX.n rfl (zX.n rfl p_1)
theorem s_B_suffers_105 {w0 : Option zV} {w1 : Option zV} {x2 : Int} {w3 : Option zV} {w4 : Option zV} (p_1 : Q (.inl (some (zI x2))) (n, K, mr, mi)) : zX c k_B_suffers 105 [w0, w1, some (zI x2), w3, w4] [] (n, K, mr, mi) Q := 
  zX.n rfl (zX.ret rfl trivial p_1)
theorem s_B_sinsOf_0 {a0 : Nat} {x1 : Int} {w2 : Option zV} {w3 : Option zV} (p_1 : zX c k_B_sinsOf 4 [some (zR a0), some (zI x1), some (zI 0), some (zI 0)] [] (n, K, mr, mi) Q) : zX c k_B_sinsOf 0 [some (zR a0), some (zI x1), w2, w3] [] (n, K, mr, mi) Q := 
  zX.n rfl (zX.n rfl (zX.n rfl (zX.n rfl p_1)))
theorem s_B_sinsOf_4 {a0 : Nat} {x1 : Int} {x2 : Int} {x3 : Int} {A2 : Nat} (h_1 : K a0 = (2, 21)) (h_3 : mr a0 3 = A2) (h_4 : K A2 = (18, 12)) (p_5 : (mi A2 4) ≤ x3 → zX c k_B_sinsOf 41 [some (zR a0), some (zI x1), some (zI x2), some (zI x3)] [] (n, K, mr, mi) Q) (p_6 : ¬ (mi A2 4) ≤ x3 → zX c k_B_sinsOf 15 [some (zR a0), some (zI x1), some (zI x2), some (zI x3)] [] (n, K, mr, mi) Q) : zX c k_B_sinsOf 4 [some (zR a0), some (zI x1), some (zI x2), some (zI x3)] [] (n, K, mr, mi) Q := by
  subst h_3
  exact zX.n rfl (zX.n rfl (zX.g rfl h_1 (zX.g rfl h_4 (zX.n rfl (zX.ite p_5 p_6)))))
theorem s_B_sinsOf_15 {a0 : Nat} {x1 : Int} {x2 : Int} {x3 : Int} {A2 : Nat} (h_1 : K a0 = (2, 21)) (h_3 : mr a0 12 = A2) (h_4 : K A2 = (6, 13)) (k_5 : zCall c k_B_sinsOf 22 25 [some (zR a0), some (zI x1), some (zI x2), some (zI x3)] [zI x2] 0 k_Mo_isShared [zR A2, zI x3, zI x1] (n, K, mr, mi) Q) : zX c k_B_sinsOf 15 [some (zR a0), some (zI x1), some (zI x2), some (zI x3)] [] (n, K, mr, mi) Q := by
  subst h_3
  exact zX.n rfl (zX.n rfl (zX.g rfl h_1 (zX.n rfl (zX.n rfl (zX.callQ rfl (congrArg Prod.fst h_4) trivial k_5)))))
theorem s_B_sinsOf_25 {a0 : Nat} {x1 : Int} {w2 : Option zV} {x3 : Int} {sx0 : Int} {sx1 : Int} (p_1 : sx1 = 0 → zX c k_B_sinsOf 32 [some (zR a0), some (zI x1), w2, some (zI x3)] [zI sx0] (n, K, mr, mi) Q) (p_2 : ¬ sx1 = 0 → zX c k_B_sinsOf 28 [some (zR a0), some (zI x1), w2, some (zI x3)] [zI sx0] (n, K, mr, mi) Q) : zX c k_B_sinsOf 25 [some (zR a0), some (zI x1), w2, some (zI x3)] [zI sx1, zI sx0] (n, K, mr, mi) Q := 
  zX.n rfl (zX.ite p_1 p_2)
theorem s_B_sinsOf_28 {a0 : Nat} {x1 : Int} {w2 : Option zV} {x3 : Int} {sx0 : Int} (p_1 : zX c k_B_sinsOf 33 [some (zR a0), some (zI x1), w2, some (zI x3)] [zI 1, zI sx0] (n, K, mr, mi) Q) : zX c k_B_sinsOf 28 [some (zR a0), some (zI x1), w2, some (zI x3)] [zI sx0] (n, K, mr, mi) Q := 
  zX.n rfl (zX.n rfl p_1)
theorem s_B_sinsOf_32 {a0 : Nat} {x1 : Int} {w2 : Option zV} {x3 : Int} {sx0 : Int} (p_1 : zX c k_B_sinsOf 33 [some (zR a0), some (zI x1), w2, some (zI x3)] [zI 0, zI sx0] (n, K, mr, mi) Q) : zX c k_B_sinsOf 32 [some (zR a0), some (zI x1), w2, some (zI x3)] [zI sx0] (n, K, mr, mi) Q := 
  zX.n rfl p_1
theorem s_B_sinsOf_33 {a0 : Nat} {x1 : Int} {w2 : Option zV} {x3 : Int} {sx0 : Int} {sx1 : Int} (p_1 : zX c k_B_sinsOf 4 [some (zR a0), some (zI x1), some (zI (zw (sx0 + sx1))), some (zI (zw (x3 + 1)))] [] (n, K, mr, mi) Q) : zX c k_B_sinsOf 33 [some (zR a0), some (zI x1), w2, some (zI x3)] [zI sx1, zI sx0] (n, K, mr, mi) Q := 
  zX.n rfl (zX.n rfl (zX.n rfl (zX.n rfl p_1)))
theorem s_B_sinsOf_41 {w0 : Option zV} {w1 : Option zV} {x2 : Int} {w3 : Option zV} (p_1 : Q (.inl (some (zI x2))) (n, K, mr, mi)) : zX c k_B_sinsOf 41 [w0, w1, some (zI x2), w3] [] (n, K, mr, mi) Q := 
  zX.n rfl (zX.ret rfl trivial p_1)
theorem s_B_sins_0 {a0 : Nat} {x1 : Int} (h_1 : K a0 = (2, 21)) (k_2 : zCall c k_B_sins 1 4 [some (zR a0), some (zI x1)] [] 0 k_B_anew [zR a0] (n, K, mr, mi) Q) : zX c k_B_sins 0 [some (zR a0), some (zI x1)] [] (n, K, mr, mi) Q := 
  zX.n rfl (zX.callQ rfl (congrArg Prod.fst h_1) trivial k_2)
theorem s_B_sins_4 {a0 : Nat} {x1 : Int} (h_1 : K a0 = (2, 21)) (k_2 : zCall c k_B_sins 6 9 [some (zR a0), some (zI x1)] [] 0 k_B_isPerson [zR a0, zI x1] (n, K, mr, mi) Q) : zX c k_B_sins 4 [some (zR a0), some (zI x1)] [] (n, K, mr, mi) Q := 
  zX.n rfl (zX.n rfl (zX.callQ rfl (congrArg Prod.fst h_1) trivial k_2))
theorem s_B_sins_9 {a0 : Nat} {x1 : Int} {sx0 : Int} (p_1 : sx0 = 0 → zX c k_B_sins 20 [some (zR a0), some (zI x1)] [] (n, K, mr, mi) Q) (p_2 : ¬ sx0 = 0 → zX c k_B_sins 12 [some (zR a0), some (zI x1)] [] (n, K, mr, mi) Q) : zX c k_B_sins 9 [some (zR a0), some (zI x1)] [zI sx0] (n, K, mr, mi) Q := 
  zX.n rfl (zX.ite p_1 p_2)
theorem s_B_sins_12 {a0 : Nat} {x1 : Int} (h_1 : K a0 = (2, 21)) (k_2 : zCall c k_B_sins 14 17 [some (zR a0), some (zI x1)] [] 0 k_B_sinsOf [zR a0, zI x1] (n, K, mr, mi) Q) : zX c k_B_sins 12 [some (zR a0), some (zI x1)] [] (n, K, mr, mi) Q := 
  zX.n rfl (zX.n rfl (zX.callQ rfl (congrArg Prod.fst h_1) trivial k_2))
theorem s_B_sins_17 {w0 : Option zV} {w1 : Option zV} {sx0 : Int} (p_1 : zX c k_B_sins 25 [w0, w1] [zI sx0] (n, K, mr, mi) Q) : zX c k_B_sins 17 [w0, w1] [zI sx0] (n, K, mr, mi) Q := 
  zX.n rfl p_1
theorem s_B_sins_20 {a0 : Nat} {w1 : Option zV} (h_1 : K a0 = (2, 21)) (k_2 : zCall c k_B_sins 22 25 [some (zR a0), w1] [] 0 k_B_no [zR a0, zI 1] (n, K, mr, mi) Q) : zX c k_B_sins 20 [some (zR a0), w1] [] (n, K, mr, mi) Q := 
  zX.n rfl (zX.n rfl (zX.callQ rfl (congrArg Prod.fst h_1) trivial k_2))
theorem s_B_sins_25 {w0 : Option zV} {w1 : Option zV} {sx0 : Int} (p_1 : Q (.inl (some (zI sx0))) (n, K, mr, mi)) : zX c k_B_sins 25 [w0, w1] [zI sx0] (n, K, mr, mi) Q := 
  zX.ret rfl trivial p_1
theorem s_B_alike_0 {a0 : Nat} {x1 : Int} {w2 : Option zV} (h_1 : K a0 = (2, 21)) (k_2 : zCall c k_B_alike 1 4 [some (zR a0), some (zI x1), w2] [] 0 k_B_anew [zR a0] (n, K, mr, mi) Q) : zX c k_B_alike 0 [some (zR a0), some (zI x1), w2] [] (n, K, mr, mi) Q := 
  zX.n rfl (zX.callQ rfl (congrArg Prod.fst h_1) trivial k_2)
theorem s_B_alike_4 {a0 : Nat} {x1 : Int} {w2 : Option zV} {A2 : Nat} (h_1 : K a0 = (2, 21)) (h_3 : mr a0 3 = A2) (h_4 : A2 = 0 ∨ (K A2).1 ≠ 0) (p_5 : A2 = 0 → zX c k_B_alike 16 [some (zR a0), some (zI x1), w2] [zR a0] (n, K, mr, mi) Q) (p_6 : ¬ A2 = 0 → zX c k_B_alike 12 [some (zR a0), some (zI x1), w2] [zR a0] (n, K, mr, mi) Q) : zX c k_B_alike 4 [some (zR a0), some (zI x1), w2] [] (n, K, mr, mi) Q := by
  subst h_3
  exact zX.n rfl (zX.n rfl (zX.g rfl h_1 (zX.g rfl h_4 (zX.ite p_5 p_6))))
theorem s_B_alike_12 {a0 : Nat} {x1 : Int} {w2 : Option zV} {sa0 : Nat} (p_1 : zX c k_B_alike 17 [some (zR a0), some (zI x1), w2] [zI 1, zR sa0] (n, K, mr, mi) Q) : zX c k_B_alike 12 [some (zR a0), some (zI x1), w2] [zR sa0] (n, K, mr, mi) Q := 
  zX.n rfl (zX.n rfl p_1)
theorem s_B_alike_16 {a0 : Nat} {x1 : Int} {w2 : Option zV} {sa0 : Nat} (p_1 : zX c k_B_alike 17 [some (zR a0), some (zI x1), w2] [zI 0, zR sa0] (n, K, mr, mi) Q) : zX c k_B_alike 16 [some (zR a0), some (zI x1), w2] [zR sa0] (n, K, mr, mi) Q := 
  zX.n rfl p_1
theorem s_B_alike_17 {a0 : Nat} {x1 : Int} {w2 : Option zV} {sa0 : Nat} {sx1 : Int} (h_1 : K sa0 = (2, 21)) (k_2 : zCall c k_B_alike 18 21 [some (zR a0), some (zI x1), w2] [] 0 k_B_dayWhy [zR sa0, zI sx1, zI x1] (n, K, mr, mi) Q) : zX c k_B_alike 17 [some (zR a0), some (zI x1), w2] [zI sx1, zR sa0] (n, K, mr, mi) Q := 
  zX.n rfl (zX.callQ rfl (congrArg Prod.fst h_1) trivial k_2)
theorem s_B_alike_21 {a0 : Nat} {x1 : Int} {w2 : Option zV} {sx0 : Int} (p_1 : sx0 = 0 → zX c k_B_alike 34 [some (zR a0), some (zI x1), some (zI sx0)] [] (n, K, mr, mi) Q) (p_2 : ¬ sx0 = 0 → zX c k_B_alike 26 [some (zR a0), some (zI x1), some (zI sx0)] [] (n, K, mr, mi) Q) : zX c k_B_alike 21 [some (zR a0), some (zI x1), w2] [zI sx0] (n, K, mr, mi) Q := 
  zX.n rfl (zX.n rfl (zX.n rfl (zX.ite p_1 p_2)))
theorem s_B_alike_26 {a0 : Nat} {w1 : Option zV} {x2 : Int} (h_1 : K a0 = (2, 21)) (k_2 : zCall c k_B_alike 28 31 [some (zR a0), w1, some (zI x2)] [] 0 k_B_no [zR a0, zI x2] (n, K, mr, mi) Q) : zX c k_B_alike 26 [some (zR a0), w1, some (zI x2)] [] (n, K, mr, mi) Q := 
  zX.n rfl (zX.n rfl (zX.callQ rfl (congrArg Prod.fst h_1) trivial k_2))
theorem s_B_alike_31 {w0 : Option zV} {w1 : Option zV} {w2 : Option zV} {sx0 : Int} (p_1 : zX c k_B_alike 42 [w0, w1, w2] [zI sx0] (n, K, mr, mi) Q) : zX c k_B_alike 31 [w0, w1, w2] [zI sx0] (n, K, mr, mi) Q := 
  zX.n rfl p_1
theorem s_B_alike_34 {a0 : Nat} {x1 : Int} {w2 : Option zV} {A2 : Nat} (h_1 : K a0 = (2, 21)) (h_3 : mr a0 12 = A2) (h_4 : K A2 = (6, 13)) (k_5 : zCall c k_B_alike 39 42 [some (zR a0), some (zI x1), w2] [] 0 k_Mo_alike [zR A2, zI x1] (n, K, mr, mi) Q) : zX c k_B_alike 34 [some (zR a0), some (zI x1), w2] [] (n, K, mr, mi) Q := by
  subst h_3
  exact zX.n rfl (zX.g rfl h_1 (zX.n rfl (zX.callQ rfl (congrArg Prod.fst h_4) trivial k_5)))
theorem s_B_alike_42 {w0 : Option zV} {w1 : Option zV} {w2 : Option zV} {sx0 : Int} (p_1 : Q (.inl (some (zI sx0))) (n, K, mr, mi)) : zX c k_B_alike 42 [w0, w1, w2] [zI sx0] (n, K, mr, mi) Q := 
  zX.ret rfl trivial p_1
theorem s_B_alikeDays_0 {a0 : Nat} (h_1 : K a0 = (2, 21)) (k_2 : zCall c k_B_alikeDays 1 4 [some (zR a0)] [] 0 k_B_anew [zR a0] (n, K, mr, mi) Q) : zX c k_B_alikeDays 0 [some (zR a0)] [] (n, K, mr, mi) Q := 
  zX.n rfl (zX.callQ rfl (congrArg Prod.fst h_1) trivial k_2)
theorem s_B_alikeDays_4 {a0 : Nat} {A2 : Nat} (h_1 : K a0 = (2, 21)) (h_3 : mr a0 3 = A2) (h_4 : A2 = 0 ∨ (K A2).1 ≠ 0) (p_5 : ¬ A2 = 0 → zX c k_B_alikeDays 19 [some (zR a0)] [] (n, K, mr, mi) Q) (p_6 : A2 = 0 → zX c k_B_alikeDays 11 [some (zR a0)] [] (n, K, mr, mi) Q) : zX c k_B_alikeDays 4 [some (zR a0)] [] (n, K, mr, mi) Q := by
  subst h_3
  exact zX.n rfl (zX.g rfl h_1 (zX.g rfl h_4 (zX.itn p_5 p_6)))
theorem s_B_alikeDays_11 {a0 : Nat} (h_1 : K a0 = (2, 21)) (k_2 : zCall c k_B_alikeDays 13 16 [some (zR a0)] [] 0 k_B_no [zR a0, zI 1] (n, K, mr, mi) Q) : zX c k_B_alikeDays 11 [some (zR a0)] [] (n, K, mr, mi) Q := 
  zX.n rfl (zX.n rfl (zX.callQ rfl (congrArg Prod.fst h_1) trivial k_2))
theorem s_B_alikeDays_16 {w0 : Option zV} {sx0 : Int} (p_1 : zX c k_B_alikeDays 26 [w0] [zI sx0] (n, K, mr, mi) Q) : zX c k_B_alikeDays 16 [w0] [zI sx0] (n, K, mr, mi) Q := 
  zX.n rfl p_1
theorem s_B_alikeDays_19 {a0 : Nat} {A2 : Nat} (h_1 : K a0 = (2, 21)) (h_3 : mr a0 12 = A2) (h_4 : K A2 = (6, 13)) (k_5 : zCall c k_B_alikeDays 23 26 [some (zR a0)] [] 0 k_Mo_alikeDays [zR A2] (n, K, mr, mi) Q) : zX c k_B_alikeDays 19 [some (zR a0)] [] (n, K, mr, mi) Q := by
  subst h_3
  exact zX.n rfl (zX.g rfl h_1 (zX.callQ rfl (congrArg Prod.fst h_4) trivial k_5))
theorem s_B_alikeDays_26 {w0 : Option zV} {sx0 : Int} (p_1 : Q (.inl (some (zI sx0))) (n, K, mr, mi)) : zX c k_B_alikeDays 26 [w0] [zI sx0] (n, K, mr, mi) Q := 
  zX.ret rfl trivial p_1
theorem s_B_notches_0 {a0 : Nat} {w1 : Option zV} {w2 : Option zV} {w3 : Option zV} (h_1 : K a0 = (2, 21)) (k_2 : zCall c k_B_notches 1 4 [some (zR a0), w1, w2, w3] [] 0 k_B_anew [zR a0] (n, K, mr, mi) Q) : zX c k_B_notches 0 [some (zR a0), w1, w2, w3] [] (n, K, mr, mi) Q := 
  zX.n rfl (zX.callQ rfl (congrArg Prod.fst h_1) trivial k_2)
theorem s_B_notches_4 {a0 : Nat} {w1 : Option zV} {w2 : Option zV} {w3 : Option zV} {A2 : Nat} (h_1 : K a0 = (2, 21)) (h_3 : mr a0 3 = A2) (h_4 : A2 = 0 ∨ (K A2).1 ≠ 0) (p_5 : ¬ A2 = 0 → zX c k_B_notches 17 [some (zR a0), w1, w2, w3] [] (n, K, mr, mi) Q) (p_6 : A2 = 0 → zX c k_B_notches 11 [some (zR a0), w1, w2, w3] [] (n, K, mr, mi) Q) : zX c k_B_notches 4 [some (zR a0), w1, w2, w3] [] (n, K, mr, mi) Q := by
  subst h_3
  exact zX.n rfl (zX.g rfl h_1 (zX.g rfl h_4 (zX.itn p_5 p_6)))
theorem s_B_notches_11 {a0 : Nat} {w1 : Option zV} {w2 : Option zV} {w3 : Option zV} (h_1 : K a0 = (2, 21)) (k_2 : zCall c k_B_notches 13 16 [some (zR a0), w1, w2, w3] [] 0 k_B_no [zR a0, zI 1] (n, K, mr, mi) Q) : zX c k_B_notches 11 [some (zR a0), w1, w2, w3] [] (n, K, mr, mi) Q := 
  zX.n rfl (zX.n rfl (zX.callQ rfl (congrArg Prod.fst h_1) trivial k_2))
theorem s_B_notches_16 {w0 : Option zV} {w1 : Option zV} {w2 : Option zV} {w3 : Option zV} {sx0 : Int} (p_1 : Q (.inl (some (zI sx0))) (n, K, mr, mi)) : zX c k_B_notches 16 [w0, w1, w2, w3] [zI sx0] (n, K, mr, mi) Q := 
  zX.ret rfl trivial p_1
theorem s_B_notches_17 {a0 : Nat} {w1 : Option zV} {w2 : Option zV} {w3 : Option zV} (p_1 : zX c k_B_notches 21 [some (zR a0), some (zI 1), some (zI 0), w3] [] (n, K, mr, mi) Q) : zX c k_B_notches 17 [some (zR a0), w1, w2, w3] [] (n, K, mr, mi) Q := 
  zX.n rfl (zX.n rfl (zX.n rfl (zX.n rfl p_1)))
theorem s_B_notches_21 {a0 : Nat} {x1 : Int} {x2 : Int} {w3 : Option zV} {A2 : Nat} (h_1 : K a0 = (2, 21)) (h_3 : mr a0 3 = A2) (h_4 : K A2 = (18, 12)) (p_5 : (mi A2 4) ≤ x2 → zX c k_B_notches 71 [some (zR a0), some (zI x1), some (zI x2), w3] [] (n, K, mr, mi) Q) (p_6 : ¬ (mi A2 4) ≤ x2 → zX c k_B_notches 32 [some (zR a0), some (zI x1), some (zI x2), w3] [] (n, K, mr, mi) Q) : zX c k_B_notches 21 [some (zR a0), some (zI x1), some (zI x2), w3] [] (n, K, mr, mi) Q := by
  subst h_3
  exact zX.n rfl (zX.n rfl (zX.g rfl h_1 (zX.g rfl h_4 (zX.n rfl (zX.ite p_5 p_6)))))
theorem s_B_notches_32 {a0 : Nat} {x1 : Int} {x2 : Int} {w3 : Option zV} (p_1 : zX c k_B_notches 34 [some (zR a0), some (zI x1), some (zI x2), some (zI 0)] [] (n, K, mr, mi) Q) : zX c k_B_notches 32 [some (zR a0), some (zI x1), some (zI x2), w3] [] (n, K, mr, mi) Q := 
  zX.n rfl (zX.n rfl p_1)
theorem s_B_notches_34 {a0 : Nat} {x1 : Int} {x2 : Int} {x3 : Int} {A2 : Nat} (h_1 : K a0 = (2, 21)) (h_3 : mr a0 3 = A2) (h_4 : K A2 = (18, 12)) (p_5 : (mi A2 6) ≤ x3 → zX c k_B_notches 65 [some (zR a0), some (zI x1), some (zI x2), some (zI x3)] [] (n, K, mr, mi) Q) (p_6 : ¬ (mi A2 6) ≤ x3 → zX c k_B_notches 45 [some (zR a0), some (zI x1), some (zI x2), some (zI x3)] [] (n, K, mr, mi) Q) : zX c k_B_notches 34 [some (zR a0), some (zI x1), some (zI x2), some (zI x3)] [] (n, K, mr, mi) Q := by
  subst h_3
  exact zX.n rfl (zX.n rfl (zX.g rfl h_1 (zX.g rfl h_4 (zX.n rfl (zX.ite p_5 p_6)))))
theorem s_B_notches_45 {a0 : Nat} {x1 : Int} {x2 : Int} {x3 : Int} {A2 : Nat} (h_1 : K a0 = (2, 21)) (h_3 : mr a0 12 = A2) (h_4 : K A2 = (6, 13)) (k_5 : zCall c k_B_notches 52 55 [some (zR a0), some (zI x1), some (zI x2), some (zI x3)] [zI x1] 0 k_Mo_ofColour [zR A2, zI x2, zI x3] (n, K, mr, mi) Q) : zX c k_B_notches 45 [some (zR a0), some (zI x1), some (zI x2), some (zI x3)] [] (n, K, mr, mi) Q := by
  subst h_3
  exact zX.n rfl (zX.n rfl (zX.g rfl h_1 (zX.n rfl (zX.n rfl (zX.callQ rfl (congrArg Prod.fst h_4) trivial k_5)))))
theorem s_B_notches_55 {a0 : Nat} {w1 : Option zV} {x2 : Int} {x3 : Int} {sx0 : Int} {sx1 : Int} (p_1 : zX c k_B_notches 34 [some (zR a0), some (zI (zmax sx0 sx1)), some (zI x2), some (zI (zw (x3 + 1)))] [] (n, K, mr, mi) Q) : zX c k_B_notches 55 [some (zR a0), w1, some (zI x2), some (zI x3)] [zI sx1, zI sx0] (n, K, mr, mi) Q := 
  zX.n rfl (zX.n rfl (zX.n rfl (zX.n rfl p_1)))
theorem s_B_notches_65 {a0 : Nat} {x1 : Int} {x2 : Int} {w3 : Option zV} (p_1 : zX c k_B_notches 21 [some (zR a0), some (zI x1), some (zI (zw (x2 + 1))), w3] [] (n, K, mr, mi) Q) : zX c k_B_notches 65 [some (zR a0), some (zI x1), some (zI x2), w3] [] (n, K, mr, mi) Q := 
  zX.n rfl (zX.n rfl p_1)
theorem s_B_notches_71 {w0 : Option zV} {x1 : Int} {w2 : Option zV} {w3 : Option zV} (p_1 : zX c k_B_notches 73 [w0, some (zI x1), some (zI 0), w3] [] (n, K, mr, mi) Q) : zX c k_B_notches 71 [w0, some (zI x1), w2, w3] [] (n, K, mr, mi) Q := 
  zX.n rfl (zX.n rfl p_1)
theorem s_B_notches_73 {w0 : Option zV} {x1 : Int} {x2 : Int} {w3 : Option zV} (p_1 : x1 ≤ (zshl 1 x2) → zX c k_B_notches 86 [w0, some (zI x1), some (zI x2), w3] [] (n, K, mr, mi) Q) (p_2 : ¬ x1 ≤ (zshl 1 x2) → zX c k_B_notches 80 [w0, some (zI x1), some (zI x2), w3] [] (n, K, mr, mi) Q) : zX c k_B_notches 73 [w0, some (zI x1), some (zI x2), w3] [] (n, K, mr, mi) Q := 
  zX.n rfl (zX.n rfl (zX.n rfl (zX.n rfl (zX.n rfl (zX.ite p_1 p_2)))))
theorem s_B_notches_80 {w0 : Option zV} {x1 : Int} {x2 : Int} {w3 : Option zV} (p_1 : zX c k_B_notches 73 [w0, some (zI x1), some (zI (zw (x2 + 1))), w3] [] (n, K, mr, mi) Q) : zX c k_B_notches 80 [w0, some (zI x1), some (zI x2), w3] [] (n, K, mr, mi) Q := 
  zX.n rfl (zX.n rfl p_1)
theorem s_B_notches_86 {w0 : Option zV} {w1 : Option zV} {x2 : Int} {w3 : Option zV} (p_1 : Q (.inl (some (zI x2))) (n, K, mr, mi)) : zX c k_B_notches 86 [w0, w1, some (zI x2), w3] [] (n, K, mr, mi) Q := 
  zX.n rfl (zX.ret rfl trivial p_1)
theorem s_B_daysBy_0 {a0 : Nat} {x1 : Int} {A2 : Nat} {A4 : Nat} (h_1 : K a0 = (2, 21)) (h_3 : mr a0 11 = A2) (h_5 : mr a0 9 = A4) (h_6 : K A2 = (5, 6)) (k_7 : zCall c k_B_daysBy 8 11 [some (zR a0), some (zI x1)] [] 0 k_Pl_become [zR A2, zR A4] (n, K, mr, mi) Q) : zX c k_B_daysBy 0 [some (zR a0), some (zI x1)] [] (n, K, mr, mi) Q := by
  subst h_3
  subst h_5
  exact zX.n rfl (zX.g rfl h_1 (zX.n rfl (zX.g rfl h_1 (zX.callQ rfl (congrArg Prod.fst h_6) trivial k_7))))
theorem s_B_daysBy_11 {a0 : Nat} {x1 : Int} {A2 : Nat} (h_1 : K a0 = (2, 21)) (h_3 : mr a0 11 = A2) (h_4 : K A2 = (5, 6)) (k_5 : zCall c k_B_daysBy 16 19 [some (zR a0), some (zI x1)] [] 0 k_Pl_allByHabit [zR A2, zI x1] (n, K, mr, mi) Q) : zX c k_B_daysBy 11 [some (zR a0), some (zI x1)] [] (n, K, mr, mi) Q := by
  subst h_3
  exact zX.n rfl (zX.g rfl h_1 (zX.n rfl (zX.callQ rfl (congrArg Prod.fst h_4) trivial k_5)))
theorem s_B_daysBy_19 {a0 : Nat} {w1 : Option zV} {A2 : Nat} {A4 : Nat} {A6 : Nat} (h_1 : K a0 = (2, 21)) (h_3 : mr a0 13 = A2) (h_5 : mr a0 3 = A4) (h_7 : mr a0 11 = A6) (h_8 : K A2 = (6, 13)) (k_9 : zCall c k_B_daysBy 32 35 [some (zR a0), w1] [] 0 k_Mo_run [zR A2, zR A4, zR A6, zR 0] (n, K, mr, mi) Q) : zX c k_B_daysBy 19 [some (zR a0), w1] [] (n, K, mr, mi) Q := by
  subst h_3
  subst h_5
  subst h_7
  exact zX.n rfl (zX.g rfl h_1 (zX.n rfl (zX.g rfl h_1 (zX.n rfl (zX.g rfl h_1 (zX.n rfl (zX.callQ rfl (congrArg Prod.fst h_8) trivial k_9)))))))
theorem s_B_daysBy_35 {a0 : Nat} {w1 : Option zV} {A2 : Nat} (h_1 : K a0 = (2, 21)) (h_3 : mr a0 13 = A2) (h_4 : K A2 = (6, 13)) (k_5 : zCall c k_B_daysBy 39 42 [some (zR a0), w1] [] 0 k_Mo_alikeDays [zR A2] (n, K, mr, mi) Q) : zX c k_B_daysBy 35 [some (zR a0), w1] [] (n, K, mr, mi) Q := by
  subst h_3
  exact zX.n rfl (zX.g rfl h_1 (zX.callQ rfl (congrArg Prod.fst h_4) trivial k_5))
theorem s_B_daysBy_42 {w0 : Option zV} {w1 : Option zV} {sx0 : Int} (p_1 : Q (.inl (some (zI sx0))) (n, K, mr, mi)) : zX c k_B_daysBy 42 [w0, w1] [zI sx0] (n, K, mr, mi) Q := 
  zX.ret rfl trivial p_1
theorem s_B_byHabit_0 {a0 : Nat} {x1 : Int} (h_1 : K a0 = (2, 21)) (k_2 : zCall c k_B_byHabit 1 4 [some (zR a0), some (zI x1)] [] 0 k_B_anew [zR a0] (n, K, mr, mi) Q) : zX c k_B_byHabit 0 [some (zR a0), some (zI x1)] [] (n, K, mr, mi) Q := 
  zX.n rfl (zX.callQ rfl (congrArg Prod.fst h_1) trivial k_2)
theorem s_B_byHabit_4 {a0 : Nat} {x1 : Int} {A2 : Nat} (h_1 : K a0 = (2, 21)) (h_3 : mr a0 3 = A2) (h_4 : A2 = 0 ∨ (K A2).1 ≠ 0) (p_5 : A2 = 0 → zX c k_B_byHabit 28 [some (zR a0), some (zI x1)] [] (n, K, mr, mi) Q) (p_6 : ¬ A2 = 0 → zX c k_B_byHabit 11 [some (zR a0), some (zI x1)] [] (n, K, mr, mi) Q) : zX c k_B_byHabit 4 [some (zR a0), some (zI x1)] [] (n, K, mr, mi) Q := by
  subst h_3
  exact zX.n rfl (zX.g rfl h_1 (zX.g rfl h_4 (zX.ite p_5 p_6)))
theorem s_B_byHabit_11 {a0 : Nat} {x1 : Int} (k_1 : zCall c k_B_byHabit 14 17 [some (zR a0), some (zI x1)] [] 0 k_B_in [zI x1, zI 0, zI 2] (n, K, mr, mi) Q) : zX c k_B_byHabit 11 [some (zR a0), some (zI x1)] [] (n, K, mr, mi) Q := 
  zX.n rfl (zX.n rfl (zX.n rfl (zX.callQ rfl trivial trivial k_1)))
theorem s_B_byHabit_17 {a0 : Nat} {x1 : Int} {sx0 : Int} (p_1 : sx0 = 0 → zX c k_B_byHabit 28 [some (zR a0), some (zI x1)] [] (n, K, mr, mi) Q) (p_2 : ¬ sx0 = 0 → zX c k_B_byHabit 20 [some (zR a0), some (zI x1)] [] (n, K, mr, mi) Q) : zX c k_B_byHabit 17 [some (zR a0), some (zI x1)] [zI sx0] (n, K, mr, mi) Q := 
  zX.n rfl (zX.ite p_1 p_2)
theorem s_B_byHabit_20 {a0 : Nat} {x1 : Int} (h_1 : K a0 = (2, 21)) (k_2 : zCall c k_B_byHabit 22 25 [some (zR a0), some (zI x1)] [] 0 k_B_daysBy [zR a0, zI x1] (n, K, mr, mi) Q) : zX c k_B_byHabit 20 [some (zR a0), some (zI x1)] [] (n, K, mr, mi) Q := 
  zX.n rfl (zX.n rfl (zX.callQ rfl (congrArg Prod.fst h_1) trivial k_2))
theorem s_B_byHabit_25 {w0 : Option zV} {w1 : Option zV} {sx0 : Int} (p_1 : zX c k_B_byHabit 33 [w0, w1] [zI sx0] (n, K, mr, mi) Q) : zX c k_B_byHabit 25 [w0, w1] [zI sx0] (n, K, mr, mi) Q := 
  zX.n rfl p_1
theorem s_B_byHabit_28 {a0 : Nat} {w1 : Option zV} (h_1 : K a0 = (2, 21)) (k_2 : zCall c k_B_byHabit 30 33 [some (zR a0), w1] [] 0 k_B_no [zR a0, zI 1] (n, K, mr, mi) Q) : zX c k_B_byHabit 28 [some (zR a0), w1] [] (n, K, mr, mi) Q := 
  zX.n rfl (zX.n rfl (zX.callQ rfl (congrArg Prod.fst h_1) trivial k_2))
theorem s_B_byHabit_33 {w0 : Option zV} {w1 : Option zV} {sx0 : Int} (p_1 : Q (.inl (some (zI sx0))) (n, K, mr, mi)) : zX c k_B_byHabit 33 [w0, w1] [zI sx0] (n, K, mr, mi) Q := 
  zX.ret rfl trivial p_1
theorem s_B_bestHabit_0 {a0 : Nat} {w1 : Option zV} {w2 : Option zV} (h_1 : K a0 = (2, 21)) (k_2 : zCall c k_B_bestHabit 1 4 [some (zR a0), w1, w2] [] 0 k_B_anew [zR a0] (n, K, mr, mi) Q) : zX c k_B_bestHabit 0 [some (zR a0), w1, w2] [] (n, K, mr, mi) Q := 
  zX.n rfl (zX.callQ rfl (congrArg Prod.fst h_1) trivial k_2)
theorem s_B_bestHabit_4 {a0 : Nat} {w1 : Option zV} {w2 : Option zV} {A2 : Nat} (h_1 : K a0 = (2, 21)) (h_3 : mr a0 3 = A2) (h_4 : A2 = 0 ∨ (K A2).1 ≠ 0) (p_5 : ¬ A2 = 0 → zX c k_B_bestHabit 17 [some (zR a0), w1, w2] [] (n, K, mr, mi) Q) (p_6 : A2 = 0 → zX c k_B_bestHabit 11 [some (zR a0), w1, w2] [] (n, K, mr, mi) Q) : zX c k_B_bestHabit 4 [some (zR a0), w1, w2] [] (n, K, mr, mi) Q := by
  subst h_3
  exact zX.n rfl (zX.g rfl h_1 (zX.g rfl h_4 (zX.itn p_5 p_6)))
theorem s_B_bestHabit_11 {a0 : Nat} {w1 : Option zV} {w2 : Option zV} (h_1 : K a0 = (2, 21)) (k_2 : zCall c k_B_bestHabit 13 16 [some (zR a0), w1, w2] [] 0 k_B_no [zR a0, zI 1] (n, K, mr, mi) Q) : zX c k_B_bestHabit 11 [some (zR a0), w1, w2] [] (n, K, mr, mi) Q := 
  zX.n rfl (zX.n rfl (zX.callQ rfl (congrArg Prod.fst h_1) trivial k_2))
theorem s_B_bestHabit_16 {w0 : Option zV} {w1 : Option zV} {w2 : Option zV} {sx0 : Int} (p_1 : Q (.inl (some (zI sx0))) (n, K, mr, mi)) : zX c k_B_bestHabit 16 [w0, w1, w2] [zI sx0] (n, K, mr, mi) Q := 
  zX.ret rfl trivial p_1
theorem s_B_bestHabit_17 {a0 : Nat} {w1 : Option zV} {w2 : Option zV} (p_1 : zX c k_B_bestHabit 21 [some (zR a0), some (zI 0), some (zI 1)] [] (n, K, mr, mi) Q) : zX c k_B_bestHabit 17 [some (zR a0), w1, w2] [] (n, K, mr, mi) Q := 
  zX.n rfl (zX.n rfl (zX.n rfl (zX.n rfl p_1)))
theorem s_B_bestHabit_21 {a0 : Nat} {x1 : Int} {x2 : Int} (p_1 : (3 : Int) ≤ x2 → zX c k_B_bestHabit 47 [some (zR a0), some (zI x1), some (zI x2)] [] (n, K, mr, mi) Q) (p_2 : ¬ (3 : Int) ≤ x2 → zX c k_B_bestHabit 26 [some (zR a0), some (zI x1), some (zI x2)] [] (n, K, mr, mi) Q) : zX c k_B_bestHabit 21 [some (zR a0), some (zI x1), some (zI x2)] [] (n, K, mr, mi) Q := 
  zX.n rfl (zX.n rfl (zX.n rfl (zX.ite p_1 p_2)))
theorem s_B_bestHabit_26 {a0 : Nat} {x1 : Int} {x2 : Int} (h_1 : K a0 = (2, 21)) (k_2 : zCall c k_B_bestHabit 28 31 [some (zR a0), some (zI x1), some (zI x2)] [] 0 k_B_daysBy [zR a0, zI x2] (n, K, mr, mi) Q) : zX c k_B_bestHabit 26 [some (zR a0), some (zI x1), some (zI x2)] [] (n, K, mr, mi) Q := 
  zX.n rfl (zX.n rfl (zX.callQ rfl (congrArg Prod.fst h_1) trivial k_2))
theorem s_B_bestHabit_31 {a0 : Nat} {x1 : Int} {x2 : Int} {sx0 : Int} (h_1 : K a0 = (2, 21)) (k_2 : zCall c k_B_bestHabit 33 36 [some (zR a0), some (zI x1), some (zI x2)] [zI sx0] 0 k_B_daysBy [zR a0, zI x1] (n, K, mr, mi) Q) : zX c k_B_bestHabit 31 [some (zR a0), some (zI x1), some (zI x2)] [zI sx0] (n, K, mr, mi) Q := 
  zX.n rfl (zX.n rfl (zX.callQ rfl (congrArg Prod.fst h_1) trivial k_2))
theorem s_B_bestHabit_36 {a0 : Nat} {x1 : Int} {x2 : Int} {sx0 : Int} {sx1 : Int} (p_1 : sx1 ≤ sx0 → zX c k_B_bestHabit 41 [some (zR a0), some (zI x1), some (zI x2)] [] (n, K, mr, mi) Q) (p_2 : ¬ sx1 ≤ sx0 → zX c k_B_bestHabit 39 [some (zR a0), some (zI x1), some (zI x2)] [] (n, K, mr, mi) Q) : zX c k_B_bestHabit 36 [some (zR a0), some (zI x1), some (zI x2)] [zI sx1, zI sx0] (n, K, mr, mi) Q := 
  zX.n rfl (zX.ite p_1 p_2)
theorem s_B_bestHabit_39 {a0 : Nat} {w1 : Option zV} {x2 : Int} (p_1 : zX c k_B_bestHabit 41 [some (zR a0), some (zI x2), some (zI x2)] [] (n, K, mr, mi) Q) : zX c k_B_bestHabit 39 [some (zR a0), w1, some (zI x2)] [] (n, K, mr, mi) Q := 
  zX.n rfl (zX.n rfl p_1)
theorem s_B_bestHabit_41 {a0 : Nat} {x1 : Int} {x2 : Int} (p_1 : zX c k_B_bestHabit 21 [some (zR a0), some (zI x1), some (zI (zw (x2 + 1)))] [] (n, K, mr, mi) Q) : zX c k_B_bestHabit 41 [some (zR a0), some (zI x1), some (zI x2)] [] (n, K, mr, mi) Q := 
  zX.n rfl (zX.n rfl p_1)
theorem s_B_bestHabit_47 {w0 : Option zV} {x1 : Int} {w2 : Option zV} (p_1 : Q (.inl (some (zI x1))) (n, K, mr, mi)) : zX c k_B_bestHabit 47 [w0, some (zI x1), w2] [] (n, K, mr, mi) Q := 
  zX.n rfl (zX.ret rfl trivial p_1)
theorem s_B_sharedBy_0 {a0 : Nat} {x1 : Int} {A2 : Nat} {A4 : Nat} (h_1 : K a0 = (2, 21)) (h_3 : mr a0 11 = A2) (h_5 : mr a0 9 = A4) (h_6 : K A2 = (5, 6)) (k_7 : zCall c k_B_sharedBy 8 11 [some (zR a0), some (zI x1)] [] 0 k_Pl_become [zR A2, zR A4] (n, K, mr, mi) Q) : zX c k_B_sharedBy 0 [some (zR a0), some (zI x1)] [] (n, K, mr, mi) Q := by
  subst h_3
  subst h_5
  exact zX.n rfl (zX.g rfl h_1 (zX.n rfl (zX.g rfl h_1 (zX.callQ rfl (congrArg Prod.fst h_6) trivial k_7))))
theorem s_B_sharedBy_11 {a0 : Nat} {x1 : Int} {A2 : Nat} (h_1 : K a0 = (2, 21)) (h_3 : mr a0 11 = A2) (h_4 : K A2 = (5, 6)) (k_5 : zCall c k_B_sharedBy 16 19 [some (zR a0), some (zI x1)] [] 0 k_Pl_allOfKind [zR A2, zI x1] (n, K, mr, mi) Q) : zX c k_B_sharedBy 11 [some (zR a0), some (zI x1)] [] (n, K, mr, mi) Q := by
  subst h_3
  exact zX.n rfl (zX.g rfl h_1 (zX.n rfl (zX.callQ rfl (congrArg Prod.fst h_4) trivial k_5)))
theorem s_B_sharedBy_19 {a0 : Nat} {w1 : Option zV} {A2 : Nat} {A4 : Nat} {A6 : Nat} (h_1 : K a0 = (2, 21)) (h_3 : mr a0 13 = A2) (h_5 : mr a0 3 = A4) (h_7 : mr a0 11 = A6) (h_8 : K A2 = (6, 13)) (k_9 : zCall c k_B_sharedBy 32 35 [some (zR a0), w1] [] 0 k_Mo_run [zR A2, zR A4, zR A6, zR 0] (n, K, mr, mi) Q) : zX c k_B_sharedBy 19 [some (zR a0), w1] [] (n, K, mr, mi) Q := by
  subst h_3
  subst h_5
  subst h_7
  exact zX.n rfl (zX.g rfl h_1 (zX.n rfl (zX.g rfl h_1 (zX.n rfl (zX.g rfl h_1 (zX.n rfl (zX.callQ rfl (congrArg Prod.fst h_8) trivial k_9)))))))
theorem s_B_sharedBy_35 {a0 : Nat} {w1 : Option zV} {A2 : Nat} (h_1 : K a0 = (2, 21)) (h_3 : mr a0 13 = A2) (h_4 : K A2 = (6, 13)) (k_5 : zCall c k_B_sharedBy 39 42 [some (zR a0), w1] [] 0 k_Mo_sharedAll [zR A2] (n, K, mr, mi) Q) : zX c k_B_sharedBy 35 [some (zR a0), w1] [] (n, K, mr, mi) Q := by
  subst h_3
  exact zX.n rfl (zX.g rfl h_1 (zX.callQ rfl (congrArg Prod.fst h_4) trivial k_5))
theorem s_B_sharedBy_42 {w0 : Option zV} {w1 : Option zV} {sx0 : Int} (p_1 : Q (.inl (some (zI sx0))) (n, K, mr, mi)) : zX c k_B_sharedBy 42 [w0, w1] [zI sx0] (n, K, mr, mi) Q := 
  zX.ret rfl trivial p_1
theorem s_B_byKind_0 {a0 : Nat} {x1 : Int} (h_1 : K a0 = (2, 21)) (k_2 : zCall c k_B_byKind 1 4 [some (zR a0), some (zI x1)] [] 0 k_B_anew [zR a0] (n, K, mr, mi) Q) : zX c k_B_byKind 0 [some (zR a0), some (zI x1)] [] (n, K, mr, mi) Q := 
  zX.n rfl (zX.callQ rfl (congrArg Prod.fst h_1) trivial k_2)
theorem s_B_byKind_4 {a0 : Nat} {x1 : Int} {A2 : Nat} (h_1 : K a0 = (2, 21)) (h_3 : mr a0 3 = A2) (h_4 : A2 = 0 ∨ (K A2).1 ≠ 0) (p_5 : A2 = 0 → zX c k_B_byKind 28 [some (zR a0), some (zI x1)] [] (n, K, mr, mi) Q) (p_6 : ¬ A2 = 0 → zX c k_B_byKind 11 [some (zR a0), some (zI x1)] [] (n, K, mr, mi) Q) : zX c k_B_byKind 4 [some (zR a0), some (zI x1)] [] (n, K, mr, mi) Q := by
  subst h_3
  exact zX.n rfl (zX.g rfl h_1 (zX.g rfl h_4 (zX.ite p_5 p_6)))
theorem s_B_byKind_11 {a0 : Nat} {x1 : Int} (k_1 : zCall c k_B_byKind 14 17 [some (zR a0), some (zI x1)] [] 0 k_B_in [zI x1, zI 0, zI 3] (n, K, mr, mi) Q) : zX c k_B_byKind 11 [some (zR a0), some (zI x1)] [] (n, K, mr, mi) Q := 
  zX.n rfl (zX.n rfl (zX.n rfl (zX.callQ rfl trivial trivial k_1)))
theorem s_B_byKind_17 {a0 : Nat} {x1 : Int} {sx0 : Int} (p_1 : sx0 = 0 → zX c k_B_byKind 28 [some (zR a0), some (zI x1)] [] (n, K, mr, mi) Q) (p_2 : ¬ sx0 = 0 → zX c k_B_byKind 20 [some (zR a0), some (zI x1)] [] (n, K, mr, mi) Q) : zX c k_B_byKind 17 [some (zR a0), some (zI x1)] [zI sx0] (n, K, mr, mi) Q := 
  zX.n rfl (zX.ite p_1 p_2)
theorem s_B_byKind_20 {a0 : Nat} {x1 : Int} (h_1 : K a0 = (2, 21)) (k_2 : zCall c k_B_byKind 22 25 [some (zR a0), some (zI x1)] [] 0 k_B_sharedBy [zR a0, zI x1] (n, K, mr, mi) Q) : zX c k_B_byKind 20 [some (zR a0), some (zI x1)] [] (n, K, mr, mi) Q := 
  zX.n rfl (zX.n rfl (zX.callQ rfl (congrArg Prod.fst h_1) trivial k_2))
theorem s_B_byKind_25 {w0 : Option zV} {w1 : Option zV} {sx0 : Int} (p_1 : zX c k_B_byKind 33 [w0, w1] [zI sx0] (n, K, mr, mi) Q) : zX c k_B_byKind 25 [w0, w1] [zI sx0] (n, K, mr, mi) Q := 
  zX.n rfl p_1
theorem s_B_byKind_28 {a0 : Nat} {w1 : Option zV} (h_1 : K a0 = (2, 21)) (k_2 : zCall c k_B_byKind 30 33 [some (zR a0), w1] [] 0 k_B_no [zR a0, zI 1] (n, K, mr, mi) Q) : zX c k_B_byKind 28 [some (zR a0), w1] [] (n, K, mr, mi) Q := 
  zX.n rfl (zX.n rfl (zX.callQ rfl (congrArg Prod.fst h_1) trivial k_2))
theorem s_B_byKind_33 {w0 : Option zV} {w1 : Option zV} {sx0 : Int} (p_1 : Q (.inl (some (zI sx0))) (n, K, mr, mi)) : zX c k_B_byKind 33 [w0, w1] [zI sx0] (n, K, mr, mi) Q := 
  zX.ret rfl trivial p_1
theorem s_B_bestKind_0 {a0 : Nat} {w1 : Option zV} {w2 : Option zV} (h_1 : K a0 = (2, 21)) (k_2 : zCall c k_B_bestKind 1 4 [some (zR a0), w1, w2] [] 0 k_B_anew [zR a0] (n, K, mr, mi) Q) : zX c k_B_bestKind 0 [some (zR a0), w1, w2] [] (n, K, mr, mi) Q := 
  zX.n rfl (zX.callQ rfl (congrArg Prod.fst h_1) trivial k_2)
theorem s_B_bestKind_4 {a0 : Nat} {w1 : Option zV} {w2 : Option zV} {A2 : Nat} (h_1 : K a0 = (2, 21)) (h_3 : mr a0 3 = A2) (h_4 : A2 = 0 ∨ (K A2).1 ≠ 0) (p_5 : ¬ A2 = 0 → zX c k_B_bestKind 17 [some (zR a0), w1, w2] [] (n, K, mr, mi) Q) (p_6 : A2 = 0 → zX c k_B_bestKind 11 [some (zR a0), w1, w2] [] (n, K, mr, mi) Q) : zX c k_B_bestKind 4 [some (zR a0), w1, w2] [] (n, K, mr, mi) Q := by
  subst h_3
  exact zX.n rfl (zX.g rfl h_1 (zX.g rfl h_4 (zX.itn p_5 p_6)))
theorem s_B_bestKind_11 {a0 : Nat} {w1 : Option zV} {w2 : Option zV} (h_1 : K a0 = (2, 21)) (k_2 : zCall c k_B_bestKind 13 16 [some (zR a0), w1, w2] [] 0 k_B_no [zR a0, zI 1] (n, K, mr, mi) Q) : zX c k_B_bestKind 11 [some (zR a0), w1, w2] [] (n, K, mr, mi) Q := 
  zX.n rfl (zX.n rfl (zX.callQ rfl (congrArg Prod.fst h_1) trivial k_2))
theorem s_B_bestKind_16 {w0 : Option zV} {w1 : Option zV} {w2 : Option zV} {sx0 : Int} (p_1 : Q (.inl (some (zI sx0))) (n, K, mr, mi)) : zX c k_B_bestKind 16 [w0, w1, w2] [zI sx0] (n, K, mr, mi) Q := 
  zX.ret rfl trivial p_1
theorem s_B_bestKind_17 {a0 : Nat} {w1 : Option zV} {w2 : Option zV} (p_1 : zX c k_B_bestKind 21 [some (zR a0), some (zI 0), some (zI 1)] [] (n, K, mr, mi) Q) : zX c k_B_bestKind 17 [some (zR a0), w1, w2] [] (n, K, mr, mi) Q := 
  zX.n rfl (zX.n rfl (zX.n rfl (zX.n rfl p_1)))
theorem s_B_bestKind_21 {a0 : Nat} {x1 : Int} {x2 : Int} (p_1 : (4 : Int) ≤ x2 → zX c k_B_bestKind 47 [some (zR a0), some (zI x1), some (zI x2)] [] (n, K, mr, mi) Q) (p_2 : ¬ (4 : Int) ≤ x2 → zX c k_B_bestKind 26 [some (zR a0), some (zI x1), some (zI x2)] [] (n, K, mr, mi) Q) : zX c k_B_bestKind 21 [some (zR a0), some (zI x1), some (zI x2)] [] (n, K, mr, mi) Q := 
  zX.n rfl (zX.n rfl (zX.n rfl (zX.ite p_1 p_2)))
theorem s_B_bestKind_26 {a0 : Nat} {x1 : Int} {x2 : Int} (h_1 : K a0 = (2, 21)) (k_2 : zCall c k_B_bestKind 28 31 [some (zR a0), some (zI x1), some (zI x2)] [] 0 k_B_sharedBy [zR a0, zI x2] (n, K, mr, mi) Q) : zX c k_B_bestKind 26 [some (zR a0), some (zI x1), some (zI x2)] [] (n, K, mr, mi) Q := 
  zX.n rfl (zX.n rfl (zX.callQ rfl (congrArg Prod.fst h_1) trivial k_2))
theorem s_B_bestKind_31 {a0 : Nat} {x1 : Int} {x2 : Int} {sx0 : Int} (h_1 : K a0 = (2, 21)) (k_2 : zCall c k_B_bestKind 33 36 [some (zR a0), some (zI x1), some (zI x2)] [zI sx0] 0 k_B_sharedBy [zR a0, zI x1] (n, K, mr, mi) Q) : zX c k_B_bestKind 31 [some (zR a0), some (zI x1), some (zI x2)] [zI sx0] (n, K, mr, mi) Q := 
  zX.n rfl (zX.n rfl (zX.callQ rfl (congrArg Prod.fst h_1) trivial k_2))
theorem s_B_bestKind_36 {a0 : Nat} {x1 : Int} {x2 : Int} {sx0 : Int} {sx1 : Int} (p_1 : sx1 ≤ sx0 → zX c k_B_bestKind 41 [some (zR a0), some (zI x1), some (zI x2)] [] (n, K, mr, mi) Q) (p_2 : ¬ sx1 ≤ sx0 → zX c k_B_bestKind 39 [some (zR a0), some (zI x1), some (zI x2)] [] (n, K, mr, mi) Q) : zX c k_B_bestKind 36 [some (zR a0), some (zI x1), some (zI x2)] [zI sx1, zI sx0] (n, K, mr, mi) Q := 
  zX.n rfl (zX.ite p_1 p_2)
theorem s_B_bestKind_39 {a0 : Nat} {w1 : Option zV} {x2 : Int} (p_1 : zX c k_B_bestKind 41 [some (zR a0), some (zI x2), some (zI x2)] [] (n, K, mr, mi) Q) : zX c k_B_bestKind 39 [some (zR a0), w1, some (zI x2)] [] (n, K, mr, mi) Q := 
  zX.n rfl (zX.n rfl p_1)
theorem s_B_bestKind_41 {a0 : Nat} {x1 : Int} {x2 : Int} (p_1 : zX c k_B_bestKind 21 [some (zR a0), some (zI x1), some (zI (zw (x2 + 1)))] [] (n, K, mr, mi) Q) : zX c k_B_bestKind 41 [some (zR a0), some (zI x1), some (zI x2)] [] (n, K, mr, mi) Q := 
  zX.n rfl (zX.n rfl p_1)
theorem s_B_bestKind_47 {w0 : Option zV} {x1 : Int} {w2 : Option zV} (p_1 : Q (.inl (some (zI x1))) (n, K, mr, mi)) : zX c k_B_bestKind 47 [w0, some (zI x1), w2] [] (n, K, mr, mi) Q := 
  zX.n rfl (zX.ret rfl trivial p_1)
theorem s_B_colours_0 {a0 : Nat} (h_1 : K a0 = (2, 21)) (k_2 : zCall c k_B_colours 1 4 [some (zR a0)] [] 0 k_B_anew [zR a0] (n, K, mr, mi) Q) : zX c k_B_colours 0 [some (zR a0)] [] (n, K, mr, mi) Q := 
  zX.n rfl (zX.callQ rfl (congrArg Prod.fst h_1) trivial k_2)
theorem s_B_colours_4 {a0 : Nat} {A2 : Nat} (h_1 : K a0 = (2, 21)) (h_3 : mr a0 3 = A2) (h_4 : A2 = 0 ∨ (K A2).1 ≠ 0) (p_5 : ¬ A2 = 0 → zX c k_B_colours 17 [some (zR a0)] [] (n, K, mr, mi) Q) (p_6 : A2 = 0 → zX c k_B_colours 11 [some (zR a0)] [] (n, K, mr, mi) Q) : zX c k_B_colours 4 [some (zR a0)] [] (n, K, mr, mi) Q := by
  subst h_3
  exact zX.n rfl (zX.g rfl h_1 (zX.g rfl h_4 (zX.itn p_5 p_6)))
theorem s_B_colours_11 {a0 : Nat} (h_1 : K a0 = (2, 21)) (k_2 : zCall c k_B_colours 13 16 [some (zR a0)] [] 0 k_B_no [zR a0, zI 1] (n, K, mr, mi) Q) : zX c k_B_colours 11 [some (zR a0)] [] (n, K, mr, mi) Q := 
  zX.n rfl (zX.n rfl (zX.callQ rfl (congrArg Prod.fst h_1) trivial k_2))
theorem s_B_colours_16 {w0 : Option zV} {sx0 : Int} (p_1 : Q (.inl (some (zI sx0))) (n, K, mr, mi)) : zX c k_B_colours 16 [w0] [zI sx0] (n, K, mr, mi) Q := 
  zX.ret rfl trivial p_1
theorem s_B_colours_17 {a0 : Nat} {A2 : Nat} {A4 : Nat} (h_1 : K a0 = (2, 21)) (h_3 : mr a0 15 = A2) (h_5 : mr a0 3 = A4) (h_6 : K A2 = (16, 3)) (k_7 : zCall c k_B_colours 25 28 [some (zR a0)] [] 0 k_Co_find [zR A2, zR A4] (n, K, mr, mi) Q) : zX c k_B_colours 17 [some (zR a0)] [] (n, K, mr, mi) Q := by
  subst h_3
  subst h_5
  exact zX.n rfl (zX.g rfl h_1 (zX.n rfl (zX.g rfl h_1 (zX.callQ rfl (congrArg Prod.fst h_6) trivial k_7))))
theorem s_B_colours_28 {a0 : Nat} {A2 : Nat} (h_1 : K a0 = (2, 21)) (h_3 : mr a0 15 = A2) (h_4 : K A2 = (16, 3)) (p_5 : Q (.inl (some (zI (mi A2 2)))) (n, K, mr, mi)) : zX c k_B_colours 28 [some (zR a0)] [] (n, K, mr, mi) Q := by
  subst h_3
  exact zX.n rfl (zX.g rfl h_1 (zX.g rfl h_4 (zX.ret rfl trivial p_5)))
theorem s_B_colourOf_0 {a0 : Nat} {x1 : Int} (h_1 : K a0 = (2, 21)) (k_2 : zCall c k_B_colourOf 1 4 [some (zR a0), some (zI x1)] [] 0 k_B_anew [zR a0] (n, K, mr, mi) Q) : zX c k_B_colourOf 0 [some (zR a0), some (zI x1)] [] (n, K, mr, mi) Q := 
  zX.n rfl (zX.callQ rfl (congrArg Prod.fst h_1) trivial k_2)
theorem s_B_colourOf_4 {a0 : Nat} {x1 : Int} (h_1 : K a0 = (2, 21)) (k_2 : zCall c k_B_colourOf 6 9 [some (zR a0), some (zI x1)] [] 0 k_B_isPerson [zR a0, zI x1] (n, K, mr, mi) Q) : zX c k_B_colourOf 4 [some (zR a0), some (zI x1)] [] (n, K, mr, mi) Q := 
  zX.n rfl (zX.n rfl (zX.callQ rfl (congrArg Prod.fst h_1) trivial k_2))
theorem s_B_colourOf_9 {a0 : Nat} {x1 : Int} {sx0 : Int} (p_1 : ¬ sx0 = 0 → zX c k_B_colourOf 18 [some (zR a0), some (zI x1)] [] (n, K, mr, mi) Q) (p_2 : sx0 = 0 → zX c k_B_colourOf 12 [some (zR a0), some (zI x1)] [] (n, K, mr, mi) Q) : zX c k_B_colourOf 9 [some (zR a0), some (zI x1)] [zI sx0] (n, K, mr, mi) Q := 
  zX.n rfl (zX.itn p_1 p_2)
theorem s_B_colourOf_12 {a0 : Nat} {w1 : Option zV} (h_1 : K a0 = (2, 21)) (k_2 : zCall c k_B_colourOf 14 17 [some (zR a0), w1] [] 0 k_B_no [zR a0, zI 1] (n, K, mr, mi) Q) : zX c k_B_colourOf 12 [some (zR a0), w1] [] (n, K, mr, mi) Q := 
  zX.n rfl (zX.n rfl (zX.callQ rfl (congrArg Prod.fst h_1) trivial k_2))
theorem s_B_colourOf_17 {w0 : Option zV} {w1 : Option zV} {sx0 : Int} (p_1 : Q (.inl (some (zI sx0))) (n, K, mr, mi)) : zX c k_B_colourOf 17 [w0, w1] [zI sx0] (n, K, mr, mi) Q := 
  zX.ret rfl trivial p_1
theorem s_B_colourOf_18 {a0 : Nat} {x1 : Int} {A2 : Nat} {A4 : Nat} (h_1 : K a0 = (2, 21)) (h_3 : mr a0 15 = A2) (h_5 : mr a0 3 = A4) (h_6 : K A2 = (16, 3)) (k_7 : zCall c k_B_colourOf 26 29 [some (zR a0), some (zI x1)] [] 0 k_Co_find [zR A2, zR A4] (n, K, mr, mi) Q) : zX c k_B_colourOf 18 [some (zR a0), some (zI x1)] [] (n, K, mr, mi) Q := by
  subst h_3
  subst h_5
  exact zX.n rfl (zX.g rfl h_1 (zX.n rfl (zX.g rfl h_1 (zX.callQ rfl (congrArg Prod.fst h_6) trivial k_7))))
theorem s_B_colourOf_29 {a0 : Nat} {x1 : Int} {A2 : Nat} (h_1 : K a0 = (2, 21)) (h_3 : mr a0 15 = A2) (h_4 : K A2 = (16, 3)) (k_5 : zCall c k_B_colourOf 34 37 [some (zR a0), some (zI x1)] [] 0 k_Co_of [zR A2, zI x1] (n, K, mr, mi) Q) : zX c k_B_colourOf 29 [some (zR a0), some (zI x1)] [] (n, K, mr, mi) Q := by
  subst h_3
  exact zX.n rfl (zX.g rfl h_1 (zX.n rfl (zX.callQ rfl (congrArg Prod.fst h_4) trivial k_5)))
theorem s_B_colourOf_37 {w0 : Option zV} {w1 : Option zV} {sx0 : Int} (p_1 : Q (.inl (some (zI sx0))) (n, K, mr, mi)) : zX c k_B_colourOf 37 [w0, w1] [zI sx0] (n, K, mr, mi) Q := 
  zX.ret rfl trivial p_1
theorem s_B_judge_0 {a0 : Nat} {w1 : Option zV} (h_1 : K a0 = (2, 21)) (k_2 : zCall c k_B_judge 1 4 [some (zR a0), w1] [] 0 k_B_anew [zR a0] (n, K, mr, mi) Q) : zX c k_B_judge 0 [some (zR a0), w1] [] (n, K, mr, mi) Q := 
  zX.n rfl (zX.callQ rfl (congrArg Prod.fst h_1) trivial k_2)
theorem s_B_judge_4 {a0 : Nat} {w1 : Option zV} {A2 : Nat} (h_1 : K a0 = (2, 21)) (h_3 : mr a0 3 = A2) (h_4 : A2 = 0 ∨ (K A2).1 ≠ 0) (p_5 : ¬ A2 = 0 → zX c k_B_judge 17 [some (zR a0), w1] [] (n, K, mr, mi) Q) (p_6 : A2 = 0 → zX c k_B_judge 11 [some (zR a0), w1] [] (n, K, mr, mi) Q) : zX c k_B_judge 4 [some (zR a0), w1] [] (n, K, mr, mi) Q := by
  subst h_3
  exact zX.n rfl (zX.g rfl h_1 (zX.g rfl h_4 (zX.itn p_5 p_6)))
theorem s_B_judge_11 {a0 : Nat} {w1 : Option zV} (h_1 : K a0 = (2, 21)) (k_2 : zCall c k_B_judge 13 16 [some (zR a0), w1] [] 0 k_B_no [zR a0, zI 1] (n, K, mr, mi) Q) : zX c k_B_judge 11 [some (zR a0), w1] [] (n, K, mr, mi) Q := 
  zX.n rfl (zX.n rfl (zX.callQ rfl (congrArg Prod.fst h_1) trivial k_2))
theorem s_B_judge_16 {w0 : Option zV} {w1 : Option zV} {sx0 : Int} (p_1 : Q (.inl (some (zI sx0))) (n, K, mr, mi)) : zX c k_B_judge 16 [w0, w1] [zI sx0] (n, K, mr, mi) Q := 
  zX.ret rfl trivial p_1
theorem s_B_judge_17 {a0 : Nat} {w1 : Option zV} (p_1 : zX c k_B_judge 19 [some (zR a0), some (zI 0)] [] (n, K, mr, mi) Q) : zX c k_B_judge 17 [some (zR a0), w1] [] (n, K, mr, mi) Q := 
  zX.n rfl (zX.n rfl p_1)
theorem s_B_judge_19 {a0 : Nat} {x1 : Int} {A2 : Nat} (h_1 : K a0 = (2, 21)) (h_3 : mr a0 3 = A2) (h_4 : K A2 = (18, 12)) (p_5 : (mi A2 10) ≤ x1 → zX c k_B_judge 59 [some (zR a0), some (zI x1)] [] (n, K, mr, mi) Q) (p_6 : ¬ (mi A2 10) ≤ x1 → zX c k_B_judge 30 [some (zR a0), some (zI x1)] [] (n, K, mr, mi) Q) : zX c k_B_judge 19 [some (zR a0), some (zI x1)] [] (n, K, mr, mi) Q := by
  subst h_3
  exact zX.n rfl (zX.n rfl (zX.g rfl h_1 (zX.g rfl h_4 (zX.n rfl (zX.ite p_5 p_6)))))
theorem s_B_judge_30 {a0 : Nat} {x1 : Int} {A2 : Nat} {A4 : Nat} {A7 : Nat} {N9 : Nat} {j13 : Nat} {A15 : Nat} (h_1 : K a0 = (2, 21)) (h_3 : mr a0 12 = A2) (h_5 : mr a0 3 = A4) (h_6 : K A4 = (18, 12)) (h_8 : mr A4 2 = A7) (h_10 : K A7 = (111, N9)) (h_11 : 0 ≤ x1) (h_12 : x1 < (N9 : Int)) (h_14 : Int.toNat x1 = j13) (h_16 : mr A7 j13 = A15) (h_17 : K A2 = (6, 13)) (k_18 : zCall c k_B_judge 43 46 [some (zR a0), some (zI x1)] [] 0 k_Mo_wrong [zR A2, zR A15] (n, K, mr, mi) Q) : zX c k_B_judge 30 [some (zR a0), some (zI x1)] [] (n, K, mr, mi) Q := by
  subst h_3
  subst h_5
  subst h_8
  subst h_14
  subst h_16
  exact zX.n rfl (zX.g rfl h_1 (zX.n rfl (zX.g rfl h_1 (zX.g rfl h_6 (zX.n rfl (zX.g rfl ⟨N9, h_10, h_11, h_12⟩ (zX.callQ rfl (congrArg Prod.fst h_17) trivial k_18)))))))
theorem s_B_judge_46 {a0 : Nat} {x1 : Int} {sx0 : Int} (p_1 : sx0 = ((-2)) → zX c k_B_judge 53 [some (zR a0), some (zI x1)] [] (n, K, mr, mi) Q) (p_2 : ¬ sx0 = ((-2)) → zX c k_B_judge 51 [some (zR a0), some (zI x1)] [] (n, K, mr, mi) Q) : zX c k_B_judge 46 [some (zR a0), some (zI x1)] [zI sx0] (n, K, mr, mi) Q := 
  zX.n rfl (zX.n rfl (zX.ite p_1 p_2))
theorem s_B_judge_51 {w0 : Option zV} {x1 : Int} (p_1 : Q (.inl (some (zI x1))) (n, K, mr, mi)) : zX c k_B_judge 51 [w0, some (zI x1)] [] (n, K, mr, mi) Q := 
  zX.n rfl (zX.ret rfl trivial p_1)
theorem s_B_judge_53 {a0 : Nat} {x1 : Int} (p_1 : zX c k_B_judge 19 [some (zR a0), some (zI (zw (x1 + 1)))] [] (n, K, mr, mi) Q) : zX c k_B_judge 53 [some (zR a0), some (zI x1)] [] (n, K, mr, mi) Q := 
  zX.n rfl (zX.n rfl p_1)
theorem s_B_judge_59 {w0 : Option zV} {w1 : Option zV} (p_1 : Q (.inl (some (zI ((-2))))) (n, K, mr, mi)) : zX c k_B_judge 59 [w0, w1] [] (n, K, mr, mi) Q := 
  zX.n rfl (zX.ret rfl trivial p_1)
theorem s_B_judgeAt_0 {a0 : Nat} {x1 : Int} (h_1 : K a0 = (2, 21)) (k_2 : zCall c k_B_judgeAt 1 4 [some (zR a0), some (zI x1)] [] 0 k_B_anew [zR a0] (n, K, mr, mi) Q) : zX c k_B_judgeAt 0 [some (zR a0), some (zI x1)] [] (n, K, mr, mi) Q := 
  zX.n rfl (zX.callQ rfl (congrArg Prod.fst h_1) trivial k_2)
theorem s_B_judgeAt_4 {a0 : Nat} {x1 : Int} {A2 : Nat} (h_1 : K a0 = (2, 21)) (h_3 : mr a0 3 = A2) (h_4 : A2 = 0 ∨ (K A2).1 ≠ 0) (p_5 : A2 = 0 → zX c k_B_judgeAt 47 [some (zR a0), some (zI x1)] [] (n, K, mr, mi) Q) (p_6 : ¬ A2 = 0 → zX c k_B_judgeAt 11 [some (zR a0), some (zI x1)] [] (n, K, mr, mi) Q) : zX c k_B_judgeAt 4 [some (zR a0), some (zI x1)] [] (n, K, mr, mi) Q := by
  subst h_3
  exact zX.n rfl (zX.g rfl h_1 (zX.g rfl h_4 (zX.ite p_5 p_6)))
theorem s_B_judgeAt_11 {a0 : Nat} {x1 : Int} {A2 : Nat} (h_1 : K a0 = (2, 21)) (h_3 : mr a0 3 = A2) (h_4 : K A2 = (18, 12)) (k_5 : zCall c k_B_judgeAt 22 25 [some (zR a0), some (zI x1)] [] 0 k_B_in [zI x1, zI 0, zI (zw ((mi A2 10) - 1))] (n, K, mr, mi) Q) : zX c k_B_judgeAt 11 [some (zR a0), some (zI x1)] [] (n, K, mr, mi) Q := by
  subst h_3
  exact zX.n rfl (zX.n rfl (zX.n rfl (zX.g rfl h_1 (zX.g rfl h_4 (zX.n rfl (zX.n rfl (zX.callQ rfl trivial trivial k_5)))))))
theorem s_B_judgeAt_25 {a0 : Nat} {x1 : Int} {sx0 : Int} (p_1 : sx0 = 0 → zX c k_B_judgeAt 47 [some (zR a0), some (zI x1)] [] (n, K, mr, mi) Q) (p_2 : ¬ sx0 = 0 → zX c k_B_judgeAt 28 [some (zR a0), some (zI x1)] [] (n, K, mr, mi) Q) : zX c k_B_judgeAt 25 [some (zR a0), some (zI x1)] [zI sx0] (n, K, mr, mi) Q := 
  zX.n rfl (zX.ite p_1 p_2)
theorem s_B_judgeAt_28 {a0 : Nat} {x1 : Int} {A2 : Nat} {A4 : Nat} {A7 : Nat} {N9 : Nat} {j13 : Nat} {A15 : Nat} (h_1 : K a0 = (2, 21)) (h_3 : mr a0 12 = A2) (h_5 : mr a0 3 = A4) (h_6 : K A4 = (18, 12)) (h_8 : mr A4 2 = A7) (h_10 : K A7 = (111, N9)) (h_11 : 0 ≤ x1) (h_12 : x1 < (N9 : Int)) (h_14 : Int.toNat x1 = j13) (h_16 : mr A7 j13 = A15) (h_17 : K A2 = (6, 13)) (k_18 : zCall c k_B_judgeAt 41 44 [some (zR a0), some (zI x1)] [] 0 k_Mo_wrong [zR A2, zR A15] (n, K, mr, mi) Q) : zX c k_B_judgeAt 28 [some (zR a0), some (zI x1)] [] (n, K, mr, mi) Q := by
  subst h_3
  subst h_5
  subst h_8
  subst h_14
  subst h_16
  exact zX.n rfl (zX.g rfl h_1 (zX.n rfl (zX.g rfl h_1 (zX.g rfl h_6 (zX.n rfl (zX.g rfl ⟨N9, h_10, h_11, h_12⟩ (zX.callQ rfl (congrArg Prod.fst h_17) trivial k_18)))))))
theorem s_B_judgeAt_44 {w0 : Option zV} {w1 : Option zV} {sx0 : Int} (p_1 : zX c k_B_judgeAt 52 [w0, w1] [zI sx0] (n, K, mr, mi) Q) : zX c k_B_judgeAt 44 [w0, w1] [zI sx0] (n, K, mr, mi) Q := 
  zX.n rfl p_1
theorem s_B_judgeAt_47 {a0 : Nat} {w1 : Option zV} (h_1 : K a0 = (2, 21)) (k_2 : zCall c k_B_judgeAt 49 52 [some (zR a0), w1] [] 0 k_B_no [zR a0, zI 1] (n, K, mr, mi) Q) : zX c k_B_judgeAt 47 [some (zR a0), w1] [] (n, K, mr, mi) Q := 
  zX.n rfl (zX.n rfl (zX.callQ rfl (congrArg Prod.fst h_1) trivial k_2))
theorem s_B_judgeAt_52 {w0 : Option zV} {w1 : Option zV} {sx0 : Int} (p_1 : Q (.inl (some (zI sx0))) (n, K, mr, mi)) : zX c k_B_judgeAt 52 [w0, w1] [zI sx0] (n, K, mr, mi) Q := 
  zX.ret rfl trivial p_1
theorem s_B_explainWhy_0 {a0 : Nat} {A2 : Nat} (h_1 : K a0 = (2, 21)) (h_3 : mr a0 3 = A2) (h_4 : A2 = 0 ∨ (K A2).1 ≠ 0) (p_5 : ¬ A2 = 0 → zX c k_B_explainWhy 11 [some (zR a0)] [] (n, K, mr, mi) Q) (p_6 : A2 = 0 → zX c k_B_explainWhy 7 [some (zR a0)] [] (n, K, mr, mi) Q) : zX c k_B_explainWhy 0 [some (zR a0)] [] (n, K, mr, mi) Q := by
  subst h_3
  exact zX.n rfl (zX.g rfl h_1 (zX.g rfl h_4 (zX.itn p_5 p_6)))
theorem s_B_explainWhy_7 {w0 : Option zV} (p_1 : zX c k_B_explainWhy 26 [w0] [zI 1] (n, K, mr, mi) Q) : zX c k_B_explainWhy 7 [w0] [] (n, K, mr, mi) Q := 
  zX.n rfl (zX.n rfl p_1)
theorem s_B_explainWhy_11 {a0 : Nat} {A2 : Nat} (h_1 : K a0 = (2, 21)) (h_3 : mr a0 12 = A2) (h_4 : K A2 = (6, 13)) (k_5 : zCall c k_B_explainWhy 15 18 [some (zR a0)] [] 0 k_Mo_isRight [zR A2] (n, K, mr, mi) Q) : zX c k_B_explainWhy 11 [some (zR a0)] [] (n, K, mr, mi) Q := by
  subst h_3
  exact zX.n rfl (zX.g rfl h_1 (zX.callQ rfl (congrArg Prod.fst h_4) trivial k_5))
theorem s_B_explainWhy_18 {w0 : Option zV} {sx0 : Int} (p_1 : sx0 = 0 → zX c k_B_explainWhy 25 [w0] [] (n, K, mr, mi) Q) (p_2 : ¬ sx0 = 0 → zX c k_B_explainWhy 21 [w0] [] (n, K, mr, mi) Q) : zX c k_B_explainWhy 18 [w0] [zI sx0] (n, K, mr, mi) Q := 
  zX.n rfl (zX.ite p_1 p_2)
theorem s_B_explainWhy_21 {w0 : Option zV} (p_1 : zX c k_B_explainWhy 26 [w0] [zI 5] (n, K, mr, mi) Q) : zX c k_B_explainWhy 21 [w0] [] (n, K, mr, mi) Q := 
  zX.n rfl (zX.n rfl p_1)
theorem s_B_explainWhy_25 {w0 : Option zV} (p_1 : zX c k_B_explainWhy 26 [w0] [zI 0] (n, K, mr, mi) Q) : zX c k_B_explainWhy 25 [w0] [] (n, K, mr, mi) Q := 
  zX.n rfl p_1
theorem s_B_explainWhy_26 {w0 : Option zV} {sx0 : Int} (p_1 : Q (.inl (some (zI sx0))) (n, K, mr, mi)) : zX c k_B_explainWhy 26 [w0] [zI sx0] (n, K, mr, mi) Q := 
  zX.ret rfl trivial p_1
theorem s_B_explained_0 {a0 : Nat} {x1 : Int} {w2 : Option zV} {w3 : Option zV} {w4 : Option zV} {w5 : Option zV} (p_1 : zX c k_B_explained 4 [some (zR a0), some (zI x1), some (zI 0), some (zI 0), w4, w5] [] (n, K, mr, mi) Q) : zX c k_B_explained 0 [some (zR a0), some (zI x1), w2, w3, w4, w5] [] (n, K, mr, mi) Q := 
  zX.n rfl (zX.n rfl (zX.n rfl (zX.n rfl p_1)))
theorem s_B_explained_4 {a0 : Nat} {x1 : Int} {x2 : Int} {x3 : Int} {w4 : Option zV} {w5 : Option zV} {A2 : Nat} (h_1 : K a0 = (2, 21)) (h_3 : mr a0 3 = A2) (h_4 : K A2 = (18, 12)) (p_5 : (mi A2 4) ≤ x3 → zX c k_B_explained 122 [some (zR a0), some (zI x1), some (zI x2), some (zI x3), w4, w5] [] (n, K, mr, mi) Q) (p_6 : ¬ (mi A2 4) ≤ x3 → zX c k_B_explained 15 [some (zR a0), some (zI x1), some (zI x2), some (zI x3), w4, w5] [] (n, K, mr, mi) Q) : zX c k_B_explained 4 [some (zR a0), some (zI x1), some (zI x2), some (zI x3), w4, w5] [] (n, K, mr, mi) Q := by
  subst h_3
  exact zX.n rfl (zX.n rfl (zX.g rfl h_1 (zX.g rfl h_4 (zX.n rfl (zX.ite p_5 p_6)))))
theorem s_B_explained_15 {a0 : Nat} {x1 : Int} {x2 : Int} {x3 : Int} {w4 : Option zV} {w5 : Option zV} (p_1 : zX c k_B_explained 18 [some (zR a0), some (zI x1), some (zI x2), some (zI x3), some (zI 0), w5] [] (n, K, mr, mi) Q) : zX c k_B_explained 15 [some (zR a0), some (zI x1), some (zI x2), some (zI x3), w4, w5] [] (n, K, mr, mi) Q := 
  zX.n rfl (zX.n rfl p_1)
theorem s_B_explained_18 {a0 : Nat} {x1 : Int} {x2 : Int} {x3 : Int} {x4 : Int} {w5 : Option zV} {A2 : Nat} (h_1 : K a0 = (2, 21)) (h_3 : mr a0 3 = A2) (h_4 : K A2 = (18, 12)) (p_5 : (mi A2 5) ≤ x4 → zX c k_B_explained 116 [some (zR a0), some (zI x1), some (zI x2), some (zI x3), some (zI x4), w5] [] (n, K, mr, mi) Q) (p_6 : ¬ (mi A2 5) ≤ x4 → zX c k_B_explained 30 [some (zR a0), some (zI x1), some (zI x2), some (zI x3), some (zI x4), w5] [] (n, K, mr, mi) Q) : zX c k_B_explained 18 [some (zR a0), some (zI x1), some (zI x2), some (zI x3), some (zI x4), w5] [] (n, K, mr, mi) Q := by
  subst h_3
  exact zX.n rfl (zX.n rfl (zX.g rfl h_1 (zX.g rfl h_4 (zX.n rfl (zX.ite p_5 p_6)))))
theorem s_B_explained_30 {a0 : Nat} {x1 : Int} {x2 : Int} {x3 : Int} {x4 : Int} {w5 : Option zV} (p_1 : zX c k_B_explained 36 [some (zR a0), some (zI x1), some (zI x2), some (zI x3), some (zI x4), some (zI (zw (x4 + 1)))] [] (n, K, mr, mi) Q) : zX c k_B_explained 30 [some (zR a0), some (zI x1), some (zI x2), some (zI x3), some (zI x4), w5] [] (n, K, mr, mi) Q := 
  zX.n rfl (zX.n rfl (zX.n rfl (zX.n rfl p_1)))
theorem s_B_explained_36 {a0 : Nat} {x1 : Int} {x2 : Int} {x3 : Int} {x4 : Int} {x5 : Int} {A2 : Nat} (h_1 : K a0 = (2, 21)) (h_3 : mr a0 3 = A2) (h_4 : K A2 = (18, 12)) (p_5 : (mi A2 5) ≤ x5 → zX c k_B_explained 110 [some (zR a0), some (zI x1), some (zI x2), some (zI x3), some (zI x4), some (zI x5)] [] (n, K, mr, mi) Q) (p_6 : ¬ (mi A2 5) ≤ x5 → zX c k_B_explained 48 [some (zR a0), some (zI x1), some (zI x2), some (zI x3), some (zI x4), some (zI x5)] [] (n, K, mr, mi) Q) : zX c k_B_explained 36 [some (zR a0), some (zI x1), some (zI x2), some (zI x3), some (zI x4), some (zI x5)] [] (n, K, mr, mi) Q := by
  subst h_3
  exact zX.n rfl (zX.n rfl (zX.g rfl h_1 (zX.g rfl h_4 (zX.n rfl (zX.ite p_5 p_6)))))
theorem s_B_explained_48 {a0 : Nat} {x1 : Int} {x2 : Int} {x3 : Int} {x4 : Int} {x5 : Int} {A2 : Nat} (h_1 : K a0 = (2, 21)) (h_3 : mr a0 18 = A2) (h_4 : K A2 = (1, 3)) (k_5 : zCall c k_B_explained 57 60 [some (zR a0), some (zI x1), some (zI x2), some (zI x3), some (zI x4), some (zI x5)] [] 0 k_Mv_be [zR A2, zI x3, zI x4, zI x5] (n, K, mr, mi) Q) : zX c k_B_explained 48 [some (zR a0), some (zI x1), some (zI x2), some (zI x3), some (zI x4), some (zI x5)] [] (n, K, mr, mi) Q := by
  subst h_3
  exact zX.n rfl (zX.g rfl h_1 (zX.n rfl (zX.n rfl (zX.n rfl (zX.callQ rfl (congrArg Prod.fst h_4) trivial k_5)))))
theorem s_B_explained_60 {a0 : Nat} {x1 : Int} {x2 : Int} {x3 : Int} {x4 : Int} {x5 : Int} {A2 : Nat} {A4 : Nat} {A6 : Nat} {A8 : Nat} (h_1 : K a0 = (2, 21)) (h_3 : mr a0 13 = A2) (h_5 : mr a0 3 = A4) (h_7 : mr a0 9 = A6) (h_9 : mr a0 18 = A8) (h_10 : K A2 = (6, 13)) (k_11 : zCall c k_B_explained 76 79 [some (zR a0), some (zI x1), some (zI x2), some (zI x3), some (zI x4), some (zI x5)] [] 0 k_Mo_run [zR A2, zR A4, zR A6, zR A8] (n, K, mr, mi) Q) : zX c k_B_explained 60 [some (zR a0), some (zI x1), some (zI x2), some (zI x3), some (zI x4), some (zI x5)] [] (n, K, mr, mi) Q := by
  subst h_3
  subst h_5
  subst h_7
  subst h_9
  exact zX.n rfl (zX.g rfl h_1 (zX.n rfl (zX.g rfl h_1 (zX.n rfl (zX.g rfl h_1 (zX.n rfl (zX.g rfl h_1 (zX.callQ rfl (congrArg Prod.fst h_10) trivial k_11))))))))
theorem s_B_explained_79 {a0 : Nat} {x1 : Int} {x2 : Int} {x3 : Int} {x4 : Int} {x5 : Int} {A2 : Nat} (h_1 : K a0 = (2, 21)) (h_3 : mr a0 13 = A2) (h_4 : K A2 = (6, 13)) (k_5 : zCall c k_B_explained 83 86 [some (zR a0), some (zI x1), some (zI x2), some (zI x3), some (zI x4), some (zI x5)] [] 0 k_Mo_isRight [zR A2] (n, K, mr, mi) Q) : zX c k_B_explained 79 [some (zR a0), some (zI x1), some (zI x2), some (zI x3), some (zI x4), some (zI x5)] [] (n, K, mr, mi) Q := by
  subst h_3
  exact zX.n rfl (zX.g rfl h_1 (zX.callQ rfl (congrArg Prod.fst h_4) trivial k_5))
theorem s_B_explained_86 {a0 : Nat} {x1 : Int} {x2 : Int} {x3 : Int} {x4 : Int} {x5 : Int} {sx0 : Int} (p_1 : ¬ sx0 = 0 → zX c k_B_explained 92 [some (zR a0), some (zI x1), some (zI x2), some (zI x3), some (zI x4), some (zI x5)] [] (n, K, mr, mi) Q) (p_2 : sx0 = 0 → zX c k_B_explained 89 [some (zR a0), some (zI x1), some (zI x2), some (zI x3), some (zI x4), some (zI x5)] [] (n, K, mr, mi) Q) : zX c k_B_explained 86 [some (zR a0), some (zI x1), some (zI x2), some (zI x3), some (zI x4), some (zI x5)] [zI sx0] (n, K, mr, mi) Q := 
  zX.n rfl (zX.itn p_1 p_2)
theorem s_B_explained_89 {a0 : Nat} {x1 : Int} {x2 : Int} {x3 : Int} {x4 : Int} {x5 : Int} (p_1 : zX c k_B_explained 104 [some (zR a0), some (zI x1), some (zI x2), some (zI x3), some (zI x4), some (zI x5)] [] (n, K, mr, mi) Q) : zX c k_B_explained 89 [some (zR a0), some (zI x1), some (zI x2), some (zI x3), some (zI x4), some (zI x5)] [] (n, K, mr, mi) Q := 
  zX.n rfl p_1
theorem s_B_explained_92 {a0 : Nat} {x1 : Int} {x2 : Int} {x3 : Int} {x4 : Int} {x5 : Int} (p_1 : ¬ x2 = x1 → zX c k_B_explained 101 [some (zR a0), some (zI x1), some (zI x2), some (zI x3), some (zI x4), some (zI x5)] [] (n, K, mr, mi) Q) (p_2 : x2 = x1 → zX c k_B_explained 97 [some (zR a0), some (zI x1), some (zI x2), some (zI x3), some (zI x4), some (zI x5)] [] (n, K, mr, mi) Q) : zX c k_B_explained 92 [some (zR a0), some (zI x1), some (zI x2), some (zI x3), some (zI x4), some (zI x5)] [] (n, K, mr, mi) Q := 
  zX.n rfl (zX.n rfl (zX.n rfl (zX.itn p_1 p_2)))
theorem s_B_explained_97 {w0 : Option zV} {w1 : Option zV} {x2 : Int} {w3 : Option zV} {w4 : Option zV} {w5 : Option zV} (p_1 : Q (.inl (some (zI (zw (x2 + 1))))) (n, K, mr, mi)) : zX c k_B_explained 97 [w0, w1, some (zI x2), w3, w4, w5] [] (n, K, mr, mi) Q := 
  zX.n rfl (zX.n rfl (zX.n rfl (zX.ret rfl trivial p_1)))
theorem s_B_explained_101 {a0 : Nat} {x1 : Int} {x2 : Int} {x3 : Int} {x4 : Int} {x5 : Int} (p_1 : zX c k_B_explained 104 [some (zR a0), some (zI x1), some (zI (zw (x2 + 1))), some (zI x3), some (zI x4), some (zI x5)] [] (n, K, mr, mi) Q) : zX c k_B_explained 101 [some (zR a0), some (zI x1), some (zI x2), some (zI x3), some (zI x4), some (zI x5)] [] (n, K, mr, mi) Q := 
  zX.n rfl p_1
theorem s_B_explained_104 {a0 : Nat} {x1 : Int} {x2 : Int} {x3 : Int} {x4 : Int} {x5 : Int} (p_1 : zX c k_B_explained 36 [some (zR a0), some (zI x1), some (zI x2), some (zI x3), some (zI x4), some (zI (zw (x5 + 1)))] [] (n, K, mr, mi) Q) : zX c k_B_explained 104 [some (zR a0), some (zI x1), some (zI x2), some (zI x3), some (zI x4), some (zI x5)] [] (n, K, mr, mi) Q := 
  zX.n rfl (zX.n rfl p_1)
theorem s_B_explained_110 {a0 : Nat} {x1 : Int} {x2 : Int} {x3 : Int} {x4 : Int} {w5 : Option zV} (p_1 : zX c k_B_explained 18 [some (zR a0), some (zI x1), some (zI x2), some (zI x3), some (zI (zw (x4 + 1))), w5] [] (n, K, mr, mi) Q) : zX c k_B_explained 110 [some (zR a0), some (zI x1), some (zI x2), some (zI x3), some (zI x4), w5] [] (n, K, mr, mi) Q := 
  zX.n rfl (zX.n rfl p_1)
theorem s_B_explained_116 {a0 : Nat} {x1 : Int} {x2 : Int} {x3 : Int} {w4 : Option zV} {w5 : Option zV} (p_1 : zX c k_B_explained 4 [some (zR a0), some (zI x1), some (zI x2), some (zI (zw (x3 + 1))), w4, w5] [] (n, K, mr, mi) Q) : zX c k_B_explained 116 [some (zR a0), some (zI x1), some (zI x2), some (zI x3), w4, w5] [] (n, K, mr, mi) Q := 
  zX.n rfl (zX.n rfl p_1)
theorem s_B_explained_122 {w0 : Option zV} {w1 : Option zV} {x2 : Int} {w3 : Option zV} {w4 : Option zV} {w5 : Option zV} (p_1 : Q (.inl (some (zI x2))) (n, K, mr, mi)) : zX c k_B_explained 122 [w0, w1, some (zI x2), w3, w4, w5] [] (n, K, mr, mi) Q := 
  zX.n rfl (zX.ret rfl trivial p_1)
theorem s_B_explains_0 {a0 : Nat} {w1 : Option zV} (h_1 : K a0 = (2, 21)) (k_2 : zCall c k_B_explains 1 4 [some (zR a0), w1] [] 0 k_B_anew [zR a0] (n, K, mr, mi) Q) : zX c k_B_explains 0 [some (zR a0), w1] [] (n, K, mr, mi) Q := 
  zX.n rfl (zX.callQ rfl (congrArg Prod.fst h_1) trivial k_2)
theorem s_B_explains_4 {a0 : Nat} {w1 : Option zV} (h_1 : K a0 = (2, 21)) (k_2 : zCall c k_B_explains 5 8 [some (zR a0), w1] [] 0 k_B_explainWhy [zR a0] (n, K, mr, mi) Q) : zX c k_B_explains 4 [some (zR a0), w1] [] (n, K, mr, mi) Q := 
  zX.n rfl (zX.callQ rfl (congrArg Prod.fst h_1) trivial k_2)
theorem s_B_explains_8 {a0 : Nat} {w1 : Option zV} {sx0 : Int} (p_1 : sx0 = 0 → zX c k_B_explains 21 [some (zR a0), some (zI sx0)] [] (n, K, mr, mi) Q) (p_2 : ¬ sx0 = 0 → zX c k_B_explains 13 [some (zR a0), some (zI sx0)] [] (n, K, mr, mi) Q) : zX c k_B_explains 8 [some (zR a0), w1] [zI sx0] (n, K, mr, mi) Q := 
  zX.n rfl (zX.n rfl (zX.n rfl (zX.ite p_1 p_2)))
theorem s_B_explains_13 {a0 : Nat} {x1 : Int} (h_1 : K a0 = (2, 21)) (k_2 : zCall c k_B_explains 15 18 [some (zR a0), some (zI x1)] [] 0 k_B_no [zR a0, zI x1] (n, K, mr, mi) Q) : zX c k_B_explains 13 [some (zR a0), some (zI x1)] [] (n, K, mr, mi) Q := 
  zX.n rfl (zX.n rfl (zX.callQ rfl (congrArg Prod.fst h_1) trivial k_2))
theorem s_B_explains_18 {w0 : Option zV} {w1 : Option zV} {sx0 : Int} (p_1 : zX c k_B_explains 26 [w0, w1] [zI sx0] (n, K, mr, mi) Q) : zX c k_B_explains 18 [w0, w1] [zI sx0] (n, K, mr, mi) Q := 
  zX.n rfl p_1
theorem s_B_explains_21 {a0 : Nat} {w1 : Option zV} (h_1 : K a0 = (2, 21)) (k_2 : zCall c k_B_explains 23 26 [some (zR a0), w1] [] 0 k_B_explained [zR a0, zI ((-1))] (n, K, mr, mi) Q) : zX c k_B_explains 21 [some (zR a0), w1] [] (n, K, mr, mi) Q := 
  zX.n rfl (zX.n rfl (zX.callQ rfl (congrArg Prod.fst h_1) trivial k_2))
theorem s_B_explains_26 {w0 : Option zV} {w1 : Option zV} {sx0 : Int} (p_1 : Q (.inl (some (zI sx0))) (n, K, mr, mi)) : zX c k_B_explains 26 [w0, w1] [zI sx0] (n, K, mr, mi) Q := 
  zX.ret rfl trivial p_1
theorem s_B_explain_0 {a0 : Nat} {x1 : Int} {x2 : Int} {w3 : Option zV} (h_1 : K a0 = (2, 21)) (k_2 : zCall c k_B_explain 1 4 [some (zR a0), some (zI x1), some (zI x2), w3] [] 0 k_B_anew [zR a0] (n, K, mr, mi) Q) : zX c k_B_explain 0 [some (zR a0), some (zI x1), some (zI x2), w3] [] (n, K, mr, mi) Q := 
  zX.n rfl (zX.callQ rfl (congrArg Prod.fst h_1) trivial k_2)
theorem s_B_explain_4 {a0 : Nat} {x1 : Int} {x2 : Int} {w3 : Option zV} {A2 : Nat} (h_1 : K a0 = (2, 21)) (h_3 : mr a0 3 = A2) (h_4 : A2 = 0 ∨ (K A2).1 ≠ 0) (p_5 : A2 = 0 → zX c k_B_explain 20 [some (zR a0), some (zI x1), some (zI x2), w3] [] (n, K, mr, mi) Q) (p_6 : ¬ A2 = 0 → zX c k_B_explain 11 [some (zR a0), some (zI x1), some (zI x2), w3] [] (n, K, mr, mi) Q) : zX c k_B_explain 4 [some (zR a0), some (zI x1), some (zI x2), w3] [] (n, K, mr, mi) Q := by
  subst h_3
  exact zX.n rfl (zX.g rfl h_1 (zX.g rfl h_4 (zX.ite p_5 p_6)))
theorem s_B_explain_11 {a0 : Nat} {x1 : Int} {x2 : Int} {w3 : Option zV} (k_1 : zCall c k_B_explain 14 17 [some (zR a0), some (zI x1), some (zI x2), w3] [] 0 k_B_in [zI x2, zI 0, zI 2] (n, K, mr, mi) Q) : zX c k_B_explain 11 [some (zR a0), some (zI x1), some (zI x2), w3] [] (n, K, mr, mi) Q := 
  zX.n rfl (zX.n rfl (zX.n rfl (zX.callQ rfl trivial trivial k_1)))
theorem s_B_explain_17 {a0 : Nat} {x1 : Int} {x2 : Int} {w3 : Option zV} {sx0 : Int} (p_1 : ¬ sx0 = 0 → zX c k_B_explain 26 [some (zR a0), some (zI x1), some (zI x2), w3] [] (n, K, mr, mi) Q) (p_2 : sx0 = 0 → zX c k_B_explain 20 [some (zR a0), some (zI x1), some (zI x2), w3] [] (n, K, mr, mi) Q) : zX c k_B_explain 17 [some (zR a0), some (zI x1), some (zI x2), w3] [zI sx0] (n, K, mr, mi) Q := 
  zX.n rfl (zX.itn p_1 p_2)
theorem s_B_explain_20 {a0 : Nat} {w1 : Option zV} {w2 : Option zV} {w3 : Option zV} (h_1 : K a0 = (2, 21)) (k_2 : zCall c k_B_explain 22 25 [some (zR a0), w1, w2, w3] [] 0 k_B_no [zR a0, zI 1] (n, K, mr, mi) Q) : zX c k_B_explain 20 [some (zR a0), w1, w2, w3] [] (n, K, mr, mi) Q := 
  zX.n rfl (zX.n rfl (zX.callQ rfl (congrArg Prod.fst h_1) trivial k_2))
theorem s_B_explain_25 {w0 : Option zV} {w1 : Option zV} {w2 : Option zV} {w3 : Option zV} {sx0 : Int} (p_1 : Q (.inl (some (zI sx0))) (n, K, mr, mi)) : zX c k_B_explain 25 [w0, w1, w2, w3] [zI sx0] (n, K, mr, mi) Q := 
  zX.ret rfl trivial p_1
theorem s_B_explain_26 {a0 : Nat} {x1 : Int} {x2 : Int} {w3 : Option zV} (h_1 : K a0 = (2, 21)) (k_2 : zCall c k_B_explain 27 30 [some (zR a0), some (zI x1), some (zI x2), w3] [] 0 k_B_explainWhy [zR a0] (n, K, mr, mi) Q) : zX c k_B_explain 26 [some (zR a0), some (zI x1), some (zI x2), w3] [] (n, K, mr, mi) Q := 
  zX.n rfl (zX.callQ rfl (congrArg Prod.fst h_1) trivial k_2)
theorem s_B_explain_30 {a0 : Nat} {x1 : Int} {x2 : Int} {w3 : Option zV} {sx0 : Int} (p_1 : sx0 = 0 → zX c k_B_explain 41 [some (zR a0), some (zI x1), some (zI x2), some (zI sx0)] [] (n, K, mr, mi) Q) (p_2 : ¬ sx0 = 0 → zX c k_B_explain 35 [some (zR a0), some (zI x1), some (zI x2), some (zI sx0)] [] (n, K, mr, mi) Q) : zX c k_B_explain 30 [some (zR a0), some (zI x1), some (zI x2), w3] [zI sx0] (n, K, mr, mi) Q := 
  zX.n rfl (zX.n rfl (zX.n rfl (zX.ite p_1 p_2)))
theorem s_B_explain_35 {a0 : Nat} {w1 : Option zV} {w2 : Option zV} {x3 : Int} (h_1 : K a0 = (2, 21)) (k_2 : zCall c k_B_explain 37 40 [some (zR a0), w1, w2, some (zI x3)] [] 0 k_B_no [zR a0, zI x3] (n, K, mr, mi) Q) : zX c k_B_explain 35 [some (zR a0), w1, w2, some (zI x3)] [] (n, K, mr, mi) Q := 
  zX.n rfl (zX.n rfl (zX.callQ rfl (congrArg Prod.fst h_1) trivial k_2))
theorem s_B_explain_40 {w0 : Option zV} {w1 : Option zV} {w2 : Option zV} {w3 : Option zV} {sx0 : Int} (p_1 : Q (.inl (some (zI sx0))) (n, K, mr, mi)) : zX c k_B_explain 40 [w0, w1, w2, w3] [zI sx0] (n, K, mr, mi) Q := 
  zX.ret rfl trivial p_1
theorem s_B_explain_41 {a0 : Nat} {x1 : Int} {x2 : Int} {w3 : Option zV} (p_1 : x1 < 0 → zX c k_B_explain 54 [some (zR a0), some (zI x1), some (zI x2), w3] [] (n, K, mr, mi) Q) (p_2 : ¬ x1 < 0 → zX c k_B_explain 45 [some (zR a0), some (zI x1), some (zI x2), w3] [] (n, K, mr, mi) Q) : zX c k_B_explain 41 [some (zR a0), some (zI x1), some (zI x2), w3] [] (n, K, mr, mi) Q := 
  zX.n rfl (zX.n rfl (zX.ite p_1 p_2))
theorem s_B_explain_45 {a0 : Nat} {x1 : Int} {x2 : Int} {w3 : Option zV} (h_1 : K a0 = (2, 21)) (k_2 : zCall c k_B_explain 47 50 [some (zR a0), some (zI x1), some (zI x2), w3] [] 0 k_B_explained [zR a0, zI x1] (n, K, mr, mi) Q) : zX c k_B_explain 45 [some (zR a0), some (zI x1), some (zI x2), w3] [] (n, K, mr, mi) Q := 
  zX.n rfl (zX.n rfl (zX.callQ rfl (congrArg Prod.fst h_1) trivial k_2))
theorem s_B_explain_50 {a0 : Nat} {x1 : Int} {x2 : Int} {w3 : Option zV} {sx0 : Int} (p_1 : x1 < sx0 → zX c k_B_explain 60 [some (zR a0), some (zI x1), some (zI x2), w3] [] (n, K, mr, mi) Q) (p_2 : ¬ x1 < sx0 → zX c k_B_explain 54 [some (zR a0), some (zI x1), some (zI x2), w3] [] (n, K, mr, mi) Q) : zX c k_B_explain 50 [some (zR a0), some (zI x1), some (zI x2), w3] [zI sx0] (n, K, mr, mi) Q := 
  zX.n rfl (zX.n rfl (zX.ite p_1 p_2))
theorem s_B_explain_54 {a0 : Nat} {w1 : Option zV} {w2 : Option zV} {w3 : Option zV} (h_1 : K a0 = (2, 21)) (k_2 : zCall c k_B_explain 56 59 [some (zR a0), w1, w2, w3] [] 0 k_B_no [zR a0, zI 1] (n, K, mr, mi) Q) : zX c k_B_explain 54 [some (zR a0), w1, w2, w3] [] (n, K, mr, mi) Q := 
  zX.n rfl (zX.n rfl (zX.callQ rfl (congrArg Prod.fst h_1) trivial k_2))
theorem s_B_explain_59 {w0 : Option zV} {w1 : Option zV} {w2 : Option zV} {w3 : Option zV} {sx0 : Int} (p_1 : Q (.inl (some (zI sx0))) (n, K, mr, mi)) : zX c k_B_explain 59 [w0, w1, w2, w3] [zI sx0] (n, K, mr, mi) Q := 
  zX.ret rfl trivial p_1
theorem s_B_explain_60 {a0 : Nat} {w1 : Option zV} {x2 : Int} {w3 : Option zV} (p_1 : ¬ x2 = 0 → zX c k_B_explain 74 [some (zR a0), w1, some (zI x2), w3] [] (n, K, mr, mi) Q) (p_2 : x2 = 0 → zX c k_B_explain 64 [some (zR a0), w1, some (zI x2), w3] [] (n, K, mr, mi) Q) : zX c k_B_explain 60 [some (zR a0), w1, some (zI x2), w3] [] (n, K, mr, mi) Q := 
  zX.n rfl (zX.n rfl (zX.itn p_1 p_2))
theorem s_B_explain_64 {a0 : Nat} {w1 : Option zV} {w2 : Option zV} {w3 : Option zV} {A2 : Nat} (h_1 : K a0 = (2, 21)) (h_3 : mr a0 18 = A2) (h_4 : K A2 = (1, 3)) (p_5 : zX c k_B_explain 96 [some (zR a0), w1, w2, w3] [zI (mi A2 0)] (n, K, mr, mi) Q) : zX c k_B_explain 64 [some (zR a0), w1, w2, w3] [] (n, K, mr, mi) Q := by
  subst h_3
  exact zX.n rfl (zX.g rfl h_1 (zX.g rfl h_4 (zX.n rfl p_5)))
theorem s_B_explain_74 {a0 : Nat} {w1 : Option zV} {x2 : Int} {w3 : Option zV} (p_1 : ¬ x2 = (1 : Int) → zX c k_B_explain 89 [some (zR a0), w1, some (zI x2), w3] [] (n, K, mr, mi) Q) (p_2 : x2 = (1 : Int) → zX c k_B_explain 79 [some (zR a0), w1, some (zI x2), w3] [] (n, K, mr, mi) Q) : zX c k_B_explain 74 [some (zR a0), w1, some (zI x2), w3] [] (n, K, mr, mi) Q := 
  zX.n rfl (zX.n rfl (zX.n rfl (zX.itn p_1 p_2)))
theorem s_B_explain_79 {a0 : Nat} {w1 : Option zV} {w2 : Option zV} {w3 : Option zV} {A2 : Nat} (h_1 : K a0 = (2, 21)) (h_3 : mr a0 18 = A2) (h_4 : K A2 = (1, 3)) (p_5 : zX c k_B_explain 96 [some (zR a0), w1, w2, w3] [zI (mi A2 1)] (n, K, mr, mi) Q) : zX c k_B_explain 79 [some (zR a0), w1, w2, w3] [] (n, K, mr, mi) Q := by
  subst h_3
  exact zX.n rfl (zX.g rfl h_1 (zX.g rfl h_4 (zX.n rfl p_5)))
theorem s_B_explain_89 {a0 : Nat} {w1 : Option zV} {w2 : Option zV} {w3 : Option zV} {A2 : Nat} (h_1 : K a0 = (2, 21)) (h_3 : mr a0 18 = A2) (h_4 : K A2 = (1, 3)) (p_5 : zX c k_B_explain 96 [some (zR a0), w1, w2, w3] [zI (mi A2 2)] (n, K, mr, mi) Q) : zX c k_B_explain 89 [some (zR a0), w1, w2, w3] [] (n, K, mr, mi) Q := by
  subst h_3
  exact zX.n rfl (zX.g rfl h_1 (zX.g rfl h_4 p_5))
theorem s_B_explain_96 {w0 : Option zV} {w1 : Option zV} {w2 : Option zV} {w3 : Option zV} {sx0 : Int} (p_1 : Q (.inl (some (zI sx0))) (n, K, mr, mi)) : zX c k_B_explain 96 [w0, w1, w2, w3] [zI sx0] (n, K, mr, mi) Q := 
  zX.ret rfl trivial p_1
theorem s_B_isSo_0 {a0 : Nat} {a1 : Nat} {A2 : Nat} (h_1 : K a0 = (2, 21)) (h_3 : mr a0 12 = A2) (h_4 : K a1 = (21, 3)) (h_5 : K A2 = (6, 13)) (k_6 : zCall c k_B_isSo 12 15 [some (zR a0), some (zR a1)] [] 0 k_Mo_place [zR A2, zI (mi a1 1), zI (mi a1 0)] (n, K, mr, mi) Q) : zX c k_B_isSo 0 [some (zR a0), some (zR a1)] [] (n, K, mr, mi) Q := by
  subst h_3
  exact zX.n rfl (zX.g rfl h_1 (zX.n rfl (zX.g rfl h_4 (zX.n rfl (zX.g rfl h_4 (zX.callQ rfl (congrArg Prod.fst h_5) trivial k_6))))))
theorem s_B_isSo_15 {w0 : Option zV} {a1 : Nat} {sx0 : Int} (h_1 : K a1 = (21, 3)) (p_2 : ¬ sx0 = (mi a1 2) → zX c k_B_isSo 26 [w0, some (zR a1)] [] (n, K, mr, mi) Q) (p_3 : sx0 = (mi a1 2) → zX c k_B_isSo 22 [w0, some (zR a1)] [] (n, K, mr, mi) Q) : zX c k_B_isSo 15 [w0, some (zR a1)] [zI sx0] (n, K, mr, mi) Q := 
  zX.n rfl (zX.g rfl h_1 (zX.n rfl (zX.itn p_2 p_3)))
theorem s_B_isSo_22 {w0 : Option zV} {w1 : Option zV} (p_1 : zX c k_B_isSo 27 [w0, w1] [zI 1] (n, K, mr, mi) Q) : zX c k_B_isSo 22 [w0, w1] [] (n, K, mr, mi) Q := 
  zX.n rfl (zX.n rfl p_1)
theorem s_B_isSo_26 {w0 : Option zV} {w1 : Option zV} (p_1 : zX c k_B_isSo 27 [w0, w1] [zI 0] (n, K, mr, mi) Q) : zX c k_B_isSo 26 [w0, w1] [] (n, K, mr, mi) Q := 
  zX.n rfl p_1
theorem s_B_isSo_27 {w0 : Option zV} {w1 : Option zV} {sx0 : Int} (h_1 : sx0 = 0 ∨ sx0 = 1) (p_2 : Q (.inl (some (zI sx0))) (n, K, mr, mi)) : zX c k_B_isSo 27 [w0, w1] [zI sx0] (n, K, mr, mi) Q := 
  zX.ret rfl h_1 p_2
theorem s_B_isTrue_0 {a0 : Nat} {x1 : Int} (h_1 : K a0 = (2, 21)) (k_2 : zCall c k_B_isTrue 1 4 [some (zR a0), some (zI x1)] [] 0 k_B_anew [zR a0] (n, K, mr, mi) Q) : zX c k_B_isTrue 0 [some (zR a0), some (zI x1)] [] (n, K, mr, mi) Q := 
  zX.n rfl (zX.callQ rfl (congrArg Prod.fst h_1) trivial k_2)
theorem s_B_isTrue_4 {a0 : Nat} {x1 : Int} {A2 : Nat} (h_1 : K a0 = (2, 21)) (h_3 : mr a0 3 = A2) (h_4 : A2 = 0 ∨ (K A2).1 ≠ 0) (p_5 : A2 = 0 → zX c k_B_isTrue 52 [some (zR a0), some (zI x1)] [] (n, K, mr, mi) Q) (p_6 : ¬ A2 = 0 → zX c k_B_isTrue 11 [some (zR a0), some (zI x1)] [] (n, K, mr, mi) Q) : zX c k_B_isTrue 4 [some (zR a0), some (zI x1)] [] (n, K, mr, mi) Q := by
  subst h_3
  exact zX.n rfl (zX.g rfl h_1 (zX.g rfl h_4 (zX.ite p_5 p_6)))
theorem s_B_isTrue_11 {a0 : Nat} {x1 : Int} {A2 : Nat} (h_1 : K a0 = (2, 21)) (h_3 : mr a0 3 = A2) (h_4 : K A2 = (18, 12)) (k_5 : zCall c k_B_isTrue 22 25 [some (zR a0), some (zI x1)] [] 0 k_B_in [zI x1, zI 0, zI (zw ((mi A2 11) - 1))] (n, K, mr, mi) Q) : zX c k_B_isTrue 11 [some (zR a0), some (zI x1)] [] (n, K, mr, mi) Q := by
  subst h_3
  exact zX.n rfl (zX.n rfl (zX.n rfl (zX.g rfl h_1 (zX.g rfl h_4 (zX.n rfl (zX.n rfl (zX.callQ rfl trivial trivial k_5)))))))
theorem s_B_isTrue_25 {a0 : Nat} {x1 : Int} {sx0 : Int} (p_1 : sx0 = 0 → zX c k_B_isTrue 52 [some (zR a0), some (zI x1)] [] (n, K, mr, mi) Q) (p_2 : ¬ sx0 = 0 → zX c k_B_isTrue 28 [some (zR a0), some (zI x1)] [] (n, K, mr, mi) Q) : zX c k_B_isTrue 25 [some (zR a0), some (zI x1)] [zI sx0] (n, K, mr, mi) Q := 
  zX.n rfl (zX.ite p_1 p_2)
theorem s_B_isTrue_28 {a0 : Nat} {x1 : Int} {A2 : Nat} {A5 : Nat} {N7 : Nat} {j11 : Nat} {A13 : Nat} (h_1 : K a0 = (2, 21)) (h_3 : mr a0 3 = A2) (h_4 : K A2 = (18, 12)) (h_6 : mr A2 3 = A5) (h_8 : K A5 = (112, N7)) (h_9 : 0 ≤ x1) (h_10 : x1 < (N7 : Int)) (h_12 : Int.toNat x1 = j11) (h_14 : mr A5 j11 = A13) (k_15 : zCall c k_B_isTrue 38 41 [some (zR a0), some (zI x1)] [] 0 k_B_isSo [zR a0, zR A13] (n, K, mr, mi) Q) : zX c k_B_isTrue 28 [some (zR a0), some (zI x1)] [] (n, K, mr, mi) Q := by
  subst h_3
  subst h_6
  subst h_12
  subst h_14
  exact zX.n rfl (zX.n rfl (zX.g rfl h_1 (zX.g rfl h_4 (zX.n rfl (zX.g rfl ⟨N7, h_8, h_9, h_10⟩ (zX.callQ rfl (congrArg Prod.fst h_1) trivial k_15))))))
theorem s_B_isTrue_41 {w0 : Option zV} {w1 : Option zV} {sx0 : Int} (p_1 : sx0 = 0 → zX c k_B_isTrue 48 [w0, w1] [] (n, K, mr, mi) Q) (p_2 : ¬ sx0 = 0 → zX c k_B_isTrue 44 [w0, w1] [] (n, K, mr, mi) Q) : zX c k_B_isTrue 41 [w0, w1] [zI sx0] (n, K, mr, mi) Q := 
  zX.n rfl (zX.ite p_1 p_2)
theorem s_B_isTrue_44 {w0 : Option zV} {w1 : Option zV} (p_1 : zX c k_B_isTrue 57 [w0, w1] [zI 1] (n, K, mr, mi) Q) : zX c k_B_isTrue 44 [w0, w1] [] (n, K, mr, mi) Q := 
  zX.n rfl (zX.n rfl p_1)
theorem s_B_isTrue_48 {w0 : Option zV} {w1 : Option zV} (p_1 : zX c k_B_isTrue 57 [w0, w1] [zI 0] (n, K, mr, mi) Q) : zX c k_B_isTrue 48 [w0, w1] [] (n, K, mr, mi) Q := 
  zX.n rfl (zX.n rfl p_1)
theorem s_B_isTrue_52 {a0 : Nat} {w1 : Option zV} (h_1 : K a0 = (2, 21)) (k_2 : zCall c k_B_isTrue 54 57 [some (zR a0), w1] [] 0 k_B_no [zR a0, zI 1] (n, K, mr, mi) Q) : zX c k_B_isTrue 52 [some (zR a0), w1] [] (n, K, mr, mi) Q := 
  zX.n rfl (zX.n rfl (zX.callQ rfl (congrArg Prod.fst h_1) trivial k_2))
theorem s_B_isTrue_57 {w0 : Option zV} {w1 : Option zV} {sx0 : Int} (p_1 : Q (.inl (some (zI sx0))) (n, K, mr, mi)) : zX c k_B_isTrue 57 [w0, w1] [zI sx0] (n, K, mr, mi) Q := 
  zX.ret rfl trivial p_1
theorem s_B_wrongOnes_0 {a0 : Nat} {w1 : Option zV} {w2 : Option zV} (h_1 : K a0 = (2, 21)) (k_2 : zCall c k_B_wrongOnes 1 4 [some (zR a0), w1, w2] [] 0 k_B_anew [zR a0] (n, K, mr, mi) Q) : zX c k_B_wrongOnes 0 [some (zR a0), w1, w2] [] (n, K, mr, mi) Q := 
  zX.n rfl (zX.callQ rfl (congrArg Prod.fst h_1) trivial k_2)
theorem s_B_wrongOnes_4 {a0 : Nat} {w1 : Option zV} {w2 : Option zV} {A2 : Nat} (h_1 : K a0 = (2, 21)) (h_3 : mr a0 3 = A2) (h_4 : A2 = 0 ∨ (K A2).1 ≠ 0) (p_5 : ¬ A2 = 0 → zX c k_B_wrongOnes 17 [some (zR a0), w1, w2] [] (n, K, mr, mi) Q) (p_6 : A2 = 0 → zX c k_B_wrongOnes 11 [some (zR a0), w1, w2] [] (n, K, mr, mi) Q) : zX c k_B_wrongOnes 4 [some (zR a0), w1, w2] [] (n, K, mr, mi) Q := by
  subst h_3
  exact zX.n rfl (zX.g rfl h_1 (zX.g rfl h_4 (zX.itn p_5 p_6)))
theorem s_B_wrongOnes_11 {a0 : Nat} {w1 : Option zV} {w2 : Option zV} (h_1 : K a0 = (2, 21)) (k_2 : zCall c k_B_wrongOnes 13 16 [some (zR a0), w1, w2] [] 0 k_B_no [zR a0, zI 1] (n, K, mr, mi) Q) : zX c k_B_wrongOnes 11 [some (zR a0), w1, w2] [] (n, K, mr, mi) Q := 
  zX.n rfl (zX.n rfl (zX.callQ rfl (congrArg Prod.fst h_1) trivial k_2))
theorem s_B_wrongOnes_16 {w0 : Option zV} {w1 : Option zV} {w2 : Option zV} {sx0 : Int} (p_1 : Q (.inl (some (zI sx0))) (n, K, mr, mi)) : zX c k_B_wrongOnes 16 [w0, w1, w2] [zI sx0] (n, K, mr, mi) Q := 
  zX.ret rfl trivial p_1
theorem s_B_wrongOnes_17 {a0 : Nat} {w1 : Option zV} {w2 : Option zV} (p_1 : zX c k_B_wrongOnes 21 [some (zR a0), some (zI 0), some (zI 0)] [] (n, K, mr, mi) Q) : zX c k_B_wrongOnes 17 [some (zR a0), w1, w2] [] (n, K, mr, mi) Q := 
  zX.n rfl (zX.n rfl (zX.n rfl (zX.n rfl p_1)))
theorem s_B_wrongOnes_21 {a0 : Nat} {x1 : Int} {x2 : Int} {A2 : Nat} (h_1 : K a0 = (2, 21)) (h_3 : mr a0 3 = A2) (h_4 : K A2 = (18, 12)) (p_5 : (mi A2 11) ≤ x2 → zX c k_B_wrongOnes 75 [some (zR a0), some (zI x1), some (zI x2)] [] (n, K, mr, mi) Q) (p_6 : ¬ (mi A2 11) ≤ x2 → zX c k_B_wrongOnes 32 [some (zR a0), some (zI x1), some (zI x2)] [] (n, K, mr, mi) Q) : zX c k_B_wrongOnes 21 [some (zR a0), some (zI x1), some (zI x2)] [] (n, K, mr, mi) Q := by
  subst h_3
  exact zX.n rfl (zX.n rfl (zX.g rfl h_1 (zX.g rfl h_4 (zX.n rfl (zX.ite p_5 p_6)))))
theorem s_B_wrongOnes_32 {a0 : Nat} {x1 : Int} {x2 : Int} {A2 : Nat} {A5 : Nat} {N7 : Nat} {j11 : Nat} {A13 : Nat} (h_1 : K a0 = (2, 21)) (h_3 : mr a0 3 = A2) (h_4 : K A2 = (18, 12)) (h_6 : mr A2 3 = A5) (h_8 : K A5 = (112, N7)) (h_9 : 0 ≤ x2) (h_10 : x2 < (N7 : Int)) (h_12 : Int.toNat x2 = j11) (h_14 : mr A5 j11 = A13) (k_15 : zCall c k_B_wrongOnes 43 46 [some (zR a0), some (zI x1), some (zI x2)] [zI x1] 0 k_B_isSo [zR a0, zR A13] (n, K, mr, mi) Q) : zX c k_B_wrongOnes 32 [some (zR a0), some (zI x1), some (zI x2)] [] (n, K, mr, mi) Q := by
  subst h_3
  subst h_6
  subst h_12
  subst h_14
  exact zX.n rfl (zX.n rfl (zX.n rfl (zX.g rfl h_1 (zX.g rfl h_4 (zX.n rfl (zX.g rfl ⟨N7, h_8, h_9, h_10⟩ (zX.callQ rfl (congrArg Prod.fst h_1) trivial k_15)))))))
theorem s_B_wrongOnes_46 {a0 : Nat} {w1 : Option zV} {x2 : Int} {sx0 : Int} {sx1 : Int} (p_1 : sx1 = 0 → zX c k_B_wrongOnes 53 [some (zR a0), w1, some (zI x2)] [zI sx0] (n, K, mr, mi) Q) (p_2 : ¬ sx1 = 0 → zX c k_B_wrongOnes 49 [some (zR a0), w1, some (zI x2)] [zI sx0] (n, K, mr, mi) Q) : zX c k_B_wrongOnes 46 [some (zR a0), w1, some (zI x2)] [zI sx1, zI sx0] (n, K, mr, mi) Q := 
  zX.n rfl (zX.ite p_1 p_2)
theorem s_B_wrongOnes_49 {a0 : Nat} {w1 : Option zV} {x2 : Int} {sx0 : Int} (p_1 : zX c k_B_wrongOnes 67 [some (zR a0), w1, some (zI x2)] [zI 0, zI sx0] (n, K, mr, mi) Q) : zX c k_B_wrongOnes 49 [some (zR a0), w1, some (zI x2)] [zI sx0] (n, K, mr, mi) Q := 
  zX.n rfl (zX.n rfl p_1)
theorem s_B_wrongOnes_53 {a0 : Nat} {w1 : Option zV} {x2 : Int} {sx0 : Int} {A2 : Nat} {A5 : Nat} {N7 : Nat} {j11 : Nat} {A13 : Nat} (h_1 : K a0 = (2, 21)) (h_3 : mr a0 3 = A2) (h_4 : K A2 = (18, 12)) (h_6 : mr A2 3 = A5) (h_8 : K A5 = (112, N7)) (h_9 : 0 ≤ x2) (h_10 : x2 < (N7 : Int)) (h_12 : Int.toNat x2 = j11) (h_14 : mr A5 j11 = A13) (h_15 : K A13 = (21, 3)) (p_16 : zX c k_B_wrongOnes 67 [some (zR a0), w1, some (zI x2)] [zI (zshl 1 (mi A13 0)), zI sx0] (n, K, mr, mi) Q) : zX c k_B_wrongOnes 53 [some (zR a0), w1, some (zI x2)] [zI sx0] (n, K, mr, mi) Q := by
  subst h_3
  subst h_6
  subst h_12
  subst h_14
  exact zX.n rfl (zX.n rfl (zX.g rfl h_1 (zX.g rfl h_4 (zX.n rfl (zX.g rfl ⟨N7, h_8, h_9, h_10⟩ (zX.g rfl h_15 (zX.n rfl p_16)))))))
theorem s_B_wrongOnes_67 {a0 : Nat} {w1 : Option zV} {x2 : Int} {sx0 : Int} {sx1 : Int} (p_1 : zX c k_B_wrongOnes 21 [some (zR a0), some (zI (zor sx0 sx1)), some (zI (zw (x2 + 1)))] [] (n, K, mr, mi) Q) : zX c k_B_wrongOnes 67 [some (zR a0), w1, some (zI x2)] [zI sx1, zI sx0] (n, K, mr, mi) Q := 
  zX.n rfl (zX.n rfl (zX.n rfl (zX.n rfl p_1)))
theorem s_B_wrongOnes_75 {w0 : Option zV} {x1 : Int} {w2 : Option zV} (p_1 : Q (.inl (some (zI x1))) (n, K, mr, mi)) : zX c k_B_wrongOnes 75 [w0, some (zI x1), w2] [] (n, K, mr, mi) Q := 
  zX.n rfl (zX.ret rfl trivial p_1)
theorem s_B_has_0 {x0 : Int} {x1 : Int} (p_1 : ¬ (zand (zshr x0 x1) 1) = (1 : Int) → zX c k_B_has 13 [some (zI x0), some (zI x1)] [] (n, K, mr, mi) Q) (p_2 : (zand (zshr x0 x1) 1) = (1 : Int) → zX c k_B_has 9 [some (zI x0), some (zI x1)] [] (n, K, mr, mi) Q) : zX c k_B_has 0 [some (zI x0), some (zI x1)] [] (n, K, mr, mi) Q := 
  zX.n rfl (zX.n rfl (zX.n rfl (zX.n rfl (zX.n rfl (zX.n rfl (zX.n rfl (zX.itn p_1 p_2)))))))
theorem s_B_has_9 {w0 : Option zV} {w1 : Option zV} (p_1 : zX c k_B_has 14 [w0, w1] [zI 1] (n, K, mr, mi) Q) : zX c k_B_has 9 [w0, w1] [] (n, K, mr, mi) Q := 
  zX.n rfl (zX.n rfl p_1)
theorem s_B_has_13 {w0 : Option zV} {w1 : Option zV} (p_1 : zX c k_B_has 14 [w0, w1] [zI 0] (n, K, mr, mi) Q) : zX c k_B_has 13 [w0, w1] [] (n, K, mr, mi) Q := 
  zX.n rfl p_1
theorem s_B_has_14 {w0 : Option zV} {w1 : Option zV} {sx0 : Int} (h_1 : sx0 = 0 ∨ sx0 = 1) (p_2 : Q (.inl (some (zI sx0))) (n, K, mr, mi)) : zX c k_B_has 14 [w0, w1] [zI sx0] (n, K, mr, mi) Q := 
  zX.ret rfl h_1 p_2
theorem s_B_pairings_0 {a0 : Nat} {x1 : Int} {w2 : Option zV} (h_1 : K a0 = (2, 21)) (k_2 : zCall c k_B_pairings 1 4 [some (zR a0), some (zI x1), w2] [] 0 k_B_anew [zR a0] (n, K, mr, mi) Q) : zX c k_B_pairings 0 [some (zR a0), some (zI x1), w2] [] (n, K, mr, mi) Q := 
  zX.n rfl (zX.callQ rfl (congrArg Prod.fst h_1) trivial k_2)
theorem s_B_pairings_4 {a0 : Nat} {x1 : Int} {w2 : Option zV} {A2 : Nat} (h_1 : K a0 = (2, 21)) (h_3 : mr a0 3 = A2) (h_4 : A2 = 0 ∨ (K A2).1 ≠ 0) (p_5 : A2 = 0 → zX c k_B_pairings 16 [some (zR a0), some (zI x1), w2] [zR a0] (n, K, mr, mi) Q) (p_6 : ¬ A2 = 0 → zX c k_B_pairings 12 [some (zR a0), some (zI x1), w2] [zR a0] (n, K, mr, mi) Q) : zX c k_B_pairings 4 [some (zR a0), some (zI x1), w2] [] (n, K, mr, mi) Q := by
  subst h_3
  exact zX.n rfl (zX.n rfl (zX.g rfl h_1 (zX.g rfl h_4 (zX.ite p_5 p_6))))
theorem s_B_pairings_12 {a0 : Nat} {x1 : Int} {w2 : Option zV} {sa0 : Nat} (p_1 : zX c k_B_pairings 17 [some (zR a0), some (zI x1), w2] [zI 1, zR sa0] (n, K, mr, mi) Q) : zX c k_B_pairings 12 [some (zR a0), some (zI x1), w2] [zR sa0] (n, K, mr, mi) Q := 
  zX.n rfl (zX.n rfl p_1)
theorem s_B_pairings_16 {a0 : Nat} {x1 : Int} {w2 : Option zV} {sa0 : Nat} (p_1 : zX c k_B_pairings 17 [some (zR a0), some (zI x1), w2] [zI 0, zR sa0] (n, K, mr, mi) Q) : zX c k_B_pairings 16 [some (zR a0), some (zI x1), w2] [zR sa0] (n, K, mr, mi) Q := 
  zX.n rfl p_1
theorem s_B_pairings_17 {a0 : Nat} {x1 : Int} {w2 : Option zV} {sa0 : Nat} {sx1 : Int} (h_1 : K sa0 = (2, 21)) (k_2 : zCall c k_B_pairings 18 21 [some (zR a0), some (zI x1), w2] [] 0 k_B_dayWhy [zR sa0, zI sx1, zI x1] (n, K, mr, mi) Q) : zX c k_B_pairings 17 [some (zR a0), some (zI x1), w2] [zI sx1, zR sa0] (n, K, mr, mi) Q := 
  zX.n rfl (zX.callQ rfl (congrArg Prod.fst h_1) trivial k_2)
theorem s_B_pairings_21 {a0 : Nat} {x1 : Int} {w2 : Option zV} {sx0 : Int} (p_1 : sx0 = 0 → zX c k_B_pairings 32 [some (zR a0), some (zI x1), some (zI sx0)] [] (n, K, mr, mi) Q) (p_2 : ¬ sx0 = 0 → zX c k_B_pairings 26 [some (zR a0), some (zI x1), some (zI sx0)] [] (n, K, mr, mi) Q) : zX c k_B_pairings 21 [some (zR a0), some (zI x1), w2] [zI sx0] (n, K, mr, mi) Q := 
  zX.n rfl (zX.n rfl (zX.n rfl (zX.ite p_1 p_2)))
theorem s_B_pairings_26 {a0 : Nat} {w1 : Option zV} {x2 : Int} (h_1 : K a0 = (2, 21)) (k_2 : zCall c k_B_pairings 28 31 [some (zR a0), w1, some (zI x2)] [] 0 k_B_no [zR a0, zI x2] (n, K, mr, mi) Q) : zX c k_B_pairings 26 [some (zR a0), w1, some (zI x2)] [] (n, K, mr, mi) Q := 
  zX.n rfl (zX.n rfl (zX.callQ rfl (congrArg Prod.fst h_1) trivial k_2))
theorem s_B_pairings_31 {w0 : Option zV} {w1 : Option zV} {w2 : Option zV} {sx0 : Int} (p_1 : Q (.inl (some (zI sx0))) (n, K, mr, mi)) : zX c k_B_pairings 31 [w0, w1, w2] [zI sx0] (n, K, mr, mi) Q := 
  zX.ret rfl trivial p_1
theorem s_B_pairings_32 {a0 : Nat} {x1 : Int} {w2 : Option zV} {A2 : Nat} {A4 : Nat} {A6 : Nat} (h_1 : K a0 = (2, 21)) (h_3 : mr a0 14 = A2) (h_5 : mr a0 3 = A4) (h_7 : mr a0 12 = A6) (h_8 : K A2 = (15, 10)) (k_9 : zCall c k_B_pairings 46 49 [some (zR a0), some (zI x1), w2] [] 0 k_Pa_lay [zR A2, zR A4, zR A6, zI x1, zI 0] (n, K, mr, mi) Q) : zX c k_B_pairings 32 [some (zR a0), some (zI x1), w2] [] (n, K, mr, mi) Q := by
  subst h_3
  subst h_5
  subst h_7
  exact zX.n rfl (zX.g rfl h_1 (zX.n rfl (zX.g rfl h_1 (zX.n rfl (zX.g rfl h_1 (zX.n rfl (zX.n rfl (zX.callQ rfl (congrArg Prod.fst h_8) trivial k_9))))))))
theorem s_B_pairings_49 {a0 : Nat} {w1 : Option zV} {w2 : Option zV} {A2 : Nat} (h_1 : K a0 = (2, 21)) (h_3 : mr a0 14 = A2) (h_4 : K A2 = (15, 10)) (p_5 : Q (.inl (some (zI (mi A2 9)))) (n, K, mr, mi)) : zX c k_B_pairings 49 [some (zR a0), w1, w2] [] (n, K, mr, mi) Q := by
  subst h_3
  exact zX.n rfl (zX.g rfl h_1 (zX.g rfl h_4 (zX.ret rfl trivial p_5)))
theorem s_B_could_0 {a0 : Nat} {x1 : Int} {x2 : Int} {w3 : Option zV} (h_1 : K a0 = (2, 21)) (k_2 : zCall c k_B_could 1 4 [some (zR a0), some (zI x1), some (zI x2), w3] [] 0 k_B_anew [zR a0] (n, K, mr, mi) Q) : zX c k_B_could 0 [some (zR a0), some (zI x1), some (zI x2), w3] [] (n, K, mr, mi) Q := 
  zX.n rfl (zX.callQ rfl (congrArg Prod.fst h_1) trivial k_2)
theorem s_B_could_4 {a0 : Nat} {x1 : Int} {x2 : Int} {w3 : Option zV} (h_1 : K a0 = (2, 21)) (k_2 : zCall c k_B_could 7 10 [some (zR a0), some (zI x1), some (zI x2), w3] [zR a0] 0 k_B_isPerson [zR a0, zI x2] (n, K, mr, mi) Q) : zX c k_B_could 4 [some (zR a0), some (zI x1), some (zI x2), w3] [] (n, K, mr, mi) Q := 
  zX.n rfl (zX.n rfl (zX.n rfl (zX.callQ rfl (congrArg Prod.fst h_1) trivial k_2)))
theorem s_B_could_10 {a0 : Nat} {x1 : Int} {x2 : Int} {w3 : Option zV} {sa0 : Nat} {sx1 : Int} (h_1 : K sa0 = (2, 21)) (k_2 : zCall c k_B_could 11 14 [some (zR a0), some (zI x1), some (zI x2), w3] [] 0 k_B_dayWhy [zR sa0, zI sx1, zI x1] (n, K, mr, mi) Q) : zX c k_B_could 10 [some (zR a0), some (zI x1), some (zI x2), w3] [zI sx1, zR sa0] (n, K, mr, mi) Q := 
  zX.n rfl (zX.callQ rfl (congrArg Prod.fst h_1) trivial k_2)
theorem s_B_could_14 {a0 : Nat} {x1 : Int} {x2 : Int} {w3 : Option zV} {sx0 : Int} (p_1 : sx0 = 0 → zX c k_B_could 25 [some (zR a0), some (zI x1), some (zI x2), some (zI sx0)] [] (n, K, mr, mi) Q) (p_2 : ¬ sx0 = 0 → zX c k_B_could 19 [some (zR a0), some (zI x1), some (zI x2), some (zI sx0)] [] (n, K, mr, mi) Q) : zX c k_B_could 14 [some (zR a0), some (zI x1), some (zI x2), w3] [zI sx0] (n, K, mr, mi) Q := 
  zX.n rfl (zX.n rfl (zX.n rfl (zX.ite p_1 p_2)))
theorem s_B_could_19 {a0 : Nat} {w1 : Option zV} {w2 : Option zV} {x3 : Int} (h_1 : K a0 = (2, 21)) (k_2 : zCall c k_B_could 21 24 [some (zR a0), w1, w2, some (zI x3)] [] 0 k_B_no [zR a0, zI x3] (n, K, mr, mi) Q) : zX c k_B_could 19 [some (zR a0), w1, w2, some (zI x3)] [] (n, K, mr, mi) Q := 
  zX.n rfl (zX.n rfl (zX.callQ rfl (congrArg Prod.fst h_1) trivial k_2))
theorem s_B_could_24 {w0 : Option zV} {w1 : Option zV} {w2 : Option zV} {w3 : Option zV} {sx0 : Int} (p_1 : Q (.inl (some (zI sx0))) (n, K, mr, mi)) : zX c k_B_could 24 [w0, w1, w2, w3] [zI sx0] (n, K, mr, mi) Q := 
  zX.ret rfl trivial p_1
theorem s_B_could_25 {a0 : Nat} {x1 : Int} {x2 : Int} {w3 : Option zV} {A2 : Nat} {A4 : Nat} {A6 : Nat} (h_1 : K a0 = (2, 21)) (h_3 : mr a0 14 = A2) (h_5 : mr a0 3 = A4) (h_7 : mr a0 12 = A6) (h_8 : K A2 = (15, 10)) (k_9 : zCall c k_B_could 39 42 [some (zR a0), some (zI x1), some (zI x2), w3] [] 0 k_Pa_lay [zR A2, zR A4, zR A6, zI x1, zI 0] (n, K, mr, mi) Q) : zX c k_B_could 25 [some (zR a0), some (zI x1), some (zI x2), w3] [] (n, K, mr, mi) Q := by
  subst h_3
  subst h_5
  subst h_7
  exact zX.n rfl (zX.g rfl h_1 (zX.n rfl (zX.g rfl h_1 (zX.n rfl (zX.g rfl h_1 (zX.n rfl (zX.n rfl (zX.callQ rfl (congrArg Prod.fst h_8) trivial k_9))))))))
theorem s_B_could_42 {a0 : Nat} {w1 : Option zV} {x2 : Int} {w3 : Option zV} {A2 : Nat} (h_1 : K a0 = (2, 21)) (h_3 : mr a0 14 = A2) (h_4 : K A2 = (15, 10)) (k_5 : zCall c k_B_could 47 50 [some (zR a0), w1, some (zI x2), w3] [] 0 k_Pa_could [zR A2, zI x2] (n, K, mr, mi) Q) : zX c k_B_could 42 [some (zR a0), w1, some (zI x2), w3] [] (n, K, mr, mi) Q := by
  subst h_3
  exact zX.n rfl (zX.g rfl h_1 (zX.n rfl (zX.callQ rfl (congrArg Prod.fst h_4) trivial k_5)))
theorem s_B_could_50 {w0 : Option zV} {w1 : Option zV} {w2 : Option zV} {w3 : Option zV} {sx0 : Int} (p_1 : Q (.inl (some (zI sx0))) (n, K, mr, mi)) : zX c k_B_could 50 [w0, w1, w2, w3] [zI sx0] (n, K, mr, mi) Q := 
  zX.ret rfl trivial p_1
theorem s_B_surely_0 {a0 : Nat} {x1 : Int} {x2 : Int} {w3 : Option zV} (h_1 : K a0 = (2, 21)) (k_2 : zCall c k_B_surely 1 4 [some (zR a0), some (zI x1), some (zI x2), w3] [] 0 k_B_anew [zR a0] (n, K, mr, mi) Q) : zX c k_B_surely 0 [some (zR a0), some (zI x1), some (zI x2), w3] [] (n, K, mr, mi) Q := 
  zX.n rfl (zX.callQ rfl (congrArg Prod.fst h_1) trivial k_2)
theorem s_B_surely_4 {a0 : Nat} {x1 : Int} {x2 : Int} {w3 : Option zV} (h_1 : K a0 = (2, 21)) (k_2 : zCall c k_B_surely 7 10 [some (zR a0), some (zI x1), some (zI x2), w3] [zR a0] 0 k_B_isPlace [zR a0, zI x2] (n, K, mr, mi) Q) : zX c k_B_surely 4 [some (zR a0), some (zI x1), some (zI x2), w3] [] (n, K, mr, mi) Q := 
  zX.n rfl (zX.n rfl (zX.n rfl (zX.callQ rfl (congrArg Prod.fst h_1) trivial k_2)))
theorem s_B_surely_10 {a0 : Nat} {x1 : Int} {x2 : Int} {w3 : Option zV} {sa0 : Nat} {sx1 : Int} (h_1 : K sa0 = (2, 21)) (k_2 : zCall c k_B_surely 11 14 [some (zR a0), some (zI x1), some (zI x2), w3] [] 0 k_B_dayWhy [zR sa0, zI sx1, zI x1] (n, K, mr, mi) Q) : zX c k_B_surely 10 [some (zR a0), some (zI x1), some (zI x2), w3] [zI sx1, zR sa0] (n, K, mr, mi) Q := 
  zX.n rfl (zX.callQ rfl (congrArg Prod.fst h_1) trivial k_2)
theorem s_B_surely_14 {a0 : Nat} {x1 : Int} {x2 : Int} {w3 : Option zV} {sx0 : Int} (p_1 : sx0 = 0 → zX c k_B_surely 25 [some (zR a0), some (zI x1), some (zI x2), some (zI sx0)] [] (n, K, mr, mi) Q) (p_2 : ¬ sx0 = 0 → zX c k_B_surely 19 [some (zR a0), some (zI x1), some (zI x2), some (zI sx0)] [] (n, K, mr, mi) Q) : zX c k_B_surely 14 [some (zR a0), some (zI x1), some (zI x2), w3] [zI sx0] (n, K, mr, mi) Q := 
  zX.n rfl (zX.n rfl (zX.n rfl (zX.ite p_1 p_2)))
theorem s_B_surely_19 {a0 : Nat} {w1 : Option zV} {w2 : Option zV} {x3 : Int} (h_1 : K a0 = (2, 21)) (k_2 : zCall c k_B_surely 21 24 [some (zR a0), w1, w2, some (zI x3)] [] 0 k_B_no [zR a0, zI x3] (n, K, mr, mi) Q) : zX c k_B_surely 19 [some (zR a0), w1, w2, some (zI x3)] [] (n, K, mr, mi) Q := 
  zX.n rfl (zX.n rfl (zX.callQ rfl (congrArg Prod.fst h_1) trivial k_2))
theorem s_B_surely_24 {w0 : Option zV} {w1 : Option zV} {w2 : Option zV} {w3 : Option zV} {sx0 : Int} (p_1 : Q (.inl (some (zI sx0))) (n, K, mr, mi)) : zX c k_B_surely 24 [w0, w1, w2, w3] [zI sx0] (n, K, mr, mi) Q := 
  zX.ret rfl trivial p_1
theorem s_B_surely_25 {a0 : Nat} {x1 : Int} {x2 : Int} {w3 : Option zV} {A2 : Nat} {A4 : Nat} {A6 : Nat} (h_1 : K a0 = (2, 21)) (h_3 : mr a0 14 = A2) (h_5 : mr a0 3 = A4) (h_7 : mr a0 12 = A6) (h_8 : K A2 = (15, 10)) (k_9 : zCall c k_B_surely 39 42 [some (zR a0), some (zI x1), some (zI x2), w3] [] 0 k_Pa_lay [zR A2, zR A4, zR A6, zI x1, zI 0] (n, K, mr, mi) Q) : zX c k_B_surely 25 [some (zR a0), some (zI x1), some (zI x2), w3] [] (n, K, mr, mi) Q := by
  subst h_3
  subst h_5
  subst h_7
  exact zX.n rfl (zX.g rfl h_1 (zX.n rfl (zX.g rfl h_1 (zX.n rfl (zX.g rfl h_1 (zX.n rfl (zX.n rfl (zX.callQ rfl (congrArg Prod.fst h_8) trivial k_9))))))))
theorem s_B_surely_42 {a0 : Nat} {w1 : Option zV} {x2 : Int} {w3 : Option zV} {A2 : Nat} (h_1 : K a0 = (2, 21)) (h_3 : mr a0 14 = A2) (h_4 : K A2 = (15, 10)) (k_5 : zCall c k_B_surely 47 50 [some (zR a0), w1, some (zI x2), w3] [] 0 k_Pa_surely [zR A2, zI x2] (n, K, mr, mi) Q) : zX c k_B_surely 42 [some (zR a0), w1, some (zI x2), w3] [] (n, K, mr, mi) Q := by
  subst h_3
  exact zX.n rfl (zX.g rfl h_1 (zX.n rfl (zX.callQ rfl (congrArg Prod.fst h_4) trivial k_5)))
theorem s_B_surely_50 {w0 : Option zV} {w1 : Option zV} {w2 : Option zV} {w3 : Option zV} {sx0 : Int} (p_1 : Q (.inl (some (zI sx0))) (n, K, mr, mi)) : zX c k_B_surely 50 [w0, w1, w2, w3] [zI sx0] (n, K, mr, mi) Q := 
  zX.ret rfl trivial p_1
theorem s_B_ask_0 {a0 : Nat} {x1 : Int} {w2 : Option zV} {w3 : Option zV} {w4 : Option zV} {w5 : Option zV} (h_1 : K a0 = (2, 21)) (k_2 : zCall c k_B_ask 1 4 [some (zR a0), some (zI x1), w2, w3, w4, w5] [] 0 k_B_anew [zR a0] (n, K, mr, mi) Q) : zX c k_B_ask 0 [some (zR a0), some (zI x1), w2, w3, w4, w5] [] (n, K, mr, mi) Q := 
  zX.n rfl (zX.callQ rfl (congrArg Prod.fst h_1) trivial k_2)
theorem s_B_ask_4 {a0 : Nat} {x1 : Int} {w2 : Option zV} {w3 : Option zV} {w4 : Option zV} {w5 : Option zV} {A2 : Nat} (h_1 : K a0 = (2, 21)) (h_3 : mr a0 3 = A2) (h_4 : A2 = 0 ∨ (K A2).1 ≠ 0) (p_5 : A2 = 0 → zX c k_B_ask 16 [some (zR a0), some (zI x1), w2, w3, w4, w5] [zR a0] (n, K, mr, mi) Q) (p_6 : ¬ A2 = 0 → zX c k_B_ask 12 [some (zR a0), some (zI x1), w2, w3, w4, w5] [zR a0] (n, K, mr, mi) Q) : zX c k_B_ask 4 [some (zR a0), some (zI x1), w2, w3, w4, w5] [] (n, K, mr, mi) Q := by
  subst h_3
  exact zX.n rfl (zX.n rfl (zX.g rfl h_1 (zX.g rfl h_4 (zX.ite p_5 p_6))))
theorem s_B_ask_12 {a0 : Nat} {x1 : Int} {w2 : Option zV} {w3 : Option zV} {w4 : Option zV} {w5 : Option zV} {sa0 : Nat} (p_1 : zX c k_B_ask 17 [some (zR a0), some (zI x1), w2, w3, w4, w5] [zI 1, zR sa0] (n, K, mr, mi) Q) : zX c k_B_ask 12 [some (zR a0), some (zI x1), w2, w3, w4, w5] [zR sa0] (n, K, mr, mi) Q := 
  zX.n rfl (zX.n rfl p_1)
theorem s_B_ask_16 {a0 : Nat} {x1 : Int} {w2 : Option zV} {w3 : Option zV} {w4 : Option zV} {w5 : Option zV} {sa0 : Nat} (p_1 : zX c k_B_ask 17 [some (zR a0), some (zI x1), w2, w3, w4, w5] [zI 0, zR sa0] (n, K, mr, mi) Q) : zX c k_B_ask 16 [some (zR a0), some (zI x1), w2, w3, w4, w5] [zR sa0] (n, K, mr, mi) Q := 
  zX.n rfl p_1
theorem s_B_ask_17 {a0 : Nat} {x1 : Int} {w2 : Option zV} {w3 : Option zV} {w4 : Option zV} {w5 : Option zV} {sa0 : Nat} {sx1 : Int} (h_1 : K sa0 = (2, 21)) (k_2 : zCall c k_B_ask 18 21 [some (zR a0), some (zI x1), w2, w3, w4, w5] [] 0 k_B_dayWhy [zR sa0, zI sx1, zI x1] (n, K, mr, mi) Q) : zX c k_B_ask 17 [some (zR a0), some (zI x1), w2, w3, w4, w5] [zI sx1, zR sa0] (n, K, mr, mi) Q := 
  zX.n rfl (zX.callQ rfl (congrArg Prod.fst h_1) trivial k_2)
theorem s_B_ask_21 {a0 : Nat} {x1 : Int} {w2 : Option zV} {w3 : Option zV} {w4 : Option zV} {w5 : Option zV} {sx0 : Int} (p_1 : sx0 = 0 → zX c k_B_ask 32 [some (zR a0), some (zI x1), some (zI sx0), w3, w4, w5] [] (n, K, mr, mi) Q) (p_2 : ¬ sx0 = 0 → zX c k_B_ask 26 [some (zR a0), some (zI x1), some (zI sx0), w3, w4, w5] [] (n, K, mr, mi) Q) : zX c k_B_ask 21 [some (zR a0), some (zI x1), w2, w3, w4, w5] [zI sx0] (n, K, mr, mi) Q := 
  zX.n rfl (zX.n rfl (zX.n rfl (zX.ite p_1 p_2)))
theorem s_B_ask_26 {a0 : Nat} {w1 : Option zV} {x2 : Int} {w3 : Option zV} {w4 : Option zV} {w5 : Option zV} (h_1 : K a0 = (2, 21)) (k_2 : zCall c k_B_ask 28 31 [some (zR a0), w1, some (zI x2), w3, w4, w5] [] 0 k_B_no [zR a0, zI x2] (n, K, mr, mi) Q) : zX c k_B_ask 26 [some (zR a0), w1, some (zI x2), w3, w4, w5] [] (n, K, mr, mi) Q := 
  zX.n rfl (zX.n rfl (zX.callQ rfl (congrArg Prod.fst h_1) trivial k_2))
theorem s_B_ask_31 {w0 : Option zV} {w1 : Option zV} {w2 : Option zV} {w3 : Option zV} {w4 : Option zV} {w5 : Option zV} {sx0 : Int} (p_1 : Q (.inl (some (zI sx0))) (n, K, mr, mi)) : zX c k_B_ask 31 [w0, w1, w2, w3, w4, w5] [zI sx0] (n, K, mr, mi) Q := 
  zX.ret rfl trivial p_1
theorem s_B_ask_32 {a0 : Nat} {x1 : Int} {w2 : Option zV} {w3 : Option zV} {w4 : Option zV} {w5 : Option zV} {A2 : Nat} {A4 : Nat} {A6 : Nat} (h_1 : K a0 = (2, 21)) (h_3 : mr a0 14 = A2) (h_5 : mr a0 3 = A4) (h_7 : mr a0 12 = A6) (h_8 : K A2 = (15, 10)) (k_9 : zCall c k_B_ask 46 49 [some (zR a0), some (zI x1), w2, w3, w4, w5] [] 0 k_Pa_lay [zR A2, zR A4, zR A6, zI x1, zI 0] (n, K, mr, mi) Q) : zX c k_B_ask 32 [some (zR a0), some (zI x1), w2, w3, w4, w5] [] (n, K, mr, mi) Q := by
  subst h_3
  subst h_5
  subst h_7
  exact zX.n rfl (zX.g rfl h_1 (zX.n rfl (zX.g rfl h_1 (zX.n rfl (zX.g rfl h_1 (zX.n rfl (zX.n rfl (zX.callQ rfl (congrArg Prod.fst h_8) trivial k_9))))))))
theorem s_B_ask_49 {a0 : Nat} {x1 : Int} {w2 : Option zV} {w3 : Option zV} {w4 : Option zV} {w5 : Option zV} {A2 : Nat} (h_1 : K a0 = (2, 21)) (h_3 : mr a0 14 = A2) (h_4 : K A2 = (15, 10)) (k_5 : zCall c k_B_ask 53 56 [some (zR a0), some (zI x1), w2, w3, w4, w5] [] 0 k_Pa_all [zR A2] (n, K, mr, mi) Q) : zX c k_B_ask 49 [some (zR a0), some (zI x1), w2, w3, w4, w5] [] (n, K, mr, mi) Q := by
  subst h_3
  exact zX.n rfl (zX.g rfl h_1 (zX.callQ rfl (congrArg Prod.fst h_4) trivial k_5))
theorem s_B_ask_56 {a0 : Nat} {x1 : Int} {w2 : Option zV} {w3 : Option zV} {w4 : Option zV} {w5 : Option zV} {sx0 : Int} (p_1 : zX c k_B_ask 63 [some (zR a0), some (zI x1), (zkill w2), some (zI sx0), some (zI sx0), some (zI 0)] [] (n, K, mr, mi) Q) : zX c k_B_ask 56 [some (zR a0), some (zI x1), w2, w3, w4, w5] [zI sx0] (n, K, mr, mi) Q := 
  zX.n rfl (zX.n rfl (zX.n rfl (zX.n rfl (zX.n rfl p_1))))
theorem s_B_ask_63 {a0 : Nat} {x1 : Int} {w2 : Option zV} {x3 : Int} {x4 : Int} {x5 : Int} (p_1 : x3 < x5 → zX c k_B_ask 133 [some (zR a0), some (zI x1), w2, some (zI x3), some (zI x4), some (zI x5)] [] (n, K, mr, mi) Q) (p_2 : ¬ x3 < x5 → zX c k_B_ask 69 [some (zR a0), some (zI x1), w2, some (zI x3), some (zI x4), some (zI x5)] [] (n, K, mr, mi) Q) : zX c k_B_ask 63 [some (zR a0), some (zI x1), w2, some (zI x3), some (zI x4), some (zI x5)] [] (n, K, mr, mi) Q := 
  zX.n rfl (zX.n rfl (zX.n rfl (zX.ite p_1 p_2)))
theorem s_B_ask_69 {a0 : Nat} {x1 : Int} {w2 : Option zV} {x3 : Int} {x4 : Int} {x5 : Int} (p_1 : ¬ (zand x5 (zxor x3 ((-1)))) = 0 → zX c k_B_ask 127 [some (zR a0), some (zI x1), w2, some (zI x3), some (zI x4), some (zI x5)] [] (n, K, mr, mi) Q) (p_2 : (zand x5 (zxor x3 ((-1)))) = 0 → zX c k_B_ask 78 [some (zR a0), some (zI x1), w2, some (zI x3), some (zI x4), some (zI x5)] [] (n, K, mr, mi) Q) : zX c k_B_ask 69 [some (zR a0), some (zI x1), w2, some (zI x3), some (zI x4), some (zI x5)] [] (n, K, mr, mi) Q := 
  zX.n rfl (zX.n rfl (zX.n rfl (zX.n rfl (zX.n rfl (zX.n rfl (zX.itn p_1 p_2))))))
theorem s_B_ask_78 {a0 : Nat} {x1 : Int} {w2 : Option zV} {x3 : Int} {x4 : Int} {x5 : Int} (k_1 : zCall c k_B_ask 80 83 [some (zR a0), some (zI x1), w2, some (zI x3), some (zI x4), some (zI x5)] [] 0 k_B_ones [zI x5] (n, K, mr, mi) Q) : zX c k_B_ask 78 [some (zR a0), some (zI x1), w2, some (zI x3), some (zI x4), some (zI x5)] [] (n, K, mr, mi) Q := 
  zX.n rfl (zX.callQ rfl trivial trivial k_1)
theorem s_B_ask_83 {a0 : Nat} {x1 : Int} {w2 : Option zV} {x3 : Int} {x4 : Int} {x5 : Int} {sx0 : Int} (k_1 : zCall c k_B_ask 85 88 [some (zR a0), some (zI x1), w2, some (zI x3), some (zI x4), some (zI x5)] [zI sx0] 0 k_B_ones [zI x4] (n, K, mr, mi) Q) : zX c k_B_ask 83 [some (zR a0), some (zI x1), w2, some (zI x3), some (zI x4), some (zI x5)] [zI sx0] (n, K, mr, mi) Q := 
  zX.n rfl (zX.callQ rfl trivial trivial k_1)
theorem s_B_ask_88 {a0 : Nat} {x1 : Int} {w2 : Option zV} {x3 : Int} {x4 : Int} {x5 : Int} {sx0 : Int} {sx1 : Int} (p_1 : sx0 < sx1 → zX c k_B_ask 94 [some (zR a0), some (zI x1), w2, some (zI x3), some (zI x4), some (zI x5)] [] (n, K, mr, mi) Q) (p_2 : ¬ sx0 < sx1 → zX c k_B_ask 91 [some (zR a0), some (zI x1), w2, some (zI x3), some (zI x4), some (zI x5)] [] (n, K, mr, mi) Q) : zX c k_B_ask 88 [some (zR a0), some (zI x1), w2, some (zI x3), some (zI x4), some (zI x5)] [zI sx1, zI sx0] (n, K, mr, mi) Q := 
  zX.n rfl (zX.ite p_1 p_2)
theorem s_B_ask_91 {a0 : Nat} {x1 : Int} {w2 : Option zV} {x3 : Int} {x4 : Int} {x5 : Int} (p_1 : zX c k_B_ask 127 [some (zR a0), some (zI x1), w2, some (zI x3), some (zI x4), some (zI x5)] [] (n, K, mr, mi) Q) : zX c k_B_ask 91 [some (zR a0), some (zI x1), w2, some (zI x3), some (zI x4), some (zI x5)] [] (n, K, mr, mi) Q := 
  zX.n rfl p_1
theorem s_B_ask_94 {a0 : Nat} {x1 : Int} {w2 : Option zV} {x3 : Int} {x4 : Int} {x5 : Int} {A2 : Nat} {A4 : Nat} {A6 : Nat} (h_1 : K a0 = (2, 21)) (h_3 : mr a0 14 = A2) (h_5 : mr a0 3 = A4) (h_7 : mr a0 12 = A6) (h_8 : K A2 = (15, 10)) (k_9 : zCall c k_B_ask 109 112 [some (zR a0), some (zI x1), w2, some (zI x3), some (zI x4), some (zI x5)] [] 0 k_Pa_lay [zR A2, zR A4, zR A6, zI x1, zI x5] (n, K, mr, mi) Q) : zX c k_B_ask 94 [some (zR a0), some (zI x1), w2, some (zI x3), some (zI x4), some (zI x5)] [] (n, K, mr, mi) Q := by
  subst h_3
  subst h_5
  subst h_7
  exact zX.n rfl (zX.g rfl h_1 (zX.n rfl (zX.g rfl h_1 (zX.n rfl (zX.g rfl h_1 (zX.n rfl (zX.n rfl (zX.callQ rfl (congrArg Prod.fst h_8) trivial k_9))))))))
theorem s_B_ask_112 {a0 : Nat} {x1 : Int} {w2 : Option zV} {x3 : Int} {x4 : Int} {x5 : Int} {A2 : Nat} (h_1 : K a0 = (2, 21)) (h_3 : mr a0 14 = A2) (h_4 : K A2 = (15, 10)) (p_5 : ¬ (mi A2 9) = (1 : Int) → zX c k_B_ask 127 [some (zR a0), some (zI x1), w2, some (zI x3), some (zI x4), some (zI x5)] [] (n, K, mr, mi) Q) (p_6 : (mi A2 9) = (1 : Int) → zX c k_B_ask 123 [some (zR a0), some (zI x1), w2, some (zI x3), some (zI x4), some (zI x5)] [] (n, K, mr, mi) Q) : zX c k_B_ask 112 [some (zR a0), some (zI x1), w2, some (zI x3), some (zI x4), some (zI x5)] [] (n, K, mr, mi) Q := by
  subst h_3
  exact zX.n rfl (zX.g rfl h_1 (zX.g rfl h_4 (zX.n rfl (zX.n rfl (zX.itn p_5 p_6)))))
theorem s_B_ask_123 {a0 : Nat} {x1 : Int} {w2 : Option zV} {x3 : Int} {w4 : Option zV} {x5 : Int} (p_1 : zX c k_B_ask 127 [some (zR a0), some (zI x1), w2, some (zI x3), some (zI x5), some (zI x5)] [] (n, K, mr, mi) Q) : zX c k_B_ask 123 [some (zR a0), some (zI x1), w2, some (zI x3), w4, some (zI x5)] [] (n, K, mr, mi) Q := 
  zX.n rfl (zX.n rfl p_1)
theorem s_B_ask_127 {a0 : Nat} {x1 : Int} {w2 : Option zV} {x3 : Int} {x4 : Int} {x5 : Int} (p_1 : zX c k_B_ask 63 [some (zR a0), some (zI x1), w2, some (zI x3), some (zI x4), some (zI (zw (x5 + 1)))] [] (n, K, mr, mi) Q) : zX c k_B_ask 127 [some (zR a0), some (zI x1), w2, some (zI x3), some (zI x4), some (zI x5)] [] (n, K, mr, mi) Q := 
  zX.n rfl (zX.n rfl p_1)
theorem s_B_ask_133 {w0 : Option zV} {w1 : Option zV} {w2 : Option zV} {w3 : Option zV} {x4 : Int} {w5 : Option zV} (p_1 : Q (.inl (some (zI x4))) (n, K, mr, mi)) : zX c k_B_ask 133 [w0, w1, w2, w3, some (zI x4), w5] [] (n, K, mr, mi) Q := 
  zX.n rfl (zX.ret rfl trivial p_1)
theorem s_B_drifted_0 {a0 : Nat} {x1 : Int} {x2 : Int} {y3 : Int} {w4 : Option zV} {w5 : Option zV} {w6 : Option zV} {w7 : Option zV} (p_1 : zX c k_B_drifted 3 [some (zR a0), some (zI x1), some (zI x2), some (zL y3), (zkill w4), some (zI 0), w6, w7] [] (n, K, mr, mi) Q) : zX c k_B_drifted 0 [some (zR a0), some (zI x1), some (zI x2), some (zL y3), w4, w5, w6, w7] [] (n, K, mr, mi) Q := 
  zX.n rfl (zX.n rfl p_1)
theorem s_B_drifted_3 {a0 : Nat} {x1 : Int} {x2 : Int} {y3 : Int} {w4 : Option zV} {x5 : Int} {w6 : Option zV} {w7 : Option zV} (p_1 : (8 : Int) ≤ x5 → zX c k_B_drifted 34 [some (zR a0), some (zI x1), some (zI x2), some (zL y3), w4, some (zI x5), w6, w7] [] (n, K, mr, mi) Q) (p_2 : ¬ (8 : Int) ≤ x5 → zX c k_B_drifted 10 [some (zR a0), some (zI x1), some (zI x2), some (zL y3), w4, some (zI x5), w6, w7] [] (n, K, mr, mi) Q) : zX c k_B_drifted 3 [some (zR a0), some (zI x1), some (zI x2), some (zL y3), w4, some (zI x5), w6, w7] [] (n, K, mr, mi) Q := 
  zX.n rfl (zX.n rfl (zX.n rfl (zX.ite p_1 p_2)))
theorem s_B_drifted_10 {a0 : Nat} {x1 : Int} {x2 : Int} {y3 : Int} {w4 : Option zV} {x5 : Int} {w6 : Option zV} {w7 : Option zV} {A2 : Nat} (h_1 : K a0 = (2, 21)) (h_3 : mr a0 19 = A2) (p_4 : ¬ x5 = x1 → zX c k_B_drifted 26 [some (zR a0), some (zI x1), some (zI x2), some (zL y3), w4, some (zI x5), w6, w7] [zI x5, zR A2] (n, K, mr, mi) Q) (p_5 : x5 = x1 → zX c k_B_drifted 22 [some (zR a0), some (zI x1), some (zI x2), some (zL y3), w4, some (zI x5), w6, w7] [zI x5, zR A2] (n, K, mr, mi) Q) : zX c k_B_drifted 10 [some (zR a0), some (zI x1), some (zI x2), some (zL y3), w4, some (zI x5), w6, w7] [] (n, K, mr, mi) Q := by
  subst h_3
  exact zX.n rfl (zX.g rfl h_1 (zX.n rfl (zX.n rfl (zX.n rfl (zX.n rfl (zX.itn p_4 p_5))))))
theorem s_B_drifted_22 {a0 : Nat} {x1 : Int} {x2 : Int} {y3 : Int} {w4 : Option zV} {x5 : Int} {w6 : Option zV} {w7 : Option zV} {sa0 : Nat} {sx1 : Int} (p_1 : zX c k_B_drifted 27 [some (zR a0), some (zI x1), some (zI x2), some (zL y3), w4, some (zI x5), w6, w7] [zL 1, zI sx1, zR sa0] (n, K, mr, mi) Q) : zX c k_B_drifted 22 [some (zR a0), some (zI x1), some (zI x2), some (zL y3), w4, some (zI x5), w6, w7] [zI sx1, zR sa0] (n, K, mr, mi) Q := 
  zX.n rfl (zX.n rfl p_1)
theorem s_B_drifted_26 {a0 : Nat} {x1 : Int} {x2 : Int} {y3 : Int} {w4 : Option zV} {x5 : Int} {w6 : Option zV} {w7 : Option zV} {sa0 : Nat} {sx1 : Int} (p_1 : zX c k_B_drifted 27 [some (zR a0), some (zI x1), some (zI x2), some (zL y3), w4, some (zI x5), w6, w7] [zL 0, zI sx1, zR sa0] (n, K, mr, mi) Q) : zX c k_B_drifted 26 [some (zR a0), some (zI x1), some (zI x2), some (zL y3), w4, some (zI x5), w6, w7] [zI sx1, zR sa0] (n, K, mr, mi) Q := 
  zX.n rfl p_1
theorem s_B_drifted_27 {a0 : Nat} {x1 : Int} {x2 : Int} {y3 : Int} {w4 : Option zV} {x5 : Int} {w6 : Option zV} {w7 : Option zV} {sa0 : Nat} {sx1 : Int} {sy2 : Int} {N1 : Nat} {j5 : Nat} (h_2 : K sa0 = (104, N1)) (h_3 : 0 ≤ sx1) (h_4 : sx1 < (N1 : Int)) (h_6 : Int.toNat sx1 = j5) (h_7 : 64 ≤ sa0) (p_8 : zX c k_B_drifted 3 [some (zR a0), some (zI x1), some (zI x2), some (zL y3), (zkill w4), some (zI (zw (x5 + 1))), w6, w7] [] (n, K, mr, zst mi sa0 j5 sy2) Q) : zX c k_B_drifted 27 [some (zR a0), some (zI x1), some (zI x2), some (zL y3), w4, some (zI x5), w6, w7] [zL sy2, zI sx1, zR sa0] (n, K, mr, mi) Q := by
  subst h_6
  exact zX.g rfl ⟨N1, h_7, h_2, h_3, h_4⟩ (zX.n rfl (zX.n rfl p_8))
theorem s_B_drifted_34 {a0 : Nat} {x1 : Int} {x2 : Int} {y3 : Int} {w4 : Option zV} {w5 : Option zV} {w6 : Option zV} {w7 : Option zV} (p_1 : zX c k_B_drifted 37 [some (zR a0), some (zI x1), some (zI x2), some (zL y3), (zkill w4), some (zI 0), w6, w7] [] (n, K, mr, mi) Q) : zX c k_B_drifted 34 [some (zR a0), some (zI x1), some (zI x2), some (zL y3), w4, w5, w6, w7] [] (n, K, mr, mi) Q := 
  zX.n rfl (zX.n rfl p_1)
theorem s_B_drifted_37 {a0 : Nat} {x1 : Int} {x2 : Int} {y3 : Int} {w4 : Option zV} {x5 : Int} {w6 : Option zV} {w7 : Option zV} (p_1 : x2 ≤ x5 → zX c k_B_drifted 226 [some (zR a0), some (zI x1), some (zI x2), some (zL y3), w4, some (zI x5), w6, w7] [] (n, K, mr, mi) Q) (p_2 : ¬ x2 ≤ x5 → zX c k_B_drifted 43 [some (zR a0), some (zI x1), some (zI x2), some (zL y3), w4, some (zI x5), w6, w7] [] (n, K, mr, mi) Q) : zX c k_B_drifted 37 [some (zR a0), some (zI x1), some (zI x2), some (zL y3), w4, some (zI x5), w6, w7] [] (n, K, mr, mi) Q := 
  zX.n rfl (zX.n rfl (zX.n rfl (zX.ite p_1 p_2)))
theorem s_B_drifted_43 {a0 : Nat} {x1 : Int} {x2 : Int} {y3 : Int} {w4 : Option zV} {x5 : Int} {w6 : Option zV} {w7 : Option zV} (p_1 : zX c k_B_drifted 46 [some (zR a0), some (zI x1), some (zI x2), some (zL y3), w4, some (zI x5), some (zI 0), w7] [] (n, K, mr, mi) Q) : zX c k_B_drifted 43 [some (zR a0), some (zI x1), some (zI x2), some (zL y3), w4, some (zI x5), w6, w7] [] (n, K, mr, mi) Q := 
  zX.n rfl (zX.n rfl p_1)
theorem s_B_drifted_46 {a0 : Nat} {x1 : Int} {x2 : Int} {y3 : Int} {w4 : Option zV} {x5 : Int} {x6 : Int} {w7 : Option zV} {A2 : Nat} (h_1 : K a0 = (2, 21)) (h_3 : mr a0 3 = A2) (h_4 : K A2 = (18, 12)) (p_5 : (mi A2 5) ≤ x6 → zX c k_B_drifted 200 [some (zR a0), some (zI x1), some (zI x2), some (zL y3), w4, some (zI x5), some (zI x6), w7] [] (n, K, mr, mi) Q) (p_6 : ¬ (mi A2 5) ≤ x6 → zX c k_B_drifted 58 [some (zR a0), some (zI x1), some (zI x2), some (zL y3), w4, some (zI x5), some (zI x6), w7] [] (n, K, mr, mi) Q) : zX c k_B_drifted 46 [some (zR a0), some (zI x1), some (zI x2), some (zL y3), w4, some (zI x5), some (zI x6), w7] [] (n, K, mr, mi) Q := by
  subst h_3
  exact zX.n rfl (zX.n rfl (zX.g rfl h_1 (zX.g rfl h_4 (zX.n rfl (zX.ite p_5 p_6)))))
theorem s_B_drifted_58 {a0 : Nat} {x1 : Int} {x2 : Int} {y3 : Int} {w4 : Option zV} {x5 : Int} {x6 : Int} {w7 : Option zV} (p_1 : x6 ≤ 0 → zX c k_B_drifted 67 [some (zR a0), some (zI x1), some (zI x2), some (zL y3), w4, some (zI x5), some (zI x6), w7] [] (n, K, mr, mi) Q) (p_2 : ¬ x6 ≤ 0 → zX c k_B_drifted 63 [some (zR a0), some (zI x1), some (zI x2), some (zL y3), w4, some (zI x5), some (zI x6), w7] [] (n, K, mr, mi) Q) : zX c k_B_drifted 58 [some (zR a0), some (zI x1), some (zI x2), some (zL y3), w4, some (zI x5), some (zI x6), w7] [] (n, K, mr, mi) Q := 
  zX.n rfl (zX.n rfl (zX.ite p_1 p_2))
theorem s_B_drifted_63 {a0 : Nat} {x1 : Int} {x2 : Int} {y3 : Int} {w4 : Option zV} {x5 : Int} {x6 : Int} {w7 : Option zV} (p_1 : zX c k_B_drifted 68 [some (zR a0), some (zI x1), some (zI x2), some (zL y3), w4, some (zI x5), some (zI x6), w7] [zI 1] (n, K, mr, mi) Q) : zX c k_B_drifted 63 [some (zR a0), some (zI x1), some (zI x2), some (zL y3), w4, some (zI x5), some (zI x6), w7] [] (n, K, mr, mi) Q := 
  zX.n rfl (zX.n rfl p_1)
theorem s_B_drifted_67 {a0 : Nat} {x1 : Int} {x2 : Int} {y3 : Int} {w4 : Option zV} {x5 : Int} {x6 : Int} {w7 : Option zV} (p_1 : zX c k_B_drifted 68 [some (zR a0), some (zI x1), some (zI x2), some (zL y3), w4, some (zI x5), some (zI x6), w7] [zI 0] (n, K, mr, mi) Q) : zX c k_B_drifted 67 [some (zR a0), some (zI x1), some (zI x2), some (zL y3), w4, some (zI x5), some (zI x6), w7] [] (n, K, mr, mi) Q := 
  zX.n rfl p_1
theorem s_B_drifted_68 {a0 : Nat} {x1 : Int} {x2 : Int} {y3 : Int} {w4 : Option zV} {x5 : Int} {x6 : Int} {w7 : Option zV} {sx0 : Int} {A2 : Nat} (h_1 : K a0 = (2, 21)) (h_3 : mr a0 3 = A2) (h_4 : K A2 = (18, 12)) (p_5 : (zw ((mi A2 5) - 1)) ≤ x6 → zX c k_B_drifted 86 [some (zR a0), some (zI x1), some (zI x2), some (zL y3), w4, some (zI x5), some (zI x6), w7] [zI sx0] (n, K, mr, mi) Q) (p_6 : ¬ (zw ((mi A2 5) - 1)) ≤ x6 → zX c k_B_drifted 82 [some (zR a0), some (zI x1), some (zI x2), some (zL y3), w4, some (zI x5), some (zI x6), w7] [zI sx0] (n, K, mr, mi) Q) : zX c k_B_drifted 68 [some (zR a0), some (zI x1), some (zI x2), some (zL y3), w4, some (zI x5), some (zI x6), w7] [zI sx0] (n, K, mr, mi) Q := by
  subst h_3
  exact zX.n rfl (zX.n rfl (zX.g rfl h_1 (zX.g rfl h_4 (zX.n rfl (zX.n rfl (zX.n rfl (zX.ite p_5 p_6)))))))
theorem s_B_drifted_82 {a0 : Nat} {x1 : Int} {x2 : Int} {y3 : Int} {w4 : Option zV} {x5 : Int} {x6 : Int} {w7 : Option zV} {sx0 : Int} (p_1 : zX c k_B_drifted 87 [some (zR a0), some (zI x1), some (zI x2), some (zL y3), w4, some (zI x5), some (zI x6), w7] [zI 1, zI sx0] (n, K, mr, mi) Q) : zX c k_B_drifted 82 [some (zR a0), some (zI x1), some (zI x2), some (zL y3), w4, some (zI x5), some (zI x6), w7] [zI sx0] (n, K, mr, mi) Q := 
  zX.n rfl (zX.n rfl p_1)
theorem s_B_drifted_86 {a0 : Nat} {x1 : Int} {x2 : Int} {y3 : Int} {w4 : Option zV} {x5 : Int} {x6 : Int} {w7 : Option zV} {sx0 : Int} (p_1 : zX c k_B_drifted 87 [some (zR a0), some (zI x1), some (zI x2), some (zL y3), w4, some (zI x5), some (zI x6), w7] [zI 0, zI sx0] (n, K, mr, mi) Q) : zX c k_B_drifted 86 [some (zR a0), some (zI x1), some (zI x2), some (zL y3), w4, some (zI x5), some (zI x6), w7] [zI sx0] (n, K, mr, mi) Q := 
  zX.n rfl p_1
theorem s_B_drifted_87 {a0 : Nat} {x1 : Int} {x2 : Int} {y3 : Int} {w4 : Option zV} {x5 : Int} {x6 : Int} {w7 : Option zV} {sx0 : Int} {sx1 : Int} {A2 : Nat} {A4 : Nat} {N6 : Nat} {j10 : Nat} {A12 : Nat} {N15 : Nat} (h_1 : K a0 = (2, 21)) (h_3 : mr a0 20 = A2) (h_5 : mr a0 19 = A4) (h_7 : K A4 = (104, N6)) (h_8 : 0 ≤ x6) (h_9 : x6 < (N6 : Int)) (h_11 : Int.toNat x6 = j10) (h_13 : mr a0 3 = A12) (h_14 : K A12 = (18, 12)) (h_16 : K A2 = (104, N15)) (h_17 : x6 < (N15 : Int)) (h_18 : 64 ≤ A2) (p_19 : x6 ≤ 0 → zX c k_B_drifted 152 [some (zR a0), some (zI x1), some (zI x2), some (zL y3), w4, some (zI x5), some (zI x6), some (zI (zw (sx0 + sx1)))] [] (n, K, mr, zst mi A2 j10 (zwl ((mi A4 j10) * (zwl (y3 - (zwl ((mi A12 7) * (zw (sx0 + sx1))))))))) Q) (p_20 : ¬ x6 ≤ 0 → zX c k_B_drifted 124 [some (zR a0), some (zI x1), some (zI x2), some (zL y3), w4, some (zI x5), some (zI x6), some (zI (zw (sx0 + sx1)))] [] (n, K, mr, zst mi A2 j10 (zwl ((mi A4 j10) * (zwl (y3 - (zwl ((mi A12 7) * (zw (sx0 + sx1))))))))) Q) : zX c k_B_drifted 87 [some (zR a0), some (zI x1), some (zI x2), some (zL y3), w4, some (zI x5), some (zI x6), w7] [zI sx1, zI sx0] (n, K, mr, mi) Q := by
  subst h_3
  subst h_5
  subst h_11
  subst h_13
  exact zX.n rfl (zX.n rfl (zX.n rfl (zX.g rfl h_1 (zX.n rfl (zX.n rfl (zX.g rfl h_1 (zX.n rfl (zX.g rfl ⟨N6, h_7, h_8, h_9⟩ (zX.n rfl (zX.n rfl (zX.g rfl h_1 (zX.g rfl h_14 (zX.n rfl (zX.n rfl (zX.n rfl (zX.n rfl (zX.n rfl (zX.n rfl (zX.g rfl ⟨N15, h_18, h_16, h_8, h_17⟩ (zX.n rfl (zX.n rfl (zX.ite p_19 p_20))))))))))))))))))))))
theorem s_B_drifted_124 {a0 : Nat} {x1 : Int} {x2 : Int} {y3 : Int} {w4 : Option zV} {x5 : Int} {x6 : Int} {w7 : Option zV} {A2 : Nat} {N4 : Nat} {j8 : Nat} {A10 : Nat} {N12 : Nat} {j16 : Nat} {A18 : Nat} (h_1 : K a0 = (2, 21)) (h_3 : mr a0 20 = A2) (h_5 : K A2 = (104, N4)) (h_6 : 0 ≤ x6) (h_7 : x6 < (N4 : Int)) (h_9 : Int.toNat x6 = j8) (h_11 : mr a0 19 = A10) (h_13 : K A10 = (104, N12)) (h_14 : 0 ≤ (zw (x6 - 1))) (h_15 : (zw (x6 - 1)) < (N12 : Int)) (h_17 : Int.toNat (zw (x6 - 1)) = j16) (h_19 : mr a0 3 = A18) (h_20 : K A18 = (18, 12)) (h_21 : 64 ≤ A2) (p_22 : zX c k_B_drifted 152 [some (zR a0), some (zI x1), some (zI x2), some (zL y3), w4, some (zI x5), some (zI x6), w7] [] (n, K, mr, zst mi A2 j8 (zwl ((mi A2 j8) + (zwl ((mi A10 j16) * (mi A18 7)))))) Q) : zX c k_B_drifted 124 [some (zR a0), some (zI x1), some (zI x2), some (zL y3), w4, some (zI x5), some (zI x6), w7] [] (n, K, mr, mi) Q := by
  subst h_3
  subst h_9
  subst h_11
  subst h_17
  subst h_19
  exact zX.n rfl (zX.g rfl h_1 (zX.n rfl (zX.n rfl (zX.g rfl ⟨N4, h_5, h_6, h_7⟩ (zX.n rfl (zX.g rfl h_1 (zX.n rfl (zX.n rfl (zX.n rfl (zX.g rfl ⟨N12, h_13, h_14, h_15⟩ (zX.n rfl (zX.g rfl h_1 (zX.g rfl h_20 (zX.n rfl (zX.n rfl (zX.n rfl (zX.g rfl ⟨N4, h_21, h_5, h_6, h_7⟩ p_22)))))))))))))))))
theorem s_B_drifted_152 {a0 : Nat} {x1 : Int} {x2 : Int} {y3 : Int} {w4 : Option zV} {x5 : Int} {x6 : Int} {w7 : Option zV} {A2 : Nat} (h_1 : K a0 = (2, 21)) (h_3 : mr a0 3 = A2) (h_4 : K A2 = (18, 12)) (p_5 : (zw ((mi A2 5) - 1)) ≤ x6 → zX c k_B_drifted 194 [some (zR a0), some (zI x1), some (zI x2), some (zL y3), w4, some (zI x5), some (zI x6), w7] [] (n, K, mr, mi) Q) (p_6 : ¬ (zw ((mi A2 5) - 1)) ≤ x6 → zX c k_B_drifted 166 [some (zR a0), some (zI x1), some (zI x2), some (zL y3), w4, some (zI x5), some (zI x6), w7] [] (n, K, mr, mi) Q) : zX c k_B_drifted 152 [some (zR a0), some (zI x1), some (zI x2), some (zL y3), w4, some (zI x5), some (zI x6), w7] [] (n, K, mr, mi) Q := by
  subst h_3
  exact zX.n rfl (zX.n rfl (zX.g rfl h_1 (zX.g rfl h_4 (zX.n rfl (zX.n rfl (zX.n rfl (zX.ite p_5 p_6)))))))
theorem s_B_drifted_166 {a0 : Nat} {x1 : Int} {x2 : Int} {y3 : Int} {w4 : Option zV} {x5 : Int} {x6 : Int} {w7 : Option zV} {A2 : Nat} {N4 : Nat} {j8 : Nat} {A10 : Nat} {N12 : Nat} {j16 : Nat} {A18 : Nat} (h_1 : K a0 = (2, 21)) (h_3 : mr a0 20 = A2) (h_5 : K A2 = (104, N4)) (h_6 : 0 ≤ x6) (h_7 : x6 < (N4 : Int)) (h_9 : Int.toNat x6 = j8) (h_11 : mr a0 19 = A10) (h_13 : K A10 = (104, N12)) (h_14 : 0 ≤ (zw (x6 + 1))) (h_15 : (zw (x6 + 1)) < (N12 : Int)) (h_17 : Int.toNat (zw (x6 + 1)) = j16) (h_19 : mr a0 3 = A18) (h_20 : K A18 = (18, 12)) (h_21 : 64 ≤ A2) (p_22 : zX c k_B_drifted 194 [some (zR a0), some (zI x1), some (zI x2), some (zL y3), w4, some (zI x5), some (zI x6), w7] [] (n, K, mr, zst mi A2 j8 (zwl ((mi A2 j8) + (zwl ((mi A10 j16) * (mi A18 7)))))) Q) : zX c k_B_drifted 166 [some (zR a0), some (zI x1), some (zI x2), some (zL y3), w4, some (zI x5), some (zI x6), w7] [] (n, K, mr, mi) Q := by
  subst h_3
  subst h_9
  subst h_11
  subst h_17
  subst h_19
  exact zX.n rfl (zX.g rfl h_1 (zX.n rfl (zX.n rfl (zX.g rfl ⟨N4, h_5, h_6, h_7⟩ (zX.n rfl (zX.g rfl h_1 (zX.n rfl (zX.n rfl (zX.n rfl (zX.g rfl ⟨N12, h_13, h_14, h_15⟩ (zX.n rfl (zX.g rfl h_1 (zX.g rfl h_20 (zX.n rfl (zX.n rfl (zX.n rfl (zX.g rfl ⟨N4, h_21, h_5, h_6, h_7⟩ p_22)))))))))))))))))
theorem s_B_drifted_194 {a0 : Nat} {x1 : Int} {x2 : Int} {y3 : Int} {w4 : Option zV} {x5 : Int} {x6 : Int} {w7 : Option zV} (p_1 : zX c k_B_drifted 46 [some (zR a0), some (zI x1), some (zI x2), some (zL y3), w4, some (zI x5), some (zI (zw (x6 + 1))), w7] [] (n, K, mr, mi) Q) : zX c k_B_drifted 194 [some (zR a0), some (zI x1), some (zI x2), some (zL y3), w4, some (zI x5), some (zI x6), w7] [] (n, K, mr, mi) Q := 
  zX.n rfl (zX.n rfl p_1)
theorem s_B_drifted_200 {a0 : Nat} {x1 : Int} {x2 : Int} {y3 : Int} {w4 : Option zV} {x5 : Int} {w6 : Option zV} {w7 : Option zV} {A2 : Nat} {A4 : Nat} {A6 : Nat} {N11 : Nat} {N12 : Nat} (h_1 : K a0 = (2, 21)) (h_3 : mr a0 20 = A2) (h_5 : mr a0 19 = A4) (h_7 : mr a0 3 = A6) (h_8 : K A6 = (18, 12)) (h_9 : 64 ≤ A2) (h_10 : 64 ≤ A4) (h_13 : K A2 = (104, N11)) (h_14 : K A4 = (104, N12)) (h_15 : A2 ≠ A4) (h_16 : (0 : Int) ≤ 0 ∧ (0 : Int) ≤ 0 ∧ (0 : Int) ≤ (mi A6 5) ∧ 0 + (mi A6 5) ≤ (N11 : Int) ∧ 0 + (mi A6 5) ≤ (N12 : Int)) (p_17 : zX c k_B_drifted 37 [some (zR a0), some (zI x1), some (zI x2), some (zL y3), (zkill w4), some (zI (zw (x5 + 1))), w6, w7] [] (n, K, mr, zup mi A4 (fun j => if Int.toNat 0 ≤ j ∧ j < Int.toNat 0 + Int.toNat (mi A6 5) then mi A2 (Int.toNat 0 + (j - Int.toNat 0)) else mi A4 j)) Q) : zX c k_B_drifted 200 [some (zR a0), some (zI x1), some (zI x2), some (zL y3), w4, some (zI x5), w6, w7] [] (n, K, mr, mi) Q := by
  subst h_3
  subst h_5
  subst h_7
  exact zX.n rfl (zX.g rfl h_1 (zX.n rfl (zX.n rfl (zX.g rfl h_1 (zX.n rfl (zX.n rfl (zX.g rfl h_1 (zX.g rfl h_8 (zX.g rfl ⟨h_9, h_10, 104, N11, N12, Or.inr rfl, h_13, h_14, h_15, h_16⟩ (zX.n rfl (zX.n rfl p_17)))))))))))
theorem s_B_drifted_226 {a0 : Nat} {x1 : Int} {w2 : Option zV} {w3 : Option zV} {w4 : Option zV} {w5 : Option zV} {w6 : Option zV} {w7 : Option zV} {A2 : Nat} {N4 : Nat} {j8 : Nat} (h_1 : K a0 = (2, 21)) (h_3 : mr a0 19 = A2) (h_5 : K A2 = (104, N4)) (h_6 : 0 ≤ x1) (h_7 : x1 < (N4 : Int)) (h_9 : Int.toNat x1 = j8) (p_10 : Q (.inl (some (zL (mi A2 j8)))) (n, K, mr, mi)) : zX c k_B_drifted 226 [some (zR a0), some (zI x1), w2, w3, w4, w5, w6, w7] [] (n, K, mr, mi) Q := by
  subst h_3
  subst h_9
  exact zX.n rfl (zX.g rfl h_1 (zX.n rfl (zX.g rfl ⟨N4, h_5, h_6, h_7⟩ (zX.ret rfl trivial p_10))))
theorem s_B_dividing_0 {y0 : Int} {w1 : Option zV} {y2 : Int} {w3 : Option zV} (p_1 : ¬ (if y2 > 0 then 1 else if y2 = 0 then 0 else -1) = 0 → zX c k_B_dividing 10 [some (zL y0), w1, some (zL y2), w3] [] (n, K, mr, mi) Q) (p_2 : (if y2 > 0 then 1 else if y2 = 0 then 0 else -1) = 0 → zX c k_B_dividing 6 [some (zL y0), w1, some (zL y2), w3] [] (n, K, mr, mi) Q) : zX c k_B_dividing 0 [some (zL y0), w1, some (zL y2), w3] [] (n, K, mr, mi) Q := 
  zX.n rfl (zX.n rfl (zX.n rfl (zX.n rfl (zX.itn p_1 p_2))))
theorem s_B_dividing_6 {y0 : Int} {w1 : Option zV} {w2 : Option zV} {w3 : Option zV} (p_1 : zX c k_B_dividing 17 [some (zL y0), w1, w2, w3] [zL y0] (n, K, mr, mi) Q) : zX c k_B_dividing 6 [some (zL y0), w1, w2, w3] [] (n, K, mr, mi) Q := 
  zX.n rfl (zX.n rfl p_1)
theorem s_B_dividing_10 {y0 : Int} {w1 : Option zV} {y2 : Int} {w3 : Option zV} (h_1 : y2 ≠ 0) (h_2 : 0 < c) (k_3 : zCall c k_B_dividing 14 17 [some (zL y0), w1, some (zL y2), w3] [] (c - 1) k_B_dividing [zL y2, zL (zlrem y0 y2)] (n, K, mr, mi) Q) : zX c k_B_dividing 10 [some (zL y0), w1, some (zL y2), w3] [] (n, K, mr, mi) Q := 
  zX.n rfl (zX.n rfl (zX.n rfl (zX.g rfl h_1 (zX.callQ rfl trivial h_2 k_3))))
theorem s_B_dividing_17 {w0 : Option zV} {w1 : Option zV} {w2 : Option zV} {w3 : Option zV} {sy0 : Int} (p_1 : Q (.inl (some (zL sy0))) (n, K, mr, mi)) : zX c k_B_dividing 17 [w0, w1, w2, w3] [zL sy0] (n, K, mr, mi) Q := 
  zX.ret rfl trivial p_1
theorem s_B_drift_0 {a0 : Nat} {x1 : Int} {x2 : Int} {x3 : Int} {w4 : Option zV} {w5 : Option zV} {w6 : Option zV} {w7 : Option zV} {w8 : Option zV} {w9 : Option zV} (h_1 : K a0 = (2, 21)) (k_2 : zCall c k_B_drift 1 4 [some (zR a0), some (zI x1), some (zI x2), some (zI x3), w4, w5, w6, w7, w8, w9] [] 0 k_B_anew [zR a0] (n, K, mr, mi) Q) : zX c k_B_drift 0 [some (zR a0), some (zI x1), some (zI x2), some (zI x3), w4, w5, w6, w7, w8, w9] [] (n, K, mr, mi) Q := 
  zX.n rfl (zX.callQ rfl (congrArg Prod.fst h_1) trivial k_2)
theorem s_B_drift_4 {a0 : Nat} {x1 : Int} {x2 : Int} {x3 : Int} {w4 : Option zV} {w5 : Option zV} {w6 : Option zV} {w7 : Option zV} {w8 : Option zV} {w9 : Option zV} (h_1 : K a0 = (2, 21)) (k_2 : zCall c k_B_drift 6 9 [some (zR a0), some (zI x1), some (zI x2), some (zI x3), w4, w5, w6, w7, w8, w9] [] 0 k_B_isPlace [zR a0, zI x1] (n, K, mr, mi) Q) : zX c k_B_drift 4 [some (zR a0), some (zI x1), some (zI x2), some (zI x3), w4, w5, w6, w7, w8, w9] [] (n, K, mr, mi) Q := 
  zX.n rfl (zX.n rfl (zX.callQ rfl (congrArg Prod.fst h_1) trivial k_2))
theorem s_B_drift_9 {a0 : Nat} {x1 : Int} {x2 : Int} {x3 : Int} {w4 : Option zV} {w5 : Option zV} {w6 : Option zV} {w7 : Option zV} {w8 : Option zV} {w9 : Option zV} {sx0 : Int} (p_1 : ¬ sx0 = 0 → zX c k_B_drift 19 [some (zR a0), some (zI x1), some (zI x2), some (zI x3), w4, w5, w6, w7, w8, w9] [] (n, K, mr, mi) Q) (p_2 : sx0 = 0 → zX c k_B_drift 12 [some (zR a0), some (zI x1), some (zI x2), some (zI x3), w4, w5, w6, w7, w8, w9] [] (n, K, mr, mi) Q) : zX c k_B_drift 9 [some (zR a0), some (zI x1), some (zI x2), some (zI x3), w4, w5, w6, w7, w8, w9] [zI sx0] (n, K, mr, mi) Q := 
  zX.n rfl (zX.itn p_1 p_2)
theorem s_B_drift_12 {a0 : Nat} {w1 : Option zV} {w2 : Option zV} {w3 : Option zV} {w4 : Option zV} {w5 : Option zV} {w6 : Option zV} {w7 : Option zV} {w8 : Option zV} {w9 : Option zV} (h_1 : K a0 = (2, 21)) (k_2 : zCall c k_B_drift 14 17 [some (zR a0), w1, w2, w3, w4, w5, w6, w7, w8, w9] [] 0 k_B_no [zR a0, zI 1] (n, K, mr, mi) Q) : zX c k_B_drift 12 [some (zR a0), w1, w2, w3, w4, w5, w6, w7, w8, w9] [] (n, K, mr, mi) Q := 
  zX.n rfl (zX.n rfl (zX.callQ rfl (congrArg Prod.fst h_1) trivial k_2))
theorem s_B_drift_17 {w0 : Option zV} {w1 : Option zV} {w2 : Option zV} {w3 : Option zV} {w4 : Option zV} {w5 : Option zV} {w6 : Option zV} {w7 : Option zV} {w8 : Option zV} {w9 : Option zV} {sx0 : Int} (p_1 : Q (.inl (some (zL sx0))) (n, K, mr, mi)) : zX c k_B_drift 17 [w0, w1, w2, w3, w4, w5, w6, w7, w8, w9] [zI sx0] (n, K, mr, mi) Q := 
  zX.n rfl (zX.ret rfl trivial p_1)
theorem s_B_drift_19 {a0 : Nat} {x1 : Int} {x2 : Int} {x3 : Int} {w4 : Option zV} {w5 : Option zV} {w6 : Option zV} {w7 : Option zV} {w8 : Option zV} {w9 : Option zV} (k_1 : zCall c k_B_drift 22 25 [some (zR a0), some (zI x1), some (zI x2), some (zI x3), w4, w5, w6, w7, w8, w9] [] 0 k_B_in [zI x2, zI 0, zI 5] (n, K, mr, mi) Q) : zX c k_B_drift 19 [some (zR a0), some (zI x1), some (zI x2), some (zI x3), w4, w5, w6, w7, w8, w9] [] (n, K, mr, mi) Q := 
  zX.n rfl (zX.n rfl (zX.n rfl (zX.callQ rfl trivial trivial k_1)))
theorem s_B_drift_25 {a0 : Nat} {x1 : Int} {x2 : Int} {x3 : Int} {w4 : Option zV} {w5 : Option zV} {w6 : Option zV} {w7 : Option zV} {w8 : Option zV} {w9 : Option zV} {sx0 : Int} (p_1 : ¬ sx0 = 0 → zX c k_B_drift 35 [some (zR a0), some (zI x1), some (zI x2), some (zI x3), w4, w5, w6, w7, w8, w9] [] (n, K, mr, mi) Q) (p_2 : sx0 = 0 → zX c k_B_drift 28 [some (zR a0), some (zI x1), some (zI x2), some (zI x3), w4, w5, w6, w7, w8, w9] [] (n, K, mr, mi) Q) : zX c k_B_drift 25 [some (zR a0), some (zI x1), some (zI x2), some (zI x3), w4, w5, w6, w7, w8, w9] [zI sx0] (n, K, mr, mi) Q := 
  zX.n rfl (zX.itn p_1 p_2)
theorem s_B_drift_28 {a0 : Nat} {w1 : Option zV} {w2 : Option zV} {w3 : Option zV} {w4 : Option zV} {w5 : Option zV} {w6 : Option zV} {w7 : Option zV} {w8 : Option zV} {w9 : Option zV} (h_1 : K a0 = (2, 21)) (k_2 : zCall c k_B_drift 30 33 [some (zR a0), w1, w2, w3, w4, w5, w6, w7, w8, w9] [] 0 k_B_no [zR a0, zI 2] (n, K, mr, mi) Q) : zX c k_B_drift 28 [some (zR a0), w1, w2, w3, w4, w5, w6, w7, w8, w9] [] (n, K, mr, mi) Q := 
  zX.n rfl (zX.n rfl (zX.callQ rfl (congrArg Prod.fst h_1) trivial k_2))
theorem s_B_drift_33 {w0 : Option zV} {w1 : Option zV} {w2 : Option zV} {w3 : Option zV} {w4 : Option zV} {w5 : Option zV} {w6 : Option zV} {w7 : Option zV} {w8 : Option zV} {w9 : Option zV} {sx0 : Int} (p_1 : Q (.inl (some (zL sx0))) (n, K, mr, mi)) : zX c k_B_drift 33 [w0, w1, w2, w3, w4, w5, w6, w7, w8, w9] [zI sx0] (n, K, mr, mi) Q := 
  zX.n rfl (zX.ret rfl trivial p_1)
theorem s_B_drift_35 {a0 : Nat} {x1 : Int} {x2 : Int} {x3 : Int} {w4 : Option zV} {w5 : Option zV} {w6 : Option zV} {w7 : Option zV} {w8 : Option zV} {w9 : Option zV} {A2 : Nat} (h_1 : K a0 = (2, 21)) (h_3 : mr a0 3 = A2) (h_4 : K A2 = (18, 12)) (p_5 : zX c k_B_drift 57 [some (zR a0), some (zI x1), some (zI x2), some (zI x3), some (zL (zwl (100 * (zw ((mi A2 5) - 1))))), none, some (zL 1), none, some (zI 0), w9] [] (n, K, mr, mi) Q) : zX c k_B_drift 35 [some (zR a0), some (zI x1), some (zI x2), some (zI x3), w4, w5, w6, w7, w8, w9] [] (n, K, mr, mi) Q := by
  subst h_3
  exact zX.n rfl (zX.n rfl (zX.g rfl h_1 (zX.g rfl h_4 (zX.n rfl (zX.n rfl (zX.n rfl (zX.n rfl (zX.n rfl (zX.n rfl (zX.n rfl (zX.n rfl (zX.n rfl p_5))))))))))))
theorem s_B_drift_57 {a0 : Nat} {x1 : Int} {x2 : Int} {x3 : Int} {y4 : Int} {w5 : Option zV} {y6 : Int} {w7 : Option zV} {x8 : Int} {w9 : Option zV} (p_1 : x2 ≤ x8 → zX c k_B_drift 76 [some (zR a0), some (zI x1), some (zI x2), some (zI x3), some (zL y4), w5, some (zL y6), w7, some (zI x8), w9] [] (n, K, mr, mi) Q) (p_2 : ¬ x2 ≤ x8 → zX c k_B_drift 63 [some (zR a0), some (zI x1), some (zI x2), some (zI x3), some (zL y4), w5, some (zL y6), w7, some (zI x8), w9] [] (n, K, mr, mi) Q) : zX c k_B_drift 57 [some (zR a0), some (zI x1), some (zI x2), some (zI x3), some (zL y4), w5, some (zL y6), w7, some (zI x8), w9] [] (n, K, mr, mi) Q := 
  zX.n rfl (zX.n rfl (zX.n rfl (zX.ite p_1 p_2)))
theorem s_B_drift_63 {a0 : Nat} {x1 : Int} {x2 : Int} {x3 : Int} {y4 : Int} {w5 : Option zV} {y6 : Int} {w7 : Option zV} {x8 : Int} {w9 : Option zV} (p_1 : zX c k_B_drift 57 [some (zR a0), some (zI x1), some (zI x2), some (zI x3), some (zL y4), (zkill w5), some (zL (zwl (y6 * y4))), none, some (zI (zw (x8 + 1))), w9] [] (n, K, mr, mi) Q) : zX c k_B_drift 63 [some (zR a0), some (zI x1), some (zI x2), some (zI x3), some (zL y4), w5, some (zL y6), w7, some (zI x8), w9] [] (n, K, mr, mi) Q := 
  zX.n rfl (zX.n rfl (zX.n rfl (zX.n rfl (zX.n rfl (zX.n rfl p_1)))))
theorem s_B_drift_76 {a0 : Nat} {x1 : Int} {x2 : Int} {x3 : Int} {y4 : Int} {w5 : Option zV} {y6 : Int} {w7 : Option zV} {w8 : Option zV} {w9 : Option zV} (h_1 : K a0 = (2, 21)) (k_2 : zCall c k_B_drift 81 84 [some (zR a0), some (zI x1), some (zI x2), some (zI x3), some (zL y4), w5, some (zL y6), w7, w8, w9] [] 0 k_B_drifted [zR a0, zI x1, zI x2, zL y4] (n, K, mr, mi) Q) : zX c k_B_drift 76 [some (zR a0), some (zI x1), some (zI x2), some (zI x3), some (zL y4), w5, some (zL y6), w7, w8, w9] [] (n, K, mr, mi) Q := 
  zX.n rfl (zX.n rfl (zX.n rfl (zX.n rfl (zX.callQ rfl (congrArg Prod.fst h_1) trivial k_2))))
theorem s_B_drift_84 {w0 : Option zV} {w1 : Option zV} {w2 : Option zV} {x3 : Int} {w4 : Option zV} {w5 : Option zV} {y6 : Int} {w7 : Option zV} {w8 : Option zV} {w9 : Option zV} {sy0 : Int} (p_1 : x3 = 0 → zX c k_B_drift 95 [w0, w1, w2, some (zI x3), w4, w5, some (zL y6), (zkill w7), some (zL sy0), none] [] (n, K, mr, mi) Q) (p_2 : ¬ x3 = 0 → zX c k_B_drift 90 [w0, w1, w2, some (zI x3), w4, w5, some (zL y6), (zkill w7), some (zL sy0), none] [] (n, K, mr, mi) Q) : zX c k_B_drift 84 [w0, w1, w2, some (zI x3), w4, w5, some (zL y6), w7, w8, w9] [zL sy0] (n, K, mr, mi) Q := 
  zX.n rfl (zX.n rfl (zX.n rfl (zX.ite p_1 p_2)))
theorem s_B_drift_90 {w0 : Option zV} {w1 : Option zV} {w2 : Option zV} {w3 : Option zV} {w4 : Option zV} {w5 : Option zV} {y6 : Int} {w7 : Option zV} {y8 : Int} {w9 : Option zV} (p_1 : zX c k_B_drift 97 [w0, w1, w2, w3, w4, w5, some (zL y6), w7, some (zL y8), w9] [zL y6] (n, K, mr, mi) Q) : zX c k_B_drift 90 [w0, w1, w2, w3, w4, w5, some (zL y6), w7, some (zL y8), w9] [] (n, K, mr, mi) Q := 
  zX.n rfl (zX.n rfl p_1)
theorem s_B_drift_95 {w0 : Option zV} {w1 : Option zV} {w2 : Option zV} {w3 : Option zV} {w4 : Option zV} {w5 : Option zV} {y6 : Int} {w7 : Option zV} {y8 : Int} {w9 : Option zV} (p_1 : zX c k_B_drift 97 [w0, w1, w2, w3, w4, w5, some (zL y6), w7, some (zL y8), w9] [zL y8] (n, K, mr, mi) Q) : zX c k_B_drift 95 [w0, w1, w2, w3, w4, w5, some (zL y6), w7, some (zL y8), w9] [] (n, K, mr, mi) Q := 
  zX.n rfl p_1
theorem s_B_drift_97 {w0 : Option zV} {w1 : Option zV} {w2 : Option zV} {w3 : Option zV} {w4 : Option zV} {w5 : Option zV} {y6 : Int} {w7 : Option zV} {y8 : Int} {w9 : Option zV} {sy0 : Int} (k_1 : zCall c k_B_drift 101 104 [w0, w1, w2, w3, w4, w5, some (zL y6), w7, some (zL y8), w9] [zL sy0] 100 k_B_dividing [zL y6, zL y8] (n, K, mr, mi) Q) : zX c k_B_drift 97 [w0, w1, w2, w3, w4, w5, some (zL y6), w7, some (zL y8), w9] [zL sy0] (n, K, mr, mi) Q := 
  zX.n rfl (zX.n rfl (zX.callQ rfl trivial trivial k_1))
theorem s_B_drift_104 {w0 : Option zV} {w1 : Option zV} {w2 : Option zV} {w3 : Option zV} {w4 : Option zV} {w5 : Option zV} {w6 : Option zV} {w7 : Option zV} {w8 : Option zV} {w9 : Option zV} {sy0 : Int} {sy1 : Int} (h_1 : sy1 ≠ 0) (p_2 : Q (.inl (some (zL (zldiv sy0 sy1)))) (n, K, mr, mi)) : zX c k_B_drift 104 [w0, w1, w2, w3, w4, w5, w6, w7, w8, w9] [zL sy1, zL sy0] (n, K, mr, mi) Q := 
  zX.g rfl h_1 (zX.ret rfl trivial p_2)
theorem s_B_yes_0 {a0 : Nat} {x1 : Int} (h_1 : K a0 = (2, 21)) (k_2 : zCall c k_B_yes 1 4 [some (zR a0), some (zI x1)] [] 0 k_B_anew [zR a0] (n, K, mr, mi) Q) : zX c k_B_yes 0 [some (zR a0), some (zI x1)] [] (n, K, mr, mi) Q := 
  zX.n rfl (zX.callQ rfl (congrArg Prod.fst h_1) trivial k_2)
theorem s_B_yes_4 {a0 : Nat} {x1 : Int} (h_1 : K a0 = (2, 21)) (h_2 : 64 ≤ a0) (p_3 : ¬ x1 = 0 → zX c k_B_yes 17 [some (zR a0), some (zI x1)] [] (n, K, mr, zst mi a0 4 x1) Q) (p_4 : x1 = 0 → zX c k_B_yes 13 [some (zR a0), some (zI x1)] [] (n, K, mr, zst mi a0 4 x1) Q) : zX c k_B_yes 4 [some (zR a0), some (zI x1)] [] (n, K, mr, mi) Q := 
  zX.n rfl (zX.n rfl (zX.g rfl ⟨h_2, h_1⟩ (zX.n rfl (zX.n rfl (zX.itn p_3 p_4)))))
theorem s_B_yes_13 {w0 : Option zV} {w1 : Option zV} (p_1 : zX c k_B_yes 18 [w0, w1] [zI 1] (n, K, mr, mi) Q) : zX c k_B_yes 13 [w0, w1] [] (n, K, mr, mi) Q := 
  zX.n rfl (zX.n rfl p_1)
theorem s_B_yes_17 {w0 : Option zV} {w1 : Option zV} (p_1 : zX c k_B_yes 18 [w0, w1] [zI 0] (n, K, mr, mi) Q) : zX c k_B_yes 17 [w0, w1] [] (n, K, mr, mi) Q := 
  zX.n rfl p_1
theorem s_B_yes_18 {w0 : Option zV} {w1 : Option zV} {sx0 : Int} (h_1 : sx0 = 0 ∨ sx0 = 1) (p_2 : Q (.inl (some (zI sx0))) (n, K, mr, mi)) : zX c k_B_yes 18 [w0, w1] [zI sx0] (n, K, mr, mi) Q := 
  zX.ret rfl h_1 p_2
theorem s_B_note_0 {a0 : Nat} {A2 : Nat} {A4 : Nat} (h_1 : K a0 = (2, 21)) (h_3 : mr a0 10 = A2) (h_5 : mr a0 9 = A4) (h_6 : K A2 = (5, 6)) (k_7 : zCall c k_B_note 8 11 [some (zR a0)] [] 0 k_Pl_become [zR A2, zR A4] (n, K, mr, mi) Q) : zX c k_B_note 0 [some (zR a0)] [] (n, K, mr, mi) Q := by
  subst h_3
  subst h_5
  exact zX.n rfl (zX.g rfl h_1 (zX.n rfl (zX.g rfl h_1 (zX.callQ rfl (congrArg Prod.fst h_6) trivial k_7))))
theorem s_B_note_11 {w0 : Option zV} (p_1 : Q (.inl none) (n, K, mr, mi)) : zX c k_B_note 11 [w0] [] (n, K, mr, mi) Q := 
  zX.ret rfl trivial p_1
theorem s_B_done_0 {a0 : Nat} {w1 : Option zV} {w2 : Option zV} (h_1 : K a0 = (2, 21)) (p_2 : ¬ (mi a0 8) = (16 : Int) → zX c k_B_done 62 [some (zR a0), w1, w2] [] (n, K, mr, mi) Q) (p_3 : (mi a0 8) = (16 : Int) → zX c k_B_done 9 [some (zR a0), w1, w2] [] (n, K, mr, mi) Q) : zX c k_B_done 0 [some (zR a0), w1, w2] [] (n, K, mr, mi) Q := 
  zX.n rfl (zX.g rfl h_1 (zX.n rfl (zX.n rfl (zX.itn p_2 p_3))))
theorem s_B_done_9 {a0 : Nat} {w1 : Option zV} {w2 : Option zV} {A2 : Nat} {N4 : Nat} {A7 : Nat} (h_1 : K a0 = (2, 21)) (h_3 : mr a0 16 = A2) (h_5 : K A2 = (109, N4)) (h_6 : (0 : Int) < (N4 : Int)) (h_8 : mr A2 0 = A7) (p_9 : zX c k_B_done 18 [some (zR a0), some (zR A7), some (zI 1)] [] (n, K, mr, mi) Q) : zX c k_B_done 9 [some (zR a0), w1, w2] [] (n, K, mr, mi) Q := by
  subst h_3
  subst h_8
  exact zX.n rfl (zX.g rfl h_1 (zX.n rfl (zX.g rfl ⟨N4, h_5, (by decide), h_6⟩ (zX.n rfl (zX.n rfl (zX.n rfl p_9))))))
theorem s_B_done_18 {a0 : Nat} {a1 : Nat} {x2 : Int} (p_1 : (16 : Int) ≤ x2 → zX c k_B_done 44 [some (zR a0), some (zR a1), some (zI x2)] [] (n, K, mr, mi) Q) (p_2 : ¬ (16 : Int) ≤ x2 → zX c k_B_done 24 [some (zR a0), some (zR a1), some (zI x2)] [] (n, K, mr, mi) Q) : zX c k_B_done 18 [some (zR a0), some (zR a1), some (zI x2)] [] (n, K, mr, mi) Q := 
  zX.n rfl (zX.n rfl (zX.n rfl (zX.ite p_1 p_2)))
theorem s_B_done_24 {a0 : Nat} {a1 : Nat} {x2 : Int} {A2 : Nat} {N4 : Nat} {j8 : Nat} {A10 : Nat} {j14 : Nat} (h_1 : K a0 = (2, 21)) (h_3 : mr a0 16 = A2) (h_5 : K A2 = (109, N4)) (h_6 : 0 ≤ x2) (h_7 : x2 < (N4 : Int)) (h_9 : Int.toNat x2 = j8) (h_11 : mr A2 j8 = A10) (h_12 : 0 ≤ (zw (x2 - 1))) (h_13 : (zw (x2 - 1)) < (N4 : Int)) (h_15 : Int.toNat (zw (x2 - 1)) = j14) (h_16 : 64 ≤ A2) (h_17 : (K A10).1 = 5) (h_18 : 64 ≤ A10) (p_19 : zX c k_B_done 18 [some (zR a0), some (zR a1), some (zI (zw (x2 + 1)))] [] (n, K, zst mr A2 j14 A10, mi) Q) : zX c k_B_done 24 [some (zR a0), some (zR a1), some (zI x2)] [] (n, K, mr, mi) Q := by
  subst h_3
  subst h_9
  subst h_11
  subst h_15
  exact zX.n rfl (zX.g rfl h_1 (zX.n rfl (zX.n rfl (zX.n rfl (zX.n rfl (zX.g rfl h_1 (zX.n rfl (zX.g rfl ⟨N4, h_5, h_6, h_7⟩ (zX.g rfl ⟨N4, h_16, h_5, ⟨h_12, h_13⟩, h_17, h_18⟩ (zX.n rfl (zX.n rfl p_19)))))))))))
theorem s_B_done_44 {a0 : Nat} {a1 : Nat} {w2 : Option zV} {A2 : Nat} {N4 : Nat} (h_1 : K a0 = (2, 21)) (h_3 : mr a0 16 = A2) (h_5 : K A2 = (109, N4)) (h_6 : (15 : Int) < (N4 : Int)) (h_7 : 64 ≤ A2) (h_8 : (K a1).1 = 5) (h_9 : 64 ≤ a1) (h_10 : 64 ≤ a0) (p_11 : zX c k_B_done 62 [some (zR a0), some (zR a1), w2] [] (n, K, zst mr A2 15 a1, zst mi a0 8 (zw ((mi a0 8) - 1))) Q) : zX c k_B_done 44 [some (zR a0), some (zR a1), w2] [] (n, K, mr, mi) Q := by
  subst h_3
  exact zX.n rfl (zX.g rfl h_1 (zX.n rfl (zX.n rfl (zX.g rfl ⟨N4, h_7, h_5, ⟨(by decide), h_6⟩, h_8, h_9⟩ (zX.n rfl (zX.n rfl (zX.g rfl h_1 (zX.n rfl (zX.n rfl (zX.g rfl ⟨h_10, h_1⟩ p_11))))))))))
theorem s_B_done_62 {a0 : Nat} {w1 : Option zV} {w2 : Option zV} {A2 : Nat} {N4 : Nat} {j8 : Nat} {A10 : Nat} {A12 : Nat} (h_1 : K a0 = (2, 21)) (h_3 : mr a0 16 = A2) (h_5 : K A2 = (109, N4)) (h_6 : 0 ≤ (mi a0 8)) (h_7 : (mi a0 8) < (N4 : Int)) (h_9 : Int.toNat (mi a0 8) = j8) (h_11 : mr A2 j8 = A10) (h_13 : mr a0 10 = A12) (h_14 : K A10 = (5, 6)) (k_15 : zCall c k_B_done 75 78 [some (zR a0), w1, w2] [] 0 k_Pl_become [zR A10, zR A12] (n, K, mr, mi) Q) : zX c k_B_done 62 [some (zR a0), w1, w2] [] (n, K, mr, mi) Q := by
  subst h_3
  subst h_9
  subst h_11
  subst h_13
  exact zX.n rfl (zX.g rfl h_1 (zX.n rfl (zX.g rfl h_1 (zX.g rfl ⟨N4, h_5, h_6, h_7⟩ (zX.n rfl (zX.g rfl h_1 (zX.callQ rfl (congrArg Prod.fst h_14) trivial k_15)))))))
theorem s_B_done_78 {a0 : Nat} {w1 : Option zV} {w2 : Option zV} (h_1 : K a0 = (2, 21)) (h_2 : 64 ≤ a0) (k_3 : zCall c k_B_done 89 92 [some (zR a0), w1, w2] [] 0 k_B_runMonth [zR a0] (n, K, mr, zst mi a0 8 (zw ((mi a0 8) + 1))) Q) : zX c k_B_done 78 [some (zR a0), w1, w2] [] (n, K, mr, mi) Q := 
  zX.n rfl (zX.n rfl (zX.g rfl h_1 (zX.n rfl (zX.n rfl (zX.g rfl ⟨h_2, h_1⟩ (zX.n rfl (zX.callQ rfl (congrArg Prod.fst h_1) trivial k_3)))))))
theorem s_B_done_92 {w0 : Option zV} {w1 : Option zV} {w2 : Option zV} (p_1 : Q (.inl (some (zI 1))) (n, K, mr, mi)) : zX c k_B_done 92 [w0, w1, w2] [] (n, K, mr, mi) Q := 
  zX.n rfl (zX.ret rfl (Or.inr rfl) p_1)
theorem s_B_move_0 {a0 : Nat} {x1 : Int} {x2 : Int} {x3 : Int} (h_1 : K a0 = (2, 21)) (k_2 : zCall c k_B_move 3 6 [some (zR a0), some (zI x1), some (zI x2), some (zI x3)] [zR a0] 0 k_B_isPlace [zR a0, zI x2] (n, K, mr, mi) Q) : zX c k_B_move 0 [some (zR a0), some (zI x1), some (zI x2), some (zI x3)] [] (n, K, mr, mi) Q := 
  zX.n rfl (zX.n rfl (zX.n rfl (zX.callQ rfl (congrArg Prod.fst h_1) trivial k_2)))
theorem s_B_move_6 {a0 : Nat} {x1 : Int} {x2 : Int} {x3 : Int} {sa0 : Nat} {sx1 : Int} (p_1 : sx1 = 0 → zX c k_B_move 22 [some (zR a0), some (zI x1), some (zI x2), some (zI x3)] [zR sa0] (n, K, mr, mi) Q) (p_2 : ¬ sx1 = 0 → zX c k_B_move 9 [some (zR a0), some (zI x1), some (zI x2), some (zI x3)] [zR sa0] (n, K, mr, mi) Q) : zX c k_B_move 6 [some (zR a0), some (zI x1), some (zI x2), some (zI x3)] [zI sx1, zR sa0] (n, K, mr, mi) Q := 
  zX.n rfl (zX.ite p_1 p_2)
theorem s_B_move_9 {a0 : Nat} {x1 : Int} {x2 : Int} {x3 : Int} {sa0 : Nat} (h_1 : K a0 = (2, 21)) (k_2 : zCall c k_B_move 11 14 [some (zR a0), some (zI x1), some (zI x2), some (zI x3)] [zR sa0] 0 k_B_isPlace [zR a0, zI x3] (n, K, mr, mi) Q) : zX c k_B_move 9 [some (zR a0), some (zI x1), some (zI x2), some (zI x3)] [zR sa0] (n, K, mr, mi) Q := 
  zX.n rfl (zX.n rfl (zX.callQ rfl (congrArg Prod.fst h_1) trivial k_2))
theorem s_B_move_14 {a0 : Nat} {x1 : Int} {x2 : Int} {x3 : Int} {sa0 : Nat} {sx1 : Int} (p_1 : sx1 = 0 → zX c k_B_move 22 [some (zR a0), some (zI x1), some (zI x2), some (zI x3)] [zR sa0] (n, K, mr, mi) Q) (p_2 : ¬ sx1 = 0 → zX c k_B_move 17 [some (zR a0), some (zI x1), some (zI x2), some (zI x3)] [zR sa0] (n, K, mr, mi) Q) : zX c k_B_move 14 [some (zR a0), some (zI x1), some (zI x2), some (zI x3)] [zI sx1, zR sa0] (n, K, mr, mi) Q := 
  zX.n rfl (zX.ite p_1 p_2)
theorem s_B_move_17 {a0 : Nat} {x1 : Int} {x2 : Int} {x3 : Int} {sa0 : Nat} (p_1 : ¬ x2 = x3 → zX c k_B_move 26 [some (zR a0), some (zI x1), some (zI x2), some (zI x3)] [zR sa0] (n, K, mr, mi) Q) (p_2 : x2 = x3 → zX c k_B_move 22 [some (zR a0), some (zI x1), some (zI x2), some (zI x3)] [zR sa0] (n, K, mr, mi) Q) : zX c k_B_move 17 [some (zR a0), some (zI x1), some (zI x2), some (zI x3)] [zR sa0] (n, K, mr, mi) Q := 
  zX.n rfl (zX.n rfl (zX.n rfl (zX.itn p_1 p_2)))
theorem s_B_move_22 {a0 : Nat} {x1 : Int} {x2 : Int} {x3 : Int} {sa0 : Nat} (p_1 : zX c k_B_move 55 [some (zR a0), some (zI x1), some (zI x2), some (zI x3)] [zI 1, zR sa0] (n, K, mr, mi) Q) : zX c k_B_move 22 [some (zR a0), some (zI x1), some (zI x2), some (zI x3)] [zR sa0] (n, K, mr, mi) Q := 
  zX.n rfl (zX.n rfl p_1)
theorem s_B_move_26 {a0 : Nat} {x1 : Int} {x2 : Int} {x3 : Int} {sa0 : Nat} (h_1 : K a0 = (2, 21)) (k_2 : zCall c k_B_move 28 31 [some (zR a0), some (zI x1), some (zI x2), some (zI x3)] [zR sa0] 0 k_B_isDay [zR a0, zI x1] (n, K, mr, mi) Q) : zX c k_B_move 26 [some (zR a0), some (zI x1), some (zI x2), some (zI x3)] [zR sa0] (n, K, mr, mi) Q := 
  zX.n rfl (zX.n rfl (zX.callQ rfl (congrArg Prod.fst h_1) trivial k_2))
theorem s_B_move_31 {a0 : Nat} {x1 : Int} {x2 : Int} {x3 : Int} {sa0 : Nat} {sx1 : Int} (p_1 : ¬ sx1 = 0 → zX c k_B_move 38 [some (zR a0), some (zI x1), some (zI x2), some (zI x3)] [zR sa0] (n, K, mr, mi) Q) (p_2 : sx1 = 0 → zX c k_B_move 34 [some (zR a0), some (zI x1), some (zI x2), some (zI x3)] [zR sa0] (n, K, mr, mi) Q) : zX c k_B_move 31 [some (zR a0), some (zI x1), some (zI x2), some (zI x3)] [zI sx1, zR sa0] (n, K, mr, mi) Q := 
  zX.n rfl (zX.itn p_1 p_2)
theorem s_B_move_34 {a0 : Nat} {x1 : Int} {x2 : Int} {x3 : Int} {sa0 : Nat} (p_1 : zX c k_B_move 55 [some (zR a0), some (zI x1), some (zI x2), some (zI x3)] [zI 2, zR sa0] (n, K, mr, mi) Q) : zX c k_B_move 34 [some (zR a0), some (zI x1), some (zI x2), some (zI x3)] [zR sa0] (n, K, mr, mi) Q := 
  zX.n rfl (zX.n rfl p_1)
theorem s_B_move_38 {a0 : Nat} {x1 : Int} {x2 : Int} {x3 : Int} {sa0 : Nat} {A2 : Nat} (h_1 : K a0 = (2, 21)) (h_3 : mr a0 9 = A2) (h_4 : K A2 = (5, 6)) (p_5 : ¬ (mi A2 4) = (12 : Int) → zX c k_B_move 54 [some (zR a0), some (zI x1), some (zI x2), some (zI x3)] [zR sa0] (n, K, mr, mi) Q) (p_6 : (mi A2 4) = (12 : Int) → zX c k_B_move 50 [some (zR a0), some (zI x1), some (zI x2), some (zI x3)] [zR sa0] (n, K, mr, mi) Q) : zX c k_B_move 38 [some (zR a0), some (zI x1), some (zI x2), some (zI x3)] [zR sa0] (n, K, mr, mi) Q := by
  subst h_3
  exact zX.n rfl (zX.g rfl h_1 (zX.g rfl h_4 (zX.n rfl (zX.n rfl (zX.itn p_5 p_6)))))
theorem s_B_move_50 {a0 : Nat} {x1 : Int} {x2 : Int} {x3 : Int} {sa0 : Nat} (p_1 : zX c k_B_move 55 [some (zR a0), some (zI x1), some (zI x2), some (zI x3)] [zI 3, zR sa0] (n, K, mr, mi) Q) : zX c k_B_move 50 [some (zR a0), some (zI x1), some (zI x2), some (zI x3)] [zR sa0] (n, K, mr, mi) Q := 
  zX.n rfl (zX.n rfl p_1)
theorem s_B_move_54 {a0 : Nat} {x1 : Int} {x2 : Int} {x3 : Int} {sa0 : Nat} (p_1 : zX c k_B_move 55 [some (zR a0), some (zI x1), some (zI x2), some (zI x3)] [zI 0, zR sa0] (n, K, mr, mi) Q) : zX c k_B_move 54 [some (zR a0), some (zI x1), some (zI x2), some (zI x3)] [zR sa0] (n, K, mr, mi) Q := 
  zX.n rfl p_1
theorem s_B_move_55 {a0 : Nat} {x1 : Int} {x2 : Int} {x3 : Int} {sa0 : Nat} {sx1 : Int} (h_1 : K sa0 = (2, 21)) (k_2 : zCall c k_B_move 55 58 [some (zR a0), some (zI x1), some (zI x2), some (zI x3)] [] 0 k_B_yes [zR sa0, zI sx1] (n, K, mr, mi) Q) : zX c k_B_move 55 [some (zR a0), some (zI x1), some (zI x2), some (zI x3)] [zI sx1, zR sa0] (n, K, mr, mi) Q := 
  zX.callQ rfl (congrArg Prod.fst h_1) trivial k_2
theorem s_B_move_58 {a0 : Nat} {x1 : Int} {x2 : Int} {x3 : Int} {sx0 : Int} (p_1 : ¬ sx0 = 0 → zX c k_B_move 63 [some (zR a0), some (zI x1), some (zI x2), some (zI x3)] [] (n, K, mr, mi) Q) (p_2 : sx0 = 0 → zX c k_B_move 61 [some (zR a0), some (zI x1), some (zI x2), some (zI x3)] [] (n, K, mr, mi) Q) : zX c k_B_move 58 [some (zR a0), some (zI x1), some (zI x2), some (zI x3)] [zI sx0] (n, K, mr, mi) Q := 
  zX.n rfl (zX.itn p_1 p_2)
theorem s_B_move_61 {w0 : Option zV} {w1 : Option zV} {w2 : Option zV} {w3 : Option zV} (p_1 : Q (.inl (some (zI 0))) (n, K, mr, mi)) : zX c k_B_move 61 [w0, w1, w2, w3] [] (n, K, mr, mi) Q := 
  zX.n rfl (zX.ret rfl (Or.inl rfl) p_1)
theorem s_B_move_63 {a0 : Nat} {x1 : Int} {x2 : Int} {x3 : Int} (h_1 : K a0 = (2, 21)) (k_2 : zCall c k_B_move 64 67 [some (zR a0), some (zI x1), some (zI x2), some (zI x3)] [] 0 k_B_note [zR a0] (n, K, mr, mi) Q) : zX c k_B_move 63 [some (zR a0), some (zI x1), some (zI x2), some (zI x3)] [] (n, K, mr, mi) Q := 
  zX.n rfl (zX.callQ rfl (congrArg Prod.fst h_1) trivial k_2)
theorem s_B_move_67 {a0 : Nat} {x1 : Int} {x2 : Int} {x3 : Int} {A2 : Nat} (h_1 : K a0 = (2, 21)) (h_3 : mr a0 9 = A2) (h_4 : K A2 = (5, 6)) (k_5 : zCall c k_B_move 74 77 [some (zR a0), some (zI x1), some (zI x2), some (zI x3)] [] 0 k_Pl_add [zR A2, zI x1, zI x2, zI x3] (n, K, mr, mi) Q) : zX c k_B_move 67 [some (zR a0), some (zI x1), some (zI x2), some (zI x3)] [] (n, K, mr, mi) Q := by
  subst h_3
  exact zX.n rfl (zX.g rfl h_1 (zX.n rfl (zX.n rfl (zX.n rfl (zX.callQ rfl (congrArg Prod.fst h_4) trivial k_5)))))
theorem s_B_move_77 {a0 : Nat} {w1 : Option zV} {w2 : Option zV} {w3 : Option zV} (h_1 : K a0 = (2, 21)) (k_2 : zCall c k_B_move 78 81 [some (zR a0), w1, w2, w3] [] 0 k_B_done [zR a0] (n, K, mr, mi) Q) : zX c k_B_move 77 [some (zR a0), w1, w2, w3] [] (n, K, mr, mi) Q := 
  zX.n rfl (zX.callQ rfl (congrArg Prod.fst h_1) trivial k_2)
theorem s_B_move_81 {w0 : Option zV} {w1 : Option zV} {w2 : Option zV} {w3 : Option zV} {sx0 : Int} (h_1 : sx0 = 0 ∨ sx0 = 1) (p_2 : Q (.inl (some (zI sx0))) (n, K, mr, mi)) : zX c k_B_move 81 [w0, w1, w2, w3] [zI sx0] (n, K, mr, mi) Q := 
  zX.ret rfl h_1 p_2
theorem s_B_shake_0 {a0 : Nat} {w1 : Option zV} {w2 : Option zV} (h_1 : K a0 = (2, 21)) (k_2 : zCall c k_B_shake 1 4 [some (zR a0), w1, w2] [] 0 k_B_anew [zR a0] (n, K, mr, mi) Q) : zX c k_B_shake 0 [some (zR a0), w1, w2] [] (n, K, mr, mi) Q := 
  zX.n rfl (zX.callQ rfl (congrArg Prod.fst h_1) trivial k_2)
theorem s_B_shake_4 {a0 : Nat} {w1 : Option zV} {w2 : Option zV} {A2 : Nat} (h_1 : K a0 = (2, 21)) (h_3 : mr a0 3 = A2) (h_4 : A2 = 0 ∨ (K A2).1 ≠ 0) (p_5 : ¬ A2 = 0 → zX c k_B_shake 17 [some (zR a0), w1, w2] [] (n, K, mr, mi) Q) (p_6 : A2 = 0 → zX c k_B_shake 11 [some (zR a0), w1, w2] [] (n, K, mr, mi) Q) : zX c k_B_shake 4 [some (zR a0), w1, w2] [] (n, K, mr, mi) Q := by
  subst h_3
  exact zX.n rfl (zX.g rfl h_1 (zX.g rfl h_4 (zX.itn p_5 p_6)))
theorem s_B_shake_11 {a0 : Nat} {w1 : Option zV} {w2 : Option zV} (h_1 : K a0 = (2, 21)) (k_2 : zCall c k_B_shake 13 16 [some (zR a0), w1, w2] [] 0 k_B_no [zR a0, zI 1] (n, K, mr, mi) Q) : zX c k_B_shake 11 [some (zR a0), w1, w2] [] (n, K, mr, mi) Q := 
  zX.n rfl (zX.n rfl (zX.callQ rfl (congrArg Prod.fst h_1) trivial k_2))
theorem s_B_shake_16 {w0 : Option zV} {w1 : Option zV} {w2 : Option zV} {sx0 : Int} (p_1 : Q (.inl (some (zI sx0))) (n, K, mr, mi)) : zX c k_B_shake 16 [w0, w1, w2] [zI sx0] (n, K, mr, mi) Q := 
  zX.ret rfl trivial p_1
theorem s_B_shake_17 {a0 : Nat} {w1 : Option zV} {w2 : Option zV} {A2 : Nat} (h_1 : K a0 = (2, 21)) (h_3 : mr a0 9 = A2) (h_4 : K A2 = (5, 6)) (p_5 : ¬ (mi A2 4) = (12 : Int) → zX c k_B_shake 35 [some (zR a0), w1, w2] [] (n, K, mr, mi) Q) (p_6 : (mi A2 4) = (12 : Int) → zX c k_B_shake 29 [some (zR a0), w1, w2] [] (n, K, mr, mi) Q) : zX c k_B_shake 17 [some (zR a0), w1, w2] [] (n, K, mr, mi) Q := by
  subst h_3
  exact zX.n rfl (zX.g rfl h_1 (zX.g rfl h_4 (zX.n rfl (zX.n rfl (zX.itn p_5 p_6)))))
theorem s_B_shake_29 {a0 : Nat} {w1 : Option zV} {w2 : Option zV} (h_1 : K a0 = (2, 21)) (k_2 : zCall c k_B_shake 31 34 [some (zR a0), w1, w2] [] 0 k_B_no [zR a0, zI 3] (n, K, mr, mi) Q) : zX c k_B_shake 29 [some (zR a0), w1, w2] [] (n, K, mr, mi) Q := 
  zX.n rfl (zX.n rfl (zX.callQ rfl (congrArg Prod.fst h_1) trivial k_2))
theorem s_B_shake_34 {w0 : Option zV} {w1 : Option zV} {w2 : Option zV} {sx0 : Int} (p_1 : Q (.inl (some (zI sx0))) (n, K, mr, mi)) : zX c k_B_shake 34 [w0, w1, w2] [zI sx0] (n, K, mr, mi) Q := 
  zX.ret rfl trivial p_1
theorem s_B_shake_35 {a0 : Nat} {w1 : Option zV} {w2 : Option zV} (h_1 : K a0 = (2, 21)) (k_2 : zCall c k_B_shake 36 39 [some (zR a0), w1, w2] [] 0 k_B_note [zR a0] (n, K, mr, mi) Q) : zX c k_B_shake 35 [some (zR a0), w1, w2] [] (n, K, mr, mi) Q := 
  zX.n rfl (zX.callQ rfl (congrArg Prod.fst h_1) trivial k_2)
theorem s_B_shake_39 {a0 : Nat} {w1 : Option zV} {w2 : Option zV} {A2 : Nat} (h_1 : K a0 = (2, 21)) (h_3 : mr a0 9 = A2) (h_4 : K A2 = (5, 6)) (k_5 : zCall c k_B_shake 43 46 [some (zR a0), w1, w2] [] 0 k_Pl_draw [zR A2] (n, K, mr, mi) Q) : zX c k_B_shake 39 [some (zR a0), w1, w2] [] (n, K, mr, mi) Q := by
  subst h_3
  exact zX.n rfl (zX.g rfl h_1 (zX.callQ rfl (congrArg Prod.fst h_4) trivial k_5))
theorem s_B_shake_46 {a0 : Nat} {w1 : Option zV} {w2 : Option zV} {sx0 : Int} {A2 : Nat} {A6 : Nat} (h_1 : K a0 = (2, 21)) (h_3 : mr a0 3 = A2) (h_4 : K A2 = (18, 12)) (h_5 : (mi A2 4) ≠ 0) (h_7 : mr a0 9 = A6) (h_8 : K A6 = (5, 6)) (k_9 : zCall c k_B_shake 59 62 [some (zR a0), some (zI (zrem sx0 (mi A2 4))), w2] [] 0 k_Pl_draw [zR A6] (n, K, mr, mi) Q) : zX c k_B_shake 46 [some (zR a0), w1, w2] [zI sx0] (n, K, mr, mi) Q := by
  subst h_3
  subst h_7
  exact zX.n rfl (zX.g rfl h_1 (zX.g rfl h_4 (zX.g rfl h_5 (zX.n rfl (zX.n rfl (zX.g rfl h_1 (zX.callQ rfl (congrArg Prod.fst h_8) trivial k_9)))))))
theorem s_B_shake_62 {a0 : Nat} {x1 : Int} {w2 : Option zV} {sx0 : Int} {A2 : Nat} {A6 : Nat} (h_1 : K a0 = (2, 21)) (h_3 : mr a0 3 = A2) (h_4 : K A2 = (18, 12)) (h_5 : (zw ((mi A2 5) - 1)) ≠ 0) (h_7 : mr a0 9 = A6) (h_8 : K A6 = (5, 6)) (k_9 : zCall c k_B_shake 82 85 [some (zR a0), some (zI x1), some (zI (zrem sx0 (zw ((mi A2 5) - 1))))] [] 0 k_Pl_add [zR A6, zI x1, zI (zrem sx0 (zw ((mi A2 5) - 1))), zI (zw ((zrem sx0 (zw ((mi A2 5) - 1))) + 1))] (n, K, mr, mi) Q) : zX c k_B_shake 62 [some (zR a0), some (zI x1), w2] [zI sx0] (n, K, mr, mi) Q := by
  subst h_3
  subst h_7
  exact zX.n rfl (zX.g rfl h_1 (zX.g rfl h_4 (zX.n rfl (zX.n rfl (zX.g rfl h_5 (zX.n rfl (zX.n rfl (zX.g rfl h_1 (zX.n rfl (zX.n rfl (zX.n rfl (zX.n rfl (zX.n rfl (zX.callQ rfl (congrArg Prod.fst h_8) trivial k_9))))))))))))))
theorem s_B_shake_85 {a0 : Nat} {x1 : Int} {x2 : Int} (h_1 : K a0 = (2, 21)) (k_2 : zCall c k_B_shake 86 89 [some (zR a0), some (zI x1), some (zI x2)] [] 0 k_B_done [zR a0] (n, K, mr, mi) Q) : zX c k_B_shake 85 [some (zR a0), some (zI x1), some (zI x2)] [] (n, K, mr, mi) Q := 
  zX.n rfl (zX.callQ rfl (congrArg Prod.fst h_1) trivial k_2)
theorem s_B_shake_89 {w0 : Option zV} {x1 : Int} {x2 : Int} {sx0 : Int} (p_1 : Q (.inl (some (zI (zw ((zw (100 * x1)) + x2))))) (n, K, mr, mi)) : zX c k_B_shake 89 [w0, some (zI x1), some (zI x2)] [zI sx0] (n, K, mr, mi) Q := 
  zX.n rfl (zX.n rfl (zX.n rfl (zX.n rfl (zX.n rfl (zX.n rfl (zX.ret rfl trivial p_1))))))
theorem s_B_kind_0 {a0 : Nat} {x1 : Int} {x2 : Int} (h_1 : K a0 = (2, 21)) (k_2 : zCall c k_B_kind 3 6 [some (zR a0), some (zI x1), some (zI x2)] [zR a0] 0 k_B_isPerson [zR a0, zI x1] (n, K, mr, mi) Q) : zX c k_B_kind 0 [some (zR a0), some (zI x1), some (zI x2)] [] (n, K, mr, mi) Q := 
  zX.n rfl (zX.n rfl (zX.n rfl (zX.callQ rfl (congrArg Prod.fst h_1) trivial k_2)))
theorem s_B_kind_6 {a0 : Nat} {x1 : Int} {x2 : Int} {sa0 : Nat} {sx1 : Int} (p_1 : sx1 = 0 → zX c k_B_kind 18 [some (zR a0), some (zI x1), some (zI x2)] [zR sa0] (n, K, mr, mi) Q) (p_2 : ¬ sx1 = 0 → zX c k_B_kind 9 [some (zR a0), some (zI x1), some (zI x2)] [zR sa0] (n, K, mr, mi) Q) : zX c k_B_kind 6 [some (zR a0), some (zI x1), some (zI x2)] [zI sx1, zR sa0] (n, K, mr, mi) Q := 
  zX.n rfl (zX.ite p_1 p_2)
theorem s_B_kind_9 {a0 : Nat} {x1 : Int} {x2 : Int} {sa0 : Nat} (k_1 : zCall c k_B_kind 12 15 [some (zR a0), some (zI x1), some (zI x2)] [zR sa0] 0 k_B_in [zI x2, zI 0, zI 3] (n, K, mr, mi) Q) : zX c k_B_kind 9 [some (zR a0), some (zI x1), some (zI x2)] [zR sa0] (n, K, mr, mi) Q := 
  zX.n rfl (zX.n rfl (zX.n rfl (zX.callQ rfl trivial trivial k_1)))
theorem s_B_kind_15 {a0 : Nat} {x1 : Int} {x2 : Int} {sa0 : Nat} {sx1 : Int} (p_1 : ¬ sx1 = 0 → zX c k_B_kind 22 [some (zR a0), some (zI x1), some (zI x2)] [zR sa0] (n, K, mr, mi) Q) (p_2 : sx1 = 0 → zX c k_B_kind 18 [some (zR a0), some (zI x1), some (zI x2)] [zR sa0] (n, K, mr, mi) Q) : zX c k_B_kind 15 [some (zR a0), some (zI x1), some (zI x2)] [zI sx1, zR sa0] (n, K, mr, mi) Q := 
  zX.n rfl (zX.itn p_1 p_2)
theorem s_B_kind_18 {a0 : Nat} {x1 : Int} {x2 : Int} {sa0 : Nat} (p_1 : zX c k_B_kind 40 [some (zR a0), some (zI x1), some (zI x2)] [zI 1, zR sa0] (n, K, mr, mi) Q) : zX c k_B_kind 18 [some (zR a0), some (zI x1), some (zI x2)] [zR sa0] (n, K, mr, mi) Q := 
  zX.n rfl (zX.n rfl p_1)
theorem s_B_kind_22 {a0 : Nat} {x1 : Int} {x2 : Int} {sa0 : Nat} {A2 : Nat} {A5 : Nat} {N7 : Nat} {j11 : Nat} (h_1 : K a0 = (2, 21)) (h_3 : mr a0 9 = A2) (h_4 : K A2 = (5, 6)) (h_6 : mr A2 0 = A5) (h_8 : K A5 = (100, N7)) (h_9 : 0 ≤ x1) (h_10 : x1 < (N7 : Int)) (h_12 : Int.toNat x1 = j11) (p_13 : ¬ (mi A5 j11) = x2 → zX c k_B_kind 39 [some (zR a0), some (zI x1), some (zI x2)] [zR sa0] (n, K, mr, mi) Q) (p_14 : (mi A5 j11) = x2 → zX c k_B_kind 35 [some (zR a0), some (zI x1), some (zI x2)] [zR sa0] (n, K, mr, mi) Q) : zX c k_B_kind 22 [some (zR a0), some (zI x1), some (zI x2)] [zR sa0] (n, K, mr, mi) Q := by
  subst h_3
  subst h_6
  subst h_12
  exact zX.n rfl (zX.g rfl h_1 (zX.g rfl h_4 (zX.n rfl (zX.g rfl ⟨N7, h_8, h_9, h_10⟩ (zX.n rfl (zX.n rfl (zX.itn p_13 p_14)))))))
theorem s_B_kind_35 {a0 : Nat} {x1 : Int} {x2 : Int} {sa0 : Nat} (p_1 : zX c k_B_kind 40 [some (zR a0), some (zI x1), some (zI x2)] [zI 5, zR sa0] (n, K, mr, mi) Q) : zX c k_B_kind 35 [some (zR a0), some (zI x1), some (zI x2)] [zR sa0] (n, K, mr, mi) Q := 
  zX.n rfl (zX.n rfl p_1)
theorem s_B_kind_39 {a0 : Nat} {x1 : Int} {x2 : Int} {sa0 : Nat} (p_1 : zX c k_B_kind 40 [some (zR a0), some (zI x1), some (zI x2)] [zI 0, zR sa0] (n, K, mr, mi) Q) : zX c k_B_kind 39 [some (zR a0), some (zI x1), some (zI x2)] [zR sa0] (n, K, mr, mi) Q := 
  zX.n rfl p_1
theorem s_B_kind_40 {a0 : Nat} {x1 : Int} {x2 : Int} {sa0 : Nat} {sx1 : Int} (h_1 : K sa0 = (2, 21)) (k_2 : zCall c k_B_kind 40 43 [some (zR a0), some (zI x1), some (zI x2)] [] 0 k_B_yes [zR sa0, zI sx1] (n, K, mr, mi) Q) : zX c k_B_kind 40 [some (zR a0), some (zI x1), some (zI x2)] [zI sx1, zR sa0] (n, K, mr, mi) Q := 
  zX.callQ rfl (congrArg Prod.fst h_1) trivial k_2
theorem s_B_kind_43 {a0 : Nat} {x1 : Int} {x2 : Int} {sx0 : Int} (p_1 : ¬ sx0 = 0 → zX c k_B_kind 48 [some (zR a0), some (zI x1), some (zI x2)] [] (n, K, mr, mi) Q) (p_2 : sx0 = 0 → zX c k_B_kind 46 [some (zR a0), some (zI x1), some (zI x2)] [] (n, K, mr, mi) Q) : zX c k_B_kind 43 [some (zR a0), some (zI x1), some (zI x2)] [zI sx0] (n, K, mr, mi) Q := 
  zX.n rfl (zX.itn p_1 p_2)
theorem s_B_kind_46 {w0 : Option zV} {w1 : Option zV} {w2 : Option zV} (p_1 : Q (.inl (some (zI 0))) (n, K, mr, mi)) : zX c k_B_kind 46 [w0, w1, w2] [] (n, K, mr, mi) Q := 
  zX.n rfl (zX.ret rfl (Or.inl rfl) p_1)
theorem s_B_kind_48 {a0 : Nat} {x1 : Int} {x2 : Int} (h_1 : K a0 = (2, 21)) (k_2 : zCall c k_B_kind 49 52 [some (zR a0), some (zI x1), some (zI x2)] [] 0 k_B_note [zR a0] (n, K, mr, mi) Q) : zX c k_B_kind 48 [some (zR a0), some (zI x1), some (zI x2)] [] (n, K, mr, mi) Q := 
  zX.n rfl (zX.callQ rfl (congrArg Prod.fst h_1) trivial k_2)
theorem s_B_kind_52 {a0 : Nat} {x1 : Int} {x2 : Int} {A2 : Nat} {A5 : Nat} {N7 : Nat} {j11 : Nat} (h_1 : K a0 = (2, 21)) (h_3 : mr a0 9 = A2) (h_4 : K A2 = (5, 6)) (h_6 : mr A2 0 = A5) (h_8 : K A5 = (100, N7)) (h_9 : 0 ≤ x1) (h_10 : x1 < (N7 : Int)) (h_12 : Int.toNat x1 = j11) (h_13 : 64 ≤ A5) (k_14 : zCall c k_B_kind 63 66 [some (zR a0), some (zI x1), some (zI x2)] [] 0 k_B_done [zR a0] (n, K, mr, zst mi A5 j11 x2) Q) : zX c k_B_kind 52 [some (zR a0), some (zI x1), some (zI x2)] [] (n, K, mr, mi) Q := by
  subst h_3
  subst h_6
  subst h_12
  exact zX.n rfl (zX.g rfl h_1 (zX.g rfl h_4 (zX.n rfl (zX.n rfl (zX.g rfl ⟨N7, h_13, h_8, h_9, h_10⟩ (zX.n rfl (zX.callQ rfl (congrArg Prod.fst h_1) trivial k_14)))))))
theorem s_B_kind_66 {w0 : Option zV} {w1 : Option zV} {w2 : Option zV} {sx0 : Int} (h_1 : sx0 = 0 ∨ sx0 = 1) (p_2 : Q (.inl (some (zI sx0))) (n, K, mr, mi)) : zX c k_B_kind 66 [w0, w1, w2] [zI sx0] (n, K, mr, mi) Q := 
  zX.ret rfl h_1 p_2
theorem s_B_habit_0 {a0 : Nat} {x1 : Int} {x2 : Int} (h_1 : K a0 = (2, 21)) (k_2 : zCall c k_B_habit 3 6 [some (zR a0), some (zI x1), some (zI x2)] [zR a0] 0 k_B_isPerson [zR a0, zI x1] (n, K, mr, mi) Q) : zX c k_B_habit 0 [some (zR a0), some (zI x1), some (zI x2)] [] (n, K, mr, mi) Q := 
  zX.n rfl (zX.n rfl (zX.n rfl (zX.callQ rfl (congrArg Prod.fst h_1) trivial k_2)))
theorem s_B_habit_6 {a0 : Nat} {x1 : Int} {x2 : Int} {sa0 : Nat} {sx1 : Int} (p_1 : sx1 = 0 → zX c k_B_habit 18 [some (zR a0), some (zI x1), some (zI x2)] [zR sa0] (n, K, mr, mi) Q) (p_2 : ¬ sx1 = 0 → zX c k_B_habit 9 [some (zR a0), some (zI x1), some (zI x2)] [zR sa0] (n, K, mr, mi) Q) : zX c k_B_habit 6 [some (zR a0), some (zI x1), some (zI x2)] [zI sx1, zR sa0] (n, K, mr, mi) Q := 
  zX.n rfl (zX.ite p_1 p_2)
theorem s_B_habit_9 {a0 : Nat} {x1 : Int} {x2 : Int} {sa0 : Nat} (k_1 : zCall c k_B_habit 12 15 [some (zR a0), some (zI x1), some (zI x2)] [zR sa0] 0 k_B_in [zI x2, zI 0, zI 2] (n, K, mr, mi) Q) : zX c k_B_habit 9 [some (zR a0), some (zI x1), some (zI x2)] [zR sa0] (n, K, mr, mi) Q := 
  zX.n rfl (zX.n rfl (zX.n rfl (zX.callQ rfl trivial trivial k_1)))
theorem s_B_habit_15 {a0 : Nat} {x1 : Int} {x2 : Int} {sa0 : Nat} {sx1 : Int} (p_1 : ¬ sx1 = 0 → zX c k_B_habit 22 [some (zR a0), some (zI x1), some (zI x2)] [zR sa0] (n, K, mr, mi) Q) (p_2 : sx1 = 0 → zX c k_B_habit 18 [some (zR a0), some (zI x1), some (zI x2)] [zR sa0] (n, K, mr, mi) Q) : zX c k_B_habit 15 [some (zR a0), some (zI x1), some (zI x2)] [zI sx1, zR sa0] (n, K, mr, mi) Q := 
  zX.n rfl (zX.itn p_1 p_2)
theorem s_B_habit_18 {a0 : Nat} {x1 : Int} {x2 : Int} {sa0 : Nat} (p_1 : zX c k_B_habit 40 [some (zR a0), some (zI x1), some (zI x2)] [zI 1, zR sa0] (n, K, mr, mi) Q) : zX c k_B_habit 18 [some (zR a0), some (zI x1), some (zI x2)] [zR sa0] (n, K, mr, mi) Q := 
  zX.n rfl (zX.n rfl p_1)
theorem s_B_habit_22 {a0 : Nat} {x1 : Int} {x2 : Int} {sa0 : Nat} {A2 : Nat} {A5 : Nat} {N7 : Nat} {j11 : Nat} (h_1 : K a0 = (2, 21)) (h_3 : mr a0 9 = A2) (h_4 : K A2 = (5, 6)) (h_6 : mr A2 1 = A5) (h_8 : K A5 = (100, N7)) (h_9 : 0 ≤ x1) (h_10 : x1 < (N7 : Int)) (h_12 : Int.toNat x1 = j11) (p_13 : ¬ (mi A5 j11) = x2 → zX c k_B_habit 39 [some (zR a0), some (zI x1), some (zI x2)] [zR sa0] (n, K, mr, mi) Q) (p_14 : (mi A5 j11) = x2 → zX c k_B_habit 35 [some (zR a0), some (zI x1), some (zI x2)] [zR sa0] (n, K, mr, mi) Q) : zX c k_B_habit 22 [some (zR a0), some (zI x1), some (zI x2)] [zR sa0] (n, K, mr, mi) Q := by
  subst h_3
  subst h_6
  subst h_12
  exact zX.n rfl (zX.g rfl h_1 (zX.g rfl h_4 (zX.n rfl (zX.g rfl ⟨N7, h_8, h_9, h_10⟩ (zX.n rfl (zX.n rfl (zX.itn p_13 p_14)))))))
theorem s_B_habit_35 {a0 : Nat} {x1 : Int} {x2 : Int} {sa0 : Nat} (p_1 : zX c k_B_habit 40 [some (zR a0), some (zI x1), some (zI x2)] [zI 5, zR sa0] (n, K, mr, mi) Q) : zX c k_B_habit 35 [some (zR a0), some (zI x1), some (zI x2)] [zR sa0] (n, K, mr, mi) Q := 
  zX.n rfl (zX.n rfl p_1)
theorem s_B_habit_39 {a0 : Nat} {x1 : Int} {x2 : Int} {sa0 : Nat} (p_1 : zX c k_B_habit 40 [some (zR a0), some (zI x1), some (zI x2)] [zI 0, zR sa0] (n, K, mr, mi) Q) : zX c k_B_habit 39 [some (zR a0), some (zI x1), some (zI x2)] [zR sa0] (n, K, mr, mi) Q := 
  zX.n rfl p_1
theorem s_B_habit_40 {a0 : Nat} {x1 : Int} {x2 : Int} {sa0 : Nat} {sx1 : Int} (h_1 : K sa0 = (2, 21)) (k_2 : zCall c k_B_habit 40 43 [some (zR a0), some (zI x1), some (zI x2)] [] 0 k_B_yes [zR sa0, zI sx1] (n, K, mr, mi) Q) : zX c k_B_habit 40 [some (zR a0), some (zI x1), some (zI x2)] [zI sx1, zR sa0] (n, K, mr, mi) Q := 
  zX.callQ rfl (congrArg Prod.fst h_1) trivial k_2
theorem s_B_habit_43 {a0 : Nat} {x1 : Int} {x2 : Int} {sx0 : Int} (p_1 : ¬ sx0 = 0 → zX c k_B_habit 48 [some (zR a0), some (zI x1), some (zI x2)] [] (n, K, mr, mi) Q) (p_2 : sx0 = 0 → zX c k_B_habit 46 [some (zR a0), some (zI x1), some (zI x2)] [] (n, K, mr, mi) Q) : zX c k_B_habit 43 [some (zR a0), some (zI x1), some (zI x2)] [zI sx0] (n, K, mr, mi) Q := 
  zX.n rfl (zX.itn p_1 p_2)
theorem s_B_habit_46 {w0 : Option zV} {w1 : Option zV} {w2 : Option zV} (p_1 : Q (.inl (some (zI 0))) (n, K, mr, mi)) : zX c k_B_habit 46 [w0, w1, w2] [] (n, K, mr, mi) Q := 
  zX.n rfl (zX.ret rfl (Or.inl rfl) p_1)
theorem s_B_habit_48 {a0 : Nat} {x1 : Int} {x2 : Int} (h_1 : K a0 = (2, 21)) (k_2 : zCall c k_B_habit 49 52 [some (zR a0), some (zI x1), some (zI x2)] [] 0 k_B_note [zR a0] (n, K, mr, mi) Q) : zX c k_B_habit 48 [some (zR a0), some (zI x1), some (zI x2)] [] (n, K, mr, mi) Q := 
  zX.n rfl (zX.callQ rfl (congrArg Prod.fst h_1) trivial k_2)
theorem s_B_habit_52 {a0 : Nat} {x1 : Int} {x2 : Int} {A2 : Nat} {A5 : Nat} {N7 : Nat} {j11 : Nat} (h_1 : K a0 = (2, 21)) (h_3 : mr a0 9 = A2) (h_4 : K A2 = (5, 6)) (h_6 : mr A2 1 = A5) (h_8 : K A5 = (100, N7)) (h_9 : 0 ≤ x1) (h_10 : x1 < (N7 : Int)) (h_12 : Int.toNat x1 = j11) (h_13 : 64 ≤ A5) (k_14 : zCall c k_B_habit 63 66 [some (zR a0), some (zI x1), some (zI x2)] [] 0 k_B_done [zR a0] (n, K, mr, zst mi A5 j11 x2) Q) : zX c k_B_habit 52 [some (zR a0), some (zI x1), some (zI x2)] [] (n, K, mr, mi) Q := by
  subst h_3
  subst h_6
  subst h_12
  exact zX.n rfl (zX.g rfl h_1 (zX.g rfl h_4 (zX.n rfl (zX.n rfl (zX.g rfl ⟨N7, h_13, h_8, h_9, h_10⟩ (zX.n rfl (zX.callQ rfl (congrArg Prod.fst h_1) trivial k_14)))))))
theorem s_B_habit_66 {w0 : Option zV} {w1 : Option zV} {w2 : Option zV} {sx0 : Int} (h_1 : sx0 = 0 ∨ sx0 = 1) (p_2 : Q (.inl (some (zI sx0))) (n, K, mr, mi)) : zX c k_B_habit 66 [w0, w1, w2] [zI sx0] (n, K, mr, mi) Q := 
  zX.ret rfl h_1 p_2
theorem s_B_keep_0 {a0 : Nat} {x1 : Int} {x2 : Int} (h_1 : K a0 = (2, 21)) (k_2 : zCall c k_B_keep 3 6 [some (zR a0), some (zI x1), some (zI x2)] [zR a0] 0 k_B_isPerson [zR a0, zI x1] (n, K, mr, mi) Q) : zX c k_B_keep 0 [some (zR a0), some (zI x1), some (zI x2)] [] (n, K, mr, mi) Q := 
  zX.n rfl (zX.n rfl (zX.n rfl (zX.callQ rfl (congrArg Prod.fst h_1) trivial k_2)))
theorem s_B_keep_6 {a0 : Nat} {x1 : Int} {x2 : Int} {sa0 : Nat} {sx1 : Int} (p_1 : ¬ sx1 = 0 → zX c k_B_keep 13 [some (zR a0), some (zI x1), some (zI x2)] [zR sa0] (n, K, mr, mi) Q) (p_2 : sx1 = 0 → zX c k_B_keep 9 [some (zR a0), some (zI x1), some (zI x2)] [zR sa0] (n, K, mr, mi) Q) : zX c k_B_keep 6 [some (zR a0), some (zI x1), some (zI x2)] [zI sx1, zR sa0] (n, K, mr, mi) Q := 
  zX.n rfl (zX.itn p_1 p_2)
theorem s_B_keep_9 {a0 : Nat} {x1 : Int} {x2 : Int} {sa0 : Nat} (p_1 : zX c k_B_keep 45 [some (zR a0), some (zI x1), some (zI x2)] [zI 1, zR sa0] (n, K, mr, mi) Q) : zX c k_B_keep 9 [some (zR a0), some (zI x1), some (zI x2)] [zR sa0] (n, K, mr, mi) Q := 
  zX.n rfl (zX.n rfl p_1)
theorem s_B_keep_13 {a0 : Nat} {x1 : Int} {x2 : Int} {sa0 : Nat} (k_1 : zCall c k_B_keep 17 20 [some (zR a0), some (zI x1), some (zI x2)] [zR sa0] 0 k_B_in [zI x2, zI 3, zI 30] (n, K, mr, mi) Q) : zX c k_B_keep 13 [some (zR a0), some (zI x1), some (zI x2)] [zR sa0] (n, K, mr, mi) Q := 
  zX.n rfl (zX.n rfl (zX.n rfl (zX.callQ rfl trivial trivial k_1)))
theorem s_B_keep_20 {a0 : Nat} {x1 : Int} {x2 : Int} {sa0 : Nat} {sx1 : Int} (p_1 : ¬ sx1 = 0 → zX c k_B_keep 27 [some (zR a0), some (zI x1), some (zI x2)] [zR sa0] (n, K, mr, mi) Q) (p_2 : sx1 = 0 → zX c k_B_keep 23 [some (zR a0), some (zI x1), some (zI x2)] [zR sa0] (n, K, mr, mi) Q) : zX c k_B_keep 20 [some (zR a0), some (zI x1), some (zI x2)] [zI sx1, zR sa0] (n, K, mr, mi) Q := 
  zX.n rfl (zX.itn p_1 p_2)
theorem s_B_keep_23 {a0 : Nat} {x1 : Int} {x2 : Int} {sa0 : Nat} (p_1 : zX c k_B_keep 45 [some (zR a0), some (zI x1), some (zI x2)] [zI 2, zR sa0] (n, K, mr, mi) Q) : zX c k_B_keep 23 [some (zR a0), some (zI x1), some (zI x2)] [zR sa0] (n, K, mr, mi) Q := 
  zX.n rfl (zX.n rfl p_1)
theorem s_B_keep_27 {a0 : Nat} {x1 : Int} {x2 : Int} {sa0 : Nat} {A2 : Nat} {A5 : Nat} {N7 : Nat} {j11 : Nat} (h_1 : K a0 = (2, 21)) (h_3 : mr a0 9 = A2) (h_4 : K A2 = (5, 6)) (h_6 : mr A2 2 = A5) (h_8 : K A5 = (100, N7)) (h_9 : 0 ≤ x1) (h_10 : x1 < (N7 : Int)) (h_12 : Int.toNat x1 = j11) (p_13 : ¬ (mi A5 j11) = x2 → zX c k_B_keep 44 [some (zR a0), some (zI x1), some (zI x2)] [zR sa0] (n, K, mr, mi) Q) (p_14 : (mi A5 j11) = x2 → zX c k_B_keep 40 [some (zR a0), some (zI x1), some (zI x2)] [zR sa0] (n, K, mr, mi) Q) : zX c k_B_keep 27 [some (zR a0), some (zI x1), some (zI x2)] [zR sa0] (n, K, mr, mi) Q := by
  subst h_3
  subst h_6
  subst h_12
  exact zX.n rfl (zX.g rfl h_1 (zX.g rfl h_4 (zX.n rfl (zX.g rfl ⟨N7, h_8, h_9, h_10⟩ (zX.n rfl (zX.n rfl (zX.itn p_13 p_14)))))))
theorem s_B_keep_40 {a0 : Nat} {x1 : Int} {x2 : Int} {sa0 : Nat} (p_1 : zX c k_B_keep 45 [some (zR a0), some (zI x1), some (zI x2)] [zI 5, zR sa0] (n, K, mr, mi) Q) : zX c k_B_keep 40 [some (zR a0), some (zI x1), some (zI x2)] [zR sa0] (n, K, mr, mi) Q := 
  zX.n rfl (zX.n rfl p_1)
theorem s_B_keep_44 {a0 : Nat} {x1 : Int} {x2 : Int} {sa0 : Nat} (p_1 : zX c k_B_keep 45 [some (zR a0), some (zI x1), some (zI x2)] [zI 0, zR sa0] (n, K, mr, mi) Q) : zX c k_B_keep 44 [some (zR a0), some (zI x1), some (zI x2)] [zR sa0] (n, K, mr, mi) Q := 
  zX.n rfl p_1
theorem s_B_keep_45 {a0 : Nat} {x1 : Int} {x2 : Int} {sa0 : Nat} {sx1 : Int} (h_1 : K sa0 = (2, 21)) (k_2 : zCall c k_B_keep 45 48 [some (zR a0), some (zI x1), some (zI x2)] [] 0 k_B_yes [zR sa0, zI sx1] (n, K, mr, mi) Q) : zX c k_B_keep 45 [some (zR a0), some (zI x1), some (zI x2)] [zI sx1, zR sa0] (n, K, mr, mi) Q := 
  zX.callQ rfl (congrArg Prod.fst h_1) trivial k_2
theorem s_B_keep_48 {a0 : Nat} {x1 : Int} {x2 : Int} {sx0 : Int} (p_1 : ¬ sx0 = 0 → zX c k_B_keep 53 [some (zR a0), some (zI x1), some (zI x2)] [] (n, K, mr, mi) Q) (p_2 : sx0 = 0 → zX c k_B_keep 51 [some (zR a0), some (zI x1), some (zI x2)] [] (n, K, mr, mi) Q) : zX c k_B_keep 48 [some (zR a0), some (zI x1), some (zI x2)] [zI sx0] (n, K, mr, mi) Q := 
  zX.n rfl (zX.itn p_1 p_2)
theorem s_B_keep_51 {w0 : Option zV} {w1 : Option zV} {w2 : Option zV} (p_1 : Q (.inl (some (zI 0))) (n, K, mr, mi)) : zX c k_B_keep 51 [w0, w1, w2] [] (n, K, mr, mi) Q := 
  zX.n rfl (zX.ret rfl (Or.inl rfl) p_1)
theorem s_B_keep_53 {a0 : Nat} {x1 : Int} {x2 : Int} (h_1 : K a0 = (2, 21)) (k_2 : zCall c k_B_keep 54 57 [some (zR a0), some (zI x1), some (zI x2)] [] 0 k_B_note [zR a0] (n, K, mr, mi) Q) : zX c k_B_keep 53 [some (zR a0), some (zI x1), some (zI x2)] [] (n, K, mr, mi) Q := 
  zX.n rfl (zX.callQ rfl (congrArg Prod.fst h_1) trivial k_2)
theorem s_B_keep_57 {a0 : Nat} {x1 : Int} {x2 : Int} {A2 : Nat} {A5 : Nat} {N7 : Nat} {j11 : Nat} (h_1 : K a0 = (2, 21)) (h_3 : mr a0 9 = A2) (h_4 : K A2 = (5, 6)) (h_6 : mr A2 2 = A5) (h_8 : K A5 = (100, N7)) (h_9 : 0 ≤ x1) (h_10 : x1 < (N7 : Int)) (h_12 : Int.toNat x1 = j11) (h_13 : 64 ≤ A5) (k_14 : zCall c k_B_keep 68 71 [some (zR a0), some (zI x1), some (zI x2)] [] 0 k_B_done [zR a0] (n, K, mr, zst mi A5 j11 x2) Q) : zX c k_B_keep 57 [some (zR a0), some (zI x1), some (zI x2)] [] (n, K, mr, mi) Q := by
  subst h_3
  subst h_6
  subst h_12
  exact zX.n rfl (zX.g rfl h_1 (zX.g rfl h_4 (zX.n rfl (zX.n rfl (zX.g rfl ⟨N7, h_13, h_8, h_9, h_10⟩ (zX.n rfl (zX.callQ rfl (congrArg Prod.fst h_1) trivial k_14)))))))
theorem s_B_keep_71 {w0 : Option zV} {w1 : Option zV} {w2 : Option zV} {sx0 : Int} (h_1 : sx0 = 0 ∨ sx0 = 1) (p_2 : Q (.inl (some (zI sx0))) (n, K, mr, mi)) : zX c k_B_keep 71 [w0, w1, w2] [zI sx0] (n, K, mr, mi) Q := 
  zX.ret rfl h_1 p_2
theorem s_B_seed_0 {a0 : Nat} {x1 : Int} {A2 : Nat} (h_1 : K a0 = (2, 21)) (h_3 : mr a0 3 = A2) (h_4 : A2 = 0 ∨ (K A2).1 ≠ 0) (p_5 : ¬ A2 = 0 → zX c k_B_seed 12 [some (zR a0), some (zI x1)] [zR a0] (n, K, mr, mi) Q) (p_6 : A2 = 0 → zX c k_B_seed 8 [some (zR a0), some (zI x1)] [zR a0] (n, K, mr, mi) Q) : zX c k_B_seed 0 [some (zR a0), some (zI x1)] [] (n, K, mr, mi) Q := by
  subst h_3
  exact zX.n rfl (zX.n rfl (zX.g rfl h_1 (zX.g rfl h_4 (zX.itn p_5 p_6))))
theorem s_B_seed_8 {a0 : Nat} {x1 : Int} {sa0 : Nat} (p_1 : zX c k_B_seed 28 [some (zR a0), some (zI x1)] [zI 1, zR sa0] (n, K, mr, mi) Q) : zX c k_B_seed 8 [some (zR a0), some (zI x1)] [zR sa0] (n, K, mr, mi) Q := 
  zX.n rfl (zX.n rfl p_1)
theorem s_B_seed_12 {a0 : Nat} {x1 : Int} {sa0 : Nat} (k_1 : zCall c k_B_seed 17 20 [some (zR a0), some (zI x1)] [zR sa0] 0 k_B_in [zI x1, zI 0, zI 65536] (n, K, mr, mi) Q) : zX c k_B_seed 12 [some (zR a0), some (zI x1)] [zR sa0] (n, K, mr, mi) Q := 
  zX.n rfl (zX.n rfl (zX.n rfl (zX.callQ rfl trivial trivial k_1)))
theorem s_B_seed_20 {a0 : Nat} {x1 : Int} {sa0 : Nat} {sx1 : Int} (p_1 : sx1 = 0 → zX c k_B_seed 27 [some (zR a0), some (zI x1)] [zR sa0] (n, K, mr, mi) Q) (p_2 : ¬ sx1 = 0 → zX c k_B_seed 23 [some (zR a0), some (zI x1)] [zR sa0] (n, K, mr, mi) Q) : zX c k_B_seed 20 [some (zR a0), some (zI x1)] [zI sx1, zR sa0] (n, K, mr, mi) Q := 
  zX.n rfl (zX.ite p_1 p_2)
theorem s_B_seed_23 {a0 : Nat} {x1 : Int} {sa0 : Nat} (p_1 : zX c k_B_seed 28 [some (zR a0), some (zI x1)] [zI 0, zR sa0] (n, K, mr, mi) Q) : zX c k_B_seed 23 [some (zR a0), some (zI x1)] [zR sa0] (n, K, mr, mi) Q := 
  zX.n rfl (zX.n rfl p_1)
theorem s_B_seed_27 {a0 : Nat} {x1 : Int} {sa0 : Nat} (p_1 : zX c k_B_seed 28 [some (zR a0), some (zI x1)] [zI 2, zR sa0] (n, K, mr, mi) Q) : zX c k_B_seed 27 [some (zR a0), some (zI x1)] [zR sa0] (n, K, mr, mi) Q := 
  zX.n rfl p_1
theorem s_B_seed_28 {a0 : Nat} {x1 : Int} {sa0 : Nat} {sx1 : Int} (h_1 : K sa0 = (2, 21)) (k_2 : zCall c k_B_seed 28 31 [some (zR a0), some (zI x1)] [] 0 k_B_yes [zR sa0, zI sx1] (n, K, mr, mi) Q) : zX c k_B_seed 28 [some (zR a0), some (zI x1)] [zI sx1, zR sa0] (n, K, mr, mi) Q := 
  zX.callQ rfl (congrArg Prod.fst h_1) trivial k_2
theorem s_B_seed_31 {a0 : Nat} {x1 : Int} {sx0 : Int} (p_1 : ¬ sx0 = 0 → zX c k_B_seed 36 [some (zR a0), some (zI x1)] [] (n, K, mr, mi) Q) (p_2 : sx0 = 0 → zX c k_B_seed 34 [some (zR a0), some (zI x1)] [] (n, K, mr, mi) Q) : zX c k_B_seed 31 [some (zR a0), some (zI x1)] [zI sx0] (n, K, mr, mi) Q := 
  zX.n rfl (zX.itn p_1 p_2)
theorem s_B_seed_34 {w0 : Option zV} {w1 : Option zV} (p_1 : Q (.inl (some (zI 0))) (n, K, mr, mi)) : zX c k_B_seed 34 [w0, w1] [] (n, K, mr, mi) Q := 
  zX.n rfl (zX.ret rfl (Or.inl rfl) p_1)
theorem s_B_seed_36 {a0 : Nat} {x1 : Int} {A2 : Nat} (h_1 : K a0 = (2, 21)) (h_3 : mr a0 9 = A2) (h_4 : K A2 = (5, 6)) (h_5 : 64 ≤ A2) (p_6 : Q (.inl (some (zI 1))) (n, K, mr, zst mi A2 5 x1)) : zX c k_B_seed 36 [some (zR a0), some (zI x1)] [] (n, K, mr, mi) Q := by
  subst h_3
  exact zX.n rfl (zX.g rfl h_1 (zX.n rfl (zX.g rfl ⟨h_5, h_4⟩ (zX.n rfl (zX.ret rfl (Or.inr rfl) p_6)))))
theorem s_B_undo_0 {a0 : Nat} (h_1 : K a0 = (2, 21)) (p_2 : ¬ (mi a0 8) = 0 → zX c k_B_undo 13 [some (zR a0)] [zR a0] (n, K, mr, mi) Q) (p_3 : (mi a0 8) = 0 → zX c k_B_undo 8 [some (zR a0)] [zR a0] (n, K, mr, mi) Q) : zX c k_B_undo 0 [some (zR a0)] [] (n, K, mr, mi) Q := 
  zX.n rfl (zX.n rfl (zX.g rfl h_1 (zX.n rfl (zX.itn p_2 p_3))))
theorem s_B_undo_8 {a0 : Nat} {sa0 : Nat} (p_1 : zX c k_B_undo 14 [some (zR a0)] [zI 6, zR sa0] (n, K, mr, mi) Q) : zX c k_B_undo 8 [some (zR a0)] [zR sa0] (n, K, mr, mi) Q := 
  zX.n rfl (zX.n rfl p_1)
theorem s_B_undo_13 {a0 : Nat} {sa0 : Nat} (p_1 : zX c k_B_undo 14 [some (zR a0)] [zI 0, zR sa0] (n, K, mr, mi) Q) : zX c k_B_undo 13 [some (zR a0)] [zR sa0] (n, K, mr, mi) Q := 
  zX.n rfl p_1
theorem s_B_undo_14 {a0 : Nat} {sa0 : Nat} {sx1 : Int} (h_1 : K sa0 = (2, 21)) (k_2 : zCall c k_B_undo 14 17 [some (zR a0)] [] 0 k_B_yes [zR sa0, zI sx1] (n, K, mr, mi) Q) : zX c k_B_undo 14 [some (zR a0)] [zI sx1, zR sa0] (n, K, mr, mi) Q := 
  zX.callQ rfl (congrArg Prod.fst h_1) trivial k_2
theorem s_B_undo_17 {a0 : Nat} {sx0 : Int} (p_1 : ¬ sx0 = 0 → zX c k_B_undo 22 [some (zR a0)] [] (n, K, mr, mi) Q) (p_2 : sx0 = 0 → zX c k_B_undo 20 [some (zR a0)] [] (n, K, mr, mi) Q) : zX c k_B_undo 17 [some (zR a0)] [zI sx0] (n, K, mr, mi) Q := 
  zX.n rfl (zX.itn p_1 p_2)
theorem s_B_undo_20 {w0 : Option zV} (p_1 : Q (.inl (some (zI 0))) (n, K, mr, mi)) : zX c k_B_undo 20 [w0] [] (n, K, mr, mi) Q := 
  zX.n rfl (zX.ret rfl (Or.inl rfl) p_1)
theorem s_B_undo_22 {a0 : Nat} {A3 : Nat} {A5 : Nat} {N7 : Nat} {j11 : Nat} {A13 : Nat} (h_1 : K a0 = (2, 21)) (h_2 : 64 ≤ a0) (h_4 : mr a0 9 = A3) (h_6 : mr a0 16 = A5) (h_8 : K A5 = (109, N7)) (h_9 : 0 ≤ ((zst mi a0 8 (zw ((mi a0 8) - 1))) a0 8)) (h_10 : ((zst mi a0 8 (zw ((mi a0 8) - 1))) a0 8) < (N7 : Int)) (h_12 : Int.toNat ((zst mi a0 8 (zw ((mi a0 8) - 1))) a0 8) = j11) (h_14 : mr A5 j11 = A13) (h_15 : K A3 = (5, 6)) (k_16 : zCall c k_B_undo 45 48 [some (zR a0)] [] 0 k_Pl_become [zR A3, zR A13] (n, K, mr, zst mi a0 8 (zw ((mi a0 8) - 1))) Q) : zX c k_B_undo 22 [some (zR a0)] [] (n, K, mr, mi) Q := by
  subst h_4
  subst h_6
  subst h_12
  subst h_14
  exact zX.n rfl (zX.n rfl (zX.g rfl h_1 (zX.n rfl (zX.n rfl (zX.g rfl ⟨h_2, h_1⟩ (zX.n rfl (zX.g rfl h_1 (zX.n rfl (zX.g rfl h_1 (zX.n rfl (zX.g rfl h_1 (zX.g rfl ⟨N7, h_8, h_9, h_10⟩ (zX.callQ rfl (congrArg Prod.fst h_15) trivial k_16)))))))))))))
theorem s_B_undo_48 {a0 : Nat} (h_1 : K a0 = (2, 21)) (k_2 : zCall c k_B_undo 49 52 [some (zR a0)] [] 0 k_B_runMonth [zR a0] (n, K, mr, mi) Q) : zX c k_B_undo 48 [some (zR a0)] [] (n, K, mr, mi) Q := 
  zX.n rfl (zX.callQ rfl (congrArg Prod.fst h_1) trivial k_2)
theorem s_B_undo_52 {w0 : Option zV} (p_1 : Q (.inl (some (zI 1))) (n, K, mr, mi)) : zX c k_B_undo 52 [w0] [] (n, K, mr, mi) Q := 
  zX.n rfl (zX.ret rfl (Or.inr rfl) p_1)
theorem s_B_mark_0 {a0 : Nat} (h_1 : K a0 = (2, 21)) (k_2 : zCall c k_B_mark 1 4 [some (zR a0)] [] 0 k_B_anew [zR a0] (n, K, mr, mi) Q) : zX c k_B_mark 0 [some (zR a0)] [] (n, K, mr, mi) Q := 
  zX.n rfl (zX.callQ rfl (congrArg Prod.fst h_1) trivial k_2)
theorem s_B_mark_4 {a0 : Nat} {A2 : Nat} (h_1 : K a0 = (2, 21)) (h_3 : mr a0 3 = A2) (h_4 : A2 = 0 ∨ (K A2).1 ≠ 0) (p_5 : ¬ A2 = 0 → zX c k_B_mark 17 [some (zR a0)] [] (n, K, mr, mi) Q) (p_6 : A2 = 0 → zX c k_B_mark 11 [some (zR a0)] [] (n, K, mr, mi) Q) : zX c k_B_mark 4 [some (zR a0)] [] (n, K, mr, mi) Q := by
  subst h_3
  exact zX.n rfl (zX.g rfl h_1 (zX.g rfl h_4 (zX.itn p_5 p_6)))
theorem s_B_mark_11 {a0 : Nat} (h_1 : K a0 = (2, 21)) (k_2 : zCall c k_B_mark 13 16 [some (zR a0)] [] 0 k_B_no [zR a0, zI 1] (n, K, mr, mi) Q) : zX c k_B_mark 11 [some (zR a0)] [] (n, K, mr, mi) Q := 
  zX.n rfl (zX.n rfl (zX.callQ rfl (congrArg Prod.fst h_1) trivial k_2))
theorem s_B_mark_16 {w0 : Option zV} {sx0 : Int} (p_1 : Q (.inl (some (zI sx0))) (n, K, mr, mi)) : zX c k_B_mark 16 [w0] [zI sx0] (n, K, mr, mi) Q := 
  zX.ret rfl trivial p_1
theorem s_B_mark_17 {a0 : Nat} (h_1 : K a0 = (2, 21)) (p_2 : ¬ (mi a0 7) = (3 : Int) → zX c k_B_mark 31 [some (zR a0)] [] (n, K, mr, mi) Q) (p_3 : (mi a0 7) = (3 : Int) → zX c k_B_mark 25 [some (zR a0)] [] (n, K, mr, mi) Q) : zX c k_B_mark 17 [some (zR a0)] [] (n, K, mr, mi) Q := 
  zX.n rfl (zX.g rfl h_1 (zX.n rfl (zX.n rfl (zX.itn p_2 p_3))))
theorem s_B_mark_25 {a0 : Nat} (h_1 : K a0 = (2, 21)) (k_2 : zCall c k_B_mark 27 30 [some (zR a0)] [] 0 k_B_no [zR a0, zI 3] (n, K, mr, mi) Q) : zX c k_B_mark 25 [some (zR a0)] [] (n, K, mr, mi) Q := 
  zX.n rfl (zX.n rfl (zX.callQ rfl (congrArg Prod.fst h_1) trivial k_2))
theorem s_B_mark_30 {w0 : Option zV} {sx0 : Int} (p_1 : Q (.inl (some (zI sx0))) (n, K, mr, mi)) : zX c k_B_mark 30 [w0] [zI sx0] (n, K, mr, mi) Q := 
  zX.ret rfl trivial p_1
theorem s_B_mark_31 {a0 : Nat} {A2 : Nat} {N4 : Nat} {j8 : Nat} {A10 : Nat} {A12 : Nat} (h_1 : K a0 = (2, 21)) (h_3 : mr a0 17 = A2) (h_5 : K A2 = (109, N4)) (h_6 : 0 ≤ (mi a0 7)) (h_7 : (mi a0 7) < (N4 : Int)) (h_9 : Int.toNat (mi a0 7) = j8) (h_11 : mr A2 j8 = A10) (h_13 : mr a0 9 = A12) (h_14 : K A10 = (5, 6)) (k_15 : zCall c k_B_mark 44 47 [some (zR a0)] [] 0 k_Pl_become [zR A10, zR A12] (n, K, mr, mi) Q) : zX c k_B_mark 31 [some (zR a0)] [] (n, K, mr, mi) Q := by
  subst h_3
  subst h_9
  subst h_11
  subst h_13
  exact zX.n rfl (zX.g rfl h_1 (zX.n rfl (zX.g rfl h_1 (zX.g rfl ⟨N4, h_5, h_6, h_7⟩ (zX.n rfl (zX.g rfl h_1 (zX.callQ rfl (congrArg Prod.fst h_14) trivial k_15)))))))
theorem s_B_mark_47 {a0 : Nat} (h_1 : K a0 = (2, 21)) (h_2 : 64 ≤ a0) (p_3 : Q (.inl (some (zI (zw (((zst mi a0 7 (zw ((mi a0 7) + 1))) a0 7) - 1))))) (n, K, mr, zst mi a0 7 (zw ((mi a0 7) + 1)))) : zX c k_B_mark 47 [some (zR a0)] [] (n, K, mr, mi) Q := 
  zX.n rfl (zX.n rfl (zX.g rfl h_1 (zX.n rfl (zX.n rfl (zX.g rfl ⟨h_2, h_1⟩ (zX.n rfl (zX.g rfl h_1 (zX.n rfl (zX.n rfl (zX.ret rfl trivial p_3))))))))))
theorem s_B_back_0 {a0 : Nat} {x1 : Int} (h_1 : K a0 = (2, 21)) (k_2 : zCall c k_B_back 9 12 [some (zR a0), some (zI x1)] [zR a0] 0 k_B_in [zI x1, zI 0, zI (zw ((mi a0 7) - 1))] (n, K, mr, mi) Q) : zX c k_B_back 0 [some (zR a0), some (zI x1)] [] (n, K, mr, mi) Q := 
  zX.n rfl (zX.n rfl (zX.n rfl (zX.n rfl (zX.g rfl h_1 (zX.n rfl (zX.n rfl (zX.callQ rfl trivial trivial k_2)))))))
theorem s_B_back_12 {a0 : Nat} {x1 : Int} {sa0 : Nat} {sx1 : Int} (p_1 : sx1 = 0 → zX c k_B_back 19 [some (zR a0), some (zI x1)] [zR sa0] (n, K, mr, mi) Q) (p_2 : ¬ sx1 = 0 → zX c k_B_back 15 [some (zR a0), some (zI x1)] [zR sa0] (n, K, mr, mi) Q) : zX c k_B_back 12 [some (zR a0), some (zI x1)] [zI sx1, zR sa0] (n, K, mr, mi) Q := 
  zX.n rfl (zX.ite p_1 p_2)
theorem s_B_back_15 {a0 : Nat} {x1 : Int} {sa0 : Nat} (p_1 : zX c k_B_back 20 [some (zR a0), some (zI x1)] [zI 0, zR sa0] (n, K, mr, mi) Q) : zX c k_B_back 15 [some (zR a0), some (zI x1)] [zR sa0] (n, K, mr, mi) Q := 
  zX.n rfl (zX.n rfl p_1)
theorem s_B_back_19 {a0 : Nat} {x1 : Int} {sa0 : Nat} (p_1 : zX c k_B_back 20 [some (zR a0), some (zI x1)] [zI 1, zR sa0] (n, K, mr, mi) Q) : zX c k_B_back 19 [some (zR a0), some (zI x1)] [zR sa0] (n, K, mr, mi) Q := 
  zX.n rfl p_1
theorem s_B_back_20 {a0 : Nat} {x1 : Int} {sa0 : Nat} {sx1 : Int} (h_1 : K sa0 = (2, 21)) (k_2 : zCall c k_B_back 20 23 [some (zR a0), some (zI x1)] [] 0 k_B_yes [zR sa0, zI sx1] (n, K, mr, mi) Q) : zX c k_B_back 20 [some (zR a0), some (zI x1)] [zI sx1, zR sa0] (n, K, mr, mi) Q := 
  zX.callQ rfl (congrArg Prod.fst h_1) trivial k_2
theorem s_B_back_23 {a0 : Nat} {x1 : Int} {sx0 : Int} (p_1 : ¬ sx0 = 0 → zX c k_B_back 28 [some (zR a0), some (zI x1)] [] (n, K, mr, mi) Q) (p_2 : sx0 = 0 → zX c k_B_back 26 [some (zR a0), some (zI x1)] [] (n, K, mr, mi) Q) : zX c k_B_back 23 [some (zR a0), some (zI x1)] [zI sx0] (n, K, mr, mi) Q := 
  zX.n rfl (zX.itn p_1 p_2)
theorem s_B_back_26 {w0 : Option zV} {w1 : Option zV} (p_1 : Q (.inl (some (zI 0))) (n, K, mr, mi)) : zX c k_B_back 26 [w0, w1] [] (n, K, mr, mi) Q := 
  zX.n rfl (zX.ret rfl (Or.inl rfl) p_1)
theorem s_B_back_28 {a0 : Nat} {x1 : Int} {A2 : Nat} {A4 : Nat} {N6 : Nat} {j10 : Nat} {A12 : Nat} (h_1 : K a0 = (2, 21)) (h_3 : mr a0 9 = A2) (h_5 : mr a0 17 = A4) (h_7 : K A4 = (109, N6)) (h_8 : 0 ≤ x1) (h_9 : x1 < (N6 : Int)) (h_11 : Int.toNat x1 = j10) (h_13 : mr A4 j10 = A12) (h_14 : K A2 = (5, 6)) (k_15 : zCall c k_B_back 38 41 [some (zR a0), some (zI x1)] [] 0 k_Pl_become [zR A2, zR A12] (n, K, mr, mi) Q) : zX c k_B_back 28 [some (zR a0), some (zI x1)] [] (n, K, mr, mi) Q := by
  subst h_3
  subst h_5
  subst h_11
  subst h_13
  exact zX.n rfl (zX.g rfl h_1 (zX.n rfl (zX.g rfl h_1 (zX.n rfl (zX.g rfl ⟨N6, h_7, h_8, h_9⟩ (zX.callQ rfl (congrArg Prod.fst h_14) trivial k_15))))))
theorem s_B_back_41 {a0 : Nat} {w1 : Option zV} (h_1 : K a0 = (2, 21)) (h_2 : 64 ≤ a0) (k_3 : zCall c k_B_back 47 50 [some (zR a0), w1] [] 0 k_B_runMonth [zR a0] (n, K, mr, zst mi a0 8 0) Q) : zX c k_B_back 41 [some (zR a0), w1] [] (n, K, mr, mi) Q := 
  zX.n rfl (zX.n rfl (zX.g rfl ⟨h_2, h_1⟩ (zX.n rfl (zX.callQ rfl (congrArg Prod.fst h_1) trivial k_3))))
theorem s_B_back_50 {w0 : Option zV} {w1 : Option zV} (p_1 : Q (.inl (some (zI 1))) (n, K, mr, mi)) : zX c k_B_back 50 [w0, w1] [] (n, K, mr, mi) Q := 
  zX.n rfl (zX.ret rfl (Or.inr rfl) p_1)
theorem s_B_led_0 {a0 : Nat} {x1 : Int} {w2 : Option zV} {w3 : Option zV} (p_1 : zX c k_B_led 4 [some (zR a0), some (zI x1), some (zI 0), some (zI 0)] [] (n, K, mr, mi) Q) : zX c k_B_led 0 [some (zR a0), some (zI x1), w2, w3] [] (n, K, mr, mi) Q := 
  zX.n rfl (zX.n rfl (zX.n rfl (zX.n rfl p_1)))
theorem s_B_led_4 {a0 : Nat} {x1 : Int} {x2 : Int} {x3 : Int} {A2 : Nat} (h_1 : K a0 = (2, 21)) (h_3 : mr a0 3 = A2) (h_4 : A2 = 0 ∨ (K A2).1 ≠ 0) (p_5 : A2 = 0 → zX c k_B_led 49 [some (zR a0), some (zI x1), some (zI x2), some (zI x3)] [] (n, K, mr, mi) Q) (p_6 : ¬ A2 = 0 → zX c k_B_led 11 [some (zR a0), some (zI x1), some (zI x2), some (zI x3)] [] (n, K, mr, mi) Q) : zX c k_B_led 4 [some (zR a0), some (zI x1), some (zI x2), some (zI x3)] [] (n, K, mr, mi) Q := by
  subst h_3
  exact zX.n rfl (zX.g rfl h_1 (zX.g rfl h_4 (zX.ite p_5 p_6)))
theorem s_B_led_11 {a0 : Nat} {x1 : Int} {x2 : Int} {x3 : Int} {A2 : Nat} (h_1 : K a0 = (2, 21)) (h_3 : mr a0 3 = A2) (h_4 : K A2 = (18, 12)) (p_5 : (mi A2 8) ≤ x3 → zX c k_B_led 49 [some (zR a0), some (zI x1), some (zI x2), some (zI x3)] [] (n, K, mr, mi) Q) (p_6 : ¬ (mi A2 8) ≤ x3 → zX c k_B_led 22 [some (zR a0), some (zI x1), some (zI x2), some (zI x3)] [] (n, K, mr, mi) Q) : zX c k_B_led 11 [some (zR a0), some (zI x1), some (zI x2), some (zI x3)] [] (n, K, mr, mi) Q := by
  subst h_3
  exact zX.n rfl (zX.n rfl (zX.g rfl h_1 (zX.g rfl h_4 (zX.n rfl (zX.ite p_5 p_6)))))
theorem s_B_led_22 {a0 : Nat} {x1 : Int} {x2 : Int} {x3 : Int} (h_1 : K a0 = (2, 21)) (k_2 : zCall c k_B_led 24 27 [some (zR a0), some (zI x1), some (zI x2), some (zI x3)] [] 0 k_B_sinsOf [zR a0, zI x3] (n, K, mr, mi) Q) : zX c k_B_led 22 [some (zR a0), some (zI x1), some (zI x2), some (zI x3)] [] (n, K, mr, mi) Q := 
  zX.n rfl (zX.n rfl (zX.callQ rfl (congrArg Prod.fst h_1) trivial k_2))
theorem s_B_led_27 {a0 : Nat} {x1 : Int} {x2 : Int} {x3 : Int} {sx0 : Int} (p_1 : ¬ sx0 = 0 → zX c k_B_led 33 [some (zR a0), some (zI x1), some (zI x2), some (zI x3)] [] (n, K, mr, mi) Q) (p_2 : sx0 = 0 → zX c k_B_led 30 [some (zR a0), some (zI x1), some (zI x2), some (zI x3)] [] (n, K, mr, mi) Q) : zX c k_B_led 27 [some (zR a0), some (zI x1), some (zI x2), some (zI x3)] [zI sx0] (n, K, mr, mi) Q := 
  zX.n rfl (zX.itn p_1 p_2)
theorem s_B_led_30 {a0 : Nat} {x1 : Int} {x2 : Int} {x3 : Int} (p_1 : zX c k_B_led 43 [some (zR a0), some (zI x1), some (zI x2), some (zI x3)] [] (n, K, mr, mi) Q) : zX c k_B_led 30 [some (zR a0), some (zI x1), some (zI x2), some (zI x3)] [] (n, K, mr, mi) Q := 
  zX.n rfl p_1
theorem s_B_led_33 {a0 : Nat} {x1 : Int} {x2 : Int} {x3 : Int} (p_1 : ¬ x2 = x1 → zX c k_B_led 40 [some (zR a0), some (zI x1), some (zI x2), some (zI x3)] [] (n, K, mr, mi) Q) (p_2 : x2 = x1 → zX c k_B_led 38 [some (zR a0), some (zI x1), some (zI x2), some (zI x3)] [] (n, K, mr, mi) Q) : zX c k_B_led 33 [some (zR a0), some (zI x1), some (zI x2), some (zI x3)] [] (n, K, mr, mi) Q := 
  zX.n rfl (zX.n rfl (zX.n rfl (zX.itn p_1 p_2)))
theorem s_B_led_38 {w0 : Option zV} {w1 : Option zV} {w2 : Option zV} {x3 : Int} (p_1 : Q (.inl (some (zI x3))) (n, K, mr, mi)) : zX c k_B_led 38 [w0, w1, w2, some (zI x3)] [] (n, K, mr, mi) Q := 
  zX.n rfl (zX.ret rfl trivial p_1)
theorem s_B_led_40 {a0 : Nat} {x1 : Int} {x2 : Int} {x3 : Int} (p_1 : zX c k_B_led 43 [some (zR a0), some (zI x1), some (zI (zw (x2 + 1))), some (zI x3)] [] (n, K, mr, mi) Q) : zX c k_B_led 40 [some (zR a0), some (zI x1), some (zI x2), some (zI x3)] [] (n, K, mr, mi) Q := 
  zX.n rfl p_1
theorem s_B_led_43 {a0 : Nat} {x1 : Int} {x2 : Int} {x3 : Int} (p_1 : zX c k_B_led 4 [some (zR a0), some (zI x1), some (zI x2), some (zI (zw (x3 + 1)))] [] (n, K, mr, mi) Q) : zX c k_B_led 43 [some (zR a0), some (zI x1), some (zI x2), some (zI x3)] [] (n, K, mr, mi) Q := 
  zX.n rfl (zX.n rfl p_1)
theorem s_B_led_49 {w0 : Option zV} {w1 : Option zV} {w2 : Option zV} {w3 : Option zV} (p_1 : Q (.inr n) (n + 1, zup K n (24, 0), zup mr n (fun _ => 0), zup mi n (fun _ => 0))) : zX c k_B_led 49 [w0, w1, w2, w3] [] (n, K, mr, mi) Q := 
  zX.thr rfl trivial rfl p_1
theorem s_B_size_0 {a0 : Nat} {x1 : Int} (p_1 : ¬ x1 = (11 : Int) → zX c k_B_size 11 [some (zR a0), some (zI x1)] [] (n, K, mr, mi) Q) (p_2 : x1 = (11 : Int) → zX c k_B_size 6 [some (zR a0), some (zI x1)] [] (n, K, mr, mi) Q) : zX c k_B_size 0 [some (zR a0), some (zI x1)] [] (n, K, mr, mi) Q := 
  zX.n rfl (zX.n rfl (zX.n rfl (zX.itn p_1 p_2)))
theorem s_B_size_6 {a0 : Nat} {w1 : Option zV} (h_1 : K a0 = (2, 21)) (p_2 : Q (.inl (some (zI (mi a0 1)))) (n, K, mr, mi)) : zX c k_B_size 6 [some (zR a0), w1] [] (n, K, mr, mi) Q := 
  zX.n rfl (zX.g rfl h_1 (zX.ret rfl trivial p_2))
theorem s_B_size_11 {a0 : Nat} {x1 : Int} {A2 : Nat} (h_1 : K a0 = (2, 21)) (h_3 : mr a0 3 = A2) (h_4 : A2 = 0 ∨ (K A2).1 ≠ 0) (p_5 : ¬ A2 = 0 → zX c k_B_size 34 [some (zR a0), some (zI x1)] [] (n, K, mr, mi) Q) (p_6 : A2 = 0 → zX c k_B_size 18 [some (zR a0), some (zI x1)] [] (n, K, mr, mi) Q) : zX c k_B_size 11 [some (zR a0), some (zI x1)] [] (n, K, mr, mi) Q := by
  subst h_3
  exact zX.n rfl (zX.g rfl h_1 (zX.g rfl h_4 (zX.itn p_5 p_6)))
theorem s_B_size_18 {w0 : Option zV} {x1 : Int} (k_1 : zCall c k_B_size 22 25 [w0, some (zI x1)] [] 0 k_B_in [zI x1, zI 0, zI 10] (n, K, mr, mi) Q) : zX c k_B_size 18 [w0, some (zI x1)] [] (n, K, mr, mi) Q := 
  zX.n rfl (zX.n rfl (zX.n rfl (zX.callQ rfl trivial trivial k_1)))
theorem s_B_size_25 {w0 : Option zV} {w1 : Option zV} {sx0 : Int} (p_1 : sx0 = 0 → zX c k_B_size 32 [w0, w1] [] (n, K, mr, mi) Q) (p_2 : ¬ sx0 = 0 → zX c k_B_size 28 [w0, w1] [] (n, K, mr, mi) Q) : zX c k_B_size 25 [w0, w1] [zI sx0] (n, K, mr, mi) Q := 
  zX.n rfl (zX.ite p_1 p_2)
theorem s_B_size_28 {w0 : Option zV} {w1 : Option zV} (p_1 : zX c k_B_size 33 [w0, w1] [zI 0] (n, K, mr, mi) Q) : zX c k_B_size 28 [w0, w1] [] (n, K, mr, mi) Q := 
  zX.n rfl (zX.n rfl p_1)
theorem s_B_size_32 {w0 : Option zV} {w1 : Option zV} (p_1 : zX c k_B_size 33 [w0, w1] [zI ((-1))] (n, K, mr, mi) Q) : zX c k_B_size 32 [w0, w1] [] (n, K, mr, mi) Q := 
  zX.n rfl p_1
theorem s_B_size_33 {w0 : Option zV} {w1 : Option zV} {sx0 : Int} (p_1 : Q (.inl (some (zI sx0))) (n, K, mr, mi)) : zX c k_B_size 33 [w0, w1] [zI sx0] (n, K, mr, mi) Q := 
  zX.ret rfl trivial p_1
theorem s_B_size_34 {a0 : Nat} {x1 : Int} (p_1 : x1 = 0 → zX c k_B_size 92 [some (zR a0), some (zI x1)] [] (n, K, mr, mi) Q) (p_2 : x1 = 1 → zX c k_B_size 100 [some (zR a0), some (zI x1)] [] (n, K, mr, mi) Q) (p_3 : x1 = 2 → zX c k_B_size 108 [some (zR a0), some (zI x1)] [] (n, K, mr, mi) Q) (p_4 : x1 = 3 → zX c k_B_size 116 [some (zR a0), some (zI x1)] [] (n, K, mr, mi) Q) (p_5 : x1 = 4 → zX c k_B_size 124 [some (zR a0), some (zI x1)] [] (n, K, mr, mi) Q) (p_6 : x1 = 5 → zX c k_B_size 132 [some (zR a0), some (zI x1)] [] (n, K, mr, mi) Q) (p_7 : x1 = 6 → zX c k_B_size 148 [some (zR a0), some (zI x1)] [] (n, K, mr, mi) Q) (p_8 : x1 = 7 → zX c k_B_size 156 [some (zR a0), some (zI x1)] [] (n, K, mr, mi) Q) (p_9 : x1 = 8 → zX c k_B_size 164 [some (zR a0), some (zI x1)] [] (n, K, mr, mi) Q) (p_10 : x1 = 9 → zX c k_B_size 172 [some (zR a0), some (zI x1)] [] (n, K, mr, mi) Q) (p_11 : x1 = 10 → zX c k_B_size 177 [some (zR a0), some (zI x1)] [] (n, K, mr, mi) Q) (p_12 : x1 < 0 ∨ 10 < x1 → zX c k_B_size 182 [some (zR a0), some (zI x1)] [] (n, K, mr, mi) Q) : zX c k_B_size 34 [some (zR a0), some (zI x1)] [] (n, K, mr, mi) Q := 
  zX.n rfl (zX.n rfl (zX.tsw (fun k hk hx => match k, hk, hx with | 0, _, hx => p_1 hx | 1, _, hx => p_2 hx | 2, _, hx => p_3 hx | 3, _, hx => p_4 hx | 4, _, hx => p_5 hx | 5, _, hx => p_6 hx | 6, _, hx => p_7 hx | 7, _, hx => p_8 hx | 8, _, hx => p_9 hx | 9, _, hx => p_10 hx | 10, _, hx => p_11 hx | k + 11, hk, _ => absurd hk (by omega)) p_12))
theorem s_B_size_92 {a0 : Nat} {w1 : Option zV} {A2 : Nat} (h_1 : K a0 = (2, 21)) (h_3 : mr a0 3 = A2) (h_4 : K A2 = (18, 12)) (p_5 : Q (.inl (some (zI (mi A2 4)))) (n, K, mr, mi)) : zX c k_B_size 92 [some (zR a0), w1] [] (n, K, mr, mi) Q := by
  subst h_3
  exact zX.n rfl (zX.g rfl h_1 (zX.g rfl h_4 (zX.ret rfl trivial p_5)))
theorem s_B_size_100 {a0 : Nat} {w1 : Option zV} {A2 : Nat} (h_1 : K a0 = (2, 21)) (h_3 : mr a0 3 = A2) (h_4 : K A2 = (18, 12)) (p_5 : Q (.inl (some (zI (mi A2 5)))) (n, K, mr, mi)) : zX c k_B_size 100 [some (zR a0), w1] [] (n, K, mr, mi) Q := by
  subst h_3
  exact zX.n rfl (zX.g rfl h_1 (zX.g rfl h_4 (zX.ret rfl trivial p_5)))
theorem s_B_size_108 {a0 : Nat} {w1 : Option zV} {A2 : Nat} (h_1 : K a0 = (2, 21)) (h_3 : mr a0 3 = A2) (h_4 : K A2 = (18, 12)) (p_5 : Q (.inl (some (zI (mi A2 6)))) (n, K, mr, mi)) : zX c k_B_size 108 [some (zR a0), w1] [] (n, K, mr, mi) Q := by
  subst h_3
  exact zX.n rfl (zX.g rfl h_1 (zX.g rfl h_4 (zX.ret rfl trivial p_5)))
theorem s_B_size_116 {a0 : Nat} {w1 : Option zV} {A2 : Nat} (h_1 : K a0 = (2, 21)) (h_3 : mr a0 3 = A2) (h_4 : K A2 = (18, 12)) (p_5 : Q (.inl (some (zI (mi A2 7)))) (n, K, mr, mi)) : zX c k_B_size 116 [some (zR a0), w1] [] (n, K, mr, mi) Q := by
  subst h_3
  exact zX.n rfl (zX.g rfl h_1 (zX.g rfl h_4 (zX.ret rfl trivial p_5)))
theorem s_B_size_124 {a0 : Nat} {w1 : Option zV} {A2 : Nat} (h_1 : K a0 = (2, 21)) (h_3 : mr a0 3 = A2) (h_4 : K A2 = (18, 12)) (p_5 : Q (.inl (some (zI (mi A2 8)))) (n, K, mr, mi)) : zX c k_B_size 124 [some (zR a0), w1] [] (n, K, mr, mi) Q := by
  subst h_3
  exact zX.n rfl (zX.g rfl h_1 (zX.g rfl h_4 (zX.ret rfl trivial p_5)))
theorem s_B_size_132 {a0 : Nat} {w1 : Option zV} {A2 : Nat} {A5 : Nat} (h_1 : K a0 = (2, 21)) (h_3 : mr a0 3 = A2) (h_4 : K A2 = (18, 12)) (h_6 : mr a0 9 = A5) (h_7 : K A5 = (5, 6)) (p_8 : Q (.inl (some (zI (zw ((mi A2 9) + (mi A5 4)))))) (n, K, mr, mi)) : zX c k_B_size 132 [some (zR a0), w1] [] (n, K, mr, mi) Q := by
  subst h_3
  subst h_6
  exact zX.n rfl (zX.g rfl h_1 (zX.g rfl h_4 (zX.n rfl (zX.g rfl h_1 (zX.g rfl h_7 (zX.n rfl (zX.ret rfl trivial p_8)))))))
theorem s_B_size_148 {a0 : Nat} {w1 : Option zV} {A2 : Nat} (h_1 : K a0 = (2, 21)) (h_3 : mr a0 3 = A2) (h_4 : K A2 = (18, 12)) (p_5 : Q (.inl (some (zI (mi A2 10)))) (n, K, mr, mi)) : zX c k_B_size 148 [some (zR a0), w1] [] (n, K, mr, mi) Q := by
  subst h_3
  exact zX.n rfl (zX.g rfl h_1 (zX.g rfl h_4 (zX.ret rfl trivial p_5)))
theorem s_B_size_156 {a0 : Nat} {w1 : Option zV} {A2 : Nat} (h_1 : K a0 = (2, 21)) (h_3 : mr a0 3 = A2) (h_4 : K A2 = (18, 12)) (p_5 : Q (.inl (some (zI (mi A2 11)))) (n, K, mr, mi)) : zX c k_B_size 156 [some (zR a0), w1] [] (n, K, mr, mi) Q := by
  subst h_3
  exact zX.n rfl (zX.g rfl h_1 (zX.g rfl h_4 (zX.ret rfl trivial p_5)))
theorem s_B_size_164 {a0 : Nat} {w1 : Option zV} {A2 : Nat} (h_1 : K a0 = (2, 21)) (h_3 : mr a0 9 = A2) (h_4 : K A2 = (5, 6)) (p_5 : Q (.inl (some (zI (mi A2 5)))) (n, K, mr, mi)) : zX c k_B_size 164 [some (zR a0), w1] [] (n, K, mr, mi) Q := by
  subst h_3
  exact zX.n rfl (zX.g rfl h_1 (zX.g rfl h_4 (zX.ret rfl trivial p_5)))
theorem s_B_size_172 {a0 : Nat} {w1 : Option zV} (h_1 : K a0 = (2, 21)) (p_2 : Q (.inl (some (zI (mi a0 8)))) (n, K, mr, mi)) : zX c k_B_size 172 [some (zR a0), w1] [] (n, K, mr, mi) Q := 
  zX.n rfl (zX.g rfl h_1 (zX.ret rfl trivial p_2))
theorem s_B_size_177 {a0 : Nat} {w1 : Option zV} (h_1 : K a0 = (2, 21)) (p_2 : Q (.inl (some (zI (mi a0 7)))) (n, K, mr, mi)) : zX c k_B_size 177 [some (zR a0), w1] [] (n, K, mr, mi) Q := 
  zX.n rfl (zX.g rfl h_1 (zX.ret rfl trivial p_2))
theorem s_B_size_182 {w0 : Option zV} {w1 : Option zV} (p_1 : Q (.inl (some (zI ((-1))))) (n, K, mr, mi)) : zX c k_B_size 182 [w0, w1] [] (n, K, mr, mi) Q := 
  zX.n rfl (zX.ret rfl trivial p_1)
theorem s_B_trouble_0 {a0 : Nat} (h_1 : K a0 = (2, 21)) (p_2 : Q (.inl (some (zI (mi a0 4)))) (n, K, mr, mi)) : zX c k_B_trouble 0 [some (zR a0)] [] (n, K, mr, mi) Q := 
  zX.n rfl (zX.g rfl h_1 (zX.ret rfl trivial p_2))
