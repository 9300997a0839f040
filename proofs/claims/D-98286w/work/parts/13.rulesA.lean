/-! BLOCK RULES, printed by gen/gen_rules.py -/
set_option maxRecDepth 100000
variable {c n : Nat} {K : Nat → Nat × Nat} {mr : Nat → Nat → Nat} {mi : Nat → Nat → Int} {Q : zRes → zH → Prop}
theorem s_JThr_init_2_0 {a0 : Nat} {a1 : Nat} {a2 : Nat} {x3 : Int} {x4 : Int} (h_1 : (K a0).1 ≠ 0) (h_2 : K a0 = (4, 8)) (h_3 : 64 ≤ a0) (p_4 : x4 = 0 → zX c k_JThr_init_2 36 [some (zR a0), some (zR a1), some (zR a2), some (zI x3), some (zI x4)] [] (n, K, zst (zst (zst mr a0 0 a0) a0 1 61) a0 2 62, mi) Q) (h_5 : ¬ ¬ (x4 = 0)) : zX c k_JThr_init_2 0 [some (zR a0), some (zR a1), some (zR a2), some (zI x3), some (zI x4)] [] (n, K, mr, mi) Q := 
  zX.n rfl (zX.g rfl h_1 (zX.n rfl (zX.n rfl (zX.g rfl ⟨h_3, h_2⟩ (zX.n rfl (zX.n rfl (zX.g rfl ⟨h_3, h_2⟩ (zX.n rfl (zX.n rfl (zX.g rfl ⟨h_3, h_2⟩ (zX.n rfl (zX.n rfl (zX.ite p_4 (fun hh => absurd hh h_5))))))))))))))
theorem s_JThr_init_2_36 {a0 : Nat} {a1 : Nat} {a2 : Nat} {x3 : Int} {w4 : Option zV} (h_1 : K a0 = (4, 8)) (h_2 : 64 ≤ a0) (p_3 : ¬ x3 = 0 → zX c k_JThr_init_2 60 [some (zR a0), some (zR a1), some (zR a2), some (zI x3), w4] [] (n, K, zst (zst (zst mr a0 1 0) a0 3 a1) a0 0 a2, mi) Q) (p_4 : x3 = 0 → zX c k_JThr_init_2 55 [some (zR a0), some (zR a1), some (zR a2), some (zI x3), w4] [] (n, K, zst (zst (zst mr a0 1 0) a0 3 a1) a0 0 a2, mi) Q) : zX c k_JThr_init_2 36 [some (zR a0), some (zR a1), some (zR a2), some (zI x3), w4] [] (n, K, mr, mi) Q := 
  zX.n rfl (zX.n rfl (zX.g rfl ⟨h_2, h_1⟩ (zX.n rfl (zX.n rfl (zX.g rfl ⟨h_2, h_1⟩ (zX.n rfl (zX.n rfl (zX.g rfl ⟨h_2, h_1⟩ (zX.n rfl (zX.n rfl (zX.itn p_3 p_4)))))))))))
theorem s_JThr_init_2_55 {a0 : Nat} {w1 : Option zV} {w2 : Option zV} {w3 : Option zV} {w4 : Option zV} (h_1 : K a0 = (4, 8)) (h_2 : 64 ≤ a0) (p_3 : zX c k_JThr_init_2 60 [some (zR a0), w1, w2, w3, w4] [] (n, K, zst mr a0 2 0, mi) Q) : zX c k_JThr_init_2 55 [some (zR a0), w1, w2, w3, w4] [] (n, K, mr, mi) Q := 
  zX.n rfl (zX.n rfl (zX.g rfl ⟨h_2, h_1⟩ p_3))
theorem s_JThr_init_2_60 {w0 : Option zV} {w1 : Option zV} {w2 : Option zV} {w3 : Option zV} {w4 : Option zV} (p_1 : Q (.inl none) (n, K, mr, mi)) : zX c k_JThr_init_2 60 [w0, w1, w2, w3, w4] [] (n, K, mr, mi) Q := 
  zX.ret rfl trivial p_1
theorem s_JExc_init_0 {a0 : Nat} {a1 : Nat} {a2 : Nat} {x3 : Int} {x4 : Int} (h_1 : 64 ≤ a0) (h_2 : (K a0).1 ≠ 0) (k_3 : zCall c k_JExc_init 6 9 [some (zR a0), some (zR a1), some (zR a2), some (zI x3), some (zI x4)] [] 0 k_JThr_init_2 [zR a0, zR a1, zR a2, zI x3, zI x4] (n, K, mr, mi) Q) : zX c k_JExc_init 0 [some (zR a0), some (zR a1), some (zR a2), some (zI x3), some (zI x4)] [] (n, K, mr, mi) Q := 
  zX.n rfl (zX.n rfl (zX.n rfl (zX.n rfl (zX.n rfl (zX.callQ rfl ⟨h_1, h_2⟩ trivial k_3)))))
theorem s_JExc_init_9 {w0 : Option zV} {w1 : Option zV} {w2 : Option zV} {w3 : Option zV} {w4 : Option zV} (p_1 : Q (.inl none) (n, K, mr, mi)) : zX c k_JExc_init 9 [w0, w1, w2, w3, w4] [] (n, K, mr, mi) Q := 
  zX.ret rfl trivial p_1
theorem s_JRt_init_0 {a0 : Nat} {a1 : Nat} {a2 : Nat} {x3 : Int} {x4 : Int} (h_1 : 64 ≤ a0) (h_2 : (K a0).1 ≠ 0) (k_3 : zCall c k_JRt_init 6 9 [some (zR a0), some (zR a1), some (zR a2), some (zI x3), some (zI x4)] [] 0 k_JExc_init [zR a0, zR a1, zR a2, zI x3, zI x4] (n, K, mr, mi) Q) : zX c k_JRt_init 0 [some (zR a0), some (zR a1), some (zR a2), some (zI x3), some (zI x4)] [] (n, K, mr, mi) Q := 
  zX.n rfl (zX.n rfl (zX.n rfl (zX.n rfl (zX.n rfl (zX.callQ rfl ⟨h_1, h_2⟩ trivial k_3)))))
theorem s_JRt_init_9 {w0 : Option zV} {w1 : Option zV} {w2 : Option zV} {w3 : Option zV} {w4 : Option zV} (p_1 : Q (.inl none) (n, K, mr, mi)) : zX c k_JRt_init 9 [w0, w1, w2, w3, w4] [] (n, K, mr, mi) Q := 
  zX.ret rfl trivial p_1
theorem s_Rf_init_0 {a0 : Nat} (h_1 : 64 ≤ a0) (h_2 : (K a0).1 ≠ 0) (k_3 : zCall c k_Rf_init 5 8 [some (zR a0)] [] 0 k_JRt_init [zR a0, zR 0, zR 0, zI 0, zI 0] (n, K, mr, mi) Q) : zX c k_Rf_init 0 [some (zR a0)] [] (n, K, mr, mi) Q := 
  zX.n rfl (zX.n rfl (zX.n rfl (zX.n rfl (zX.n rfl (zX.callQ rfl ⟨h_1, h_2⟩ trivial k_3)))))
theorem s_Rf_init_8 {a0 : Nat} (h_1 : K a0 = (4, 8)) (h_2 : 64 ≤ a0) (p_3 : Q (.inl none) (n, K, mr, zst mi a0 7 ((-1)))) : zX c k_Rf_init 8 [some (zR a0)] [] (n, K, mr, mi) Q := 
  zX.n rfl (zX.n rfl (zX.g rfl ⟨h_2, h_1⟩ (zX.ret rfl trivial p_3)))
theorem s_Rd_init_0 {a0 : Nat} {a1 : Nat} (h_1 : (K a0).1 ≠ 0) (h_2 : 64 ≤ n) (h_3 : ((zup K n (4, 8)) n).1 ≠ 0) (k_4 : zCall c k_Rd_init 9 12 [some (zR a0), some (zR a1)] [zR n, zR a0] 0 k_Rf_init [zR n] (n + 1, zup K n (4, 8), zup mr n (fun _ => 0), zup mi n (fun _ => 0)) Q) : zX c k_Rd_init 0 [some (zR a0), some (zR a1)] [] (n, K, mr, mi) Q := 
  zX.n rfl (zX.g rfl h_1 (zX.n rfl (zX.n rfl (zX.n rfl (zX.callQ rfl ⟨h_2, h_3⟩ trivial k_4)))))
theorem s_Rd_init_12 {a0 : Nat} {a1 : Nat} {sa0 : Nat} {sa1 : Nat} (h_1 : K sa0 = (3, 10)) (h_2 : 64 ≤ sa0) (h_3 : (zup K n (103, 8)) a0 = (3, 10)) (h_4 : 64 ≤ a0) (p_5 : Q (.inl none) (n + 1, zup K n (103, 8), zst (zst (zup (zst mr sa0 0 sa1) n (fun _ => 0)) a0 2 n) a0 1 a1, zup mi n (fun _ => 0))) : zX c k_Rd_init 12 [some (zR a0), some (zR a1)] [zR sa1, zR sa0] (n, K, mr, mi) Q := 
  zX.g rfl ⟨h_2, h_1⟩ (zX.n rfl (zX.n rfl (zX.g rfl (by decide) (zX.g rfl ⟨h_4, h_3⟩ (zX.n rfl (zX.n rfl (zX.g rfl ⟨h_4, h_3⟩ (zX.ret rfl trivial p_5))))))))
theorem s_Rd_see_0 {a0 : Nat} {x1 : Int} (h_1 : K a0 = (3, 10)) (p_2 : (mi a0 3) ≤ x1 → zX c k_Rd_see 21 [some (zR a0), some (zI x1)] [] (n, K, mr, mi) Q) (p_3 : ¬ (mi a0 3) ≤ x1 → zX c k_Rd_see 8 [some (zR a0), some (zI x1)] [] (n, K, mr, mi) Q) : zX c k_Rd_see 0 [some (zR a0), some (zI x1)] [] (n, K, mr, mi) Q := 
  zX.n rfl (zX.n rfl (zX.g rfl h_1 (zX.n rfl (zX.ite p_2 p_3))))
theorem s_Rd_see_8 {a0 : Nat} {x1 : Int} {A2 : Nat} {N4 : Nat} {j8 : Nat} (h_1 : K a0 = (3, 10)) (h_3 : mr a0 1 = A2) (h_5 : K A2 = (101, N4)) (h_6 : 0 ≤ x1) (h_7 : x1 < (N4 : Int)) (h_9 : Int.toNat x1 = j8) (p_10 : zX c k_Rd_see 22 [some (zR a0), some (zI x1)] [zI (zand (mi A2 j8) 255)] (n, K, mr, mi) Q) : zX c k_Rd_see 8 [some (zR a0), some (zI x1)] [] (n, K, mr, mi) Q := by
  subst h_3
  subst h_9
  exact zX.n rfl (zX.g rfl h_1 (zX.n rfl (zX.g rfl ⟨N4, Or.inl h_5, h_6, h_7⟩ (zX.n rfl (zX.n rfl (zX.n rfl p_10))))))
theorem s_Rd_see_21 {w0 : Option zV} {w1 : Option zV} (p_1 : zX c k_Rd_see 22 [w0, w1] [zI ((-1))] (n, K, mr, mi) Q) : zX c k_Rd_see 21 [w0, w1] [] (n, K, mr, mi) Q := 
  zX.n rfl p_1
theorem s_Rd_see_22 {w0 : Option zV} {w1 : Option zV} {sx0 : Int} (p_1 : Q (.inl (some (zI sx0))) (n, K, mr, mi)) : zX c k_Rd_see 22 [w0, w1] [zI sx0] (n, K, mr, mi) Q := 
  zX.ret rfl trivial p_1
theorem s_Rd_isSmall_0 {x0 : Int} (k_1 : zCall c k_Rd_isSmall 5 8 [some (zI x0)] [] 0 k_B_in [zI x0, zI 97, zI 122] (n, K, mr, mi) Q) : zX c k_Rd_isSmall 0 [some (zI x0)] [] (n, K, mr, mi) Q := 
  zX.n rfl (zX.n rfl (zX.n rfl (zX.callQ rfl trivial trivial k_1)))
theorem s_Rd_isSmall_8 {w0 : Option zV} {sx0 : Int} (h_1 : sx0 = 0 ∨ sx0 = 1) (p_2 : Q (.inl (some (zI sx0))) (n, K, mr, mi)) : zX c k_Rd_isSmall 8 [w0] [zI sx0] (n, K, mr, mi) Q := 
  zX.ret rfl h_1 p_2
theorem s_JPre_checkFromIndexSize_0 {x0 : Int} {x1 : Int} {x2 : Int} {w3 : Option zV} (h_1 : ¬ ((zor (zor x2 x0) x1) < 0)) (p_2 : ¬ (zor (zor x2 x0) x1) < 0 → zX c k_JPre_checkFromIndexSize 8 [some (zI x0), some (zI x1), some (zI x2), w3] [] (n, K, mr, mi) Q) : zX c k_JPre_checkFromIndexSize 0 [some (zI x0), some (zI x1), some (zI x2), w3] [] (n, K, mr, mi) Q := 
  zX.n rfl (zX.n rfl (zX.n rfl (zX.n rfl (zX.n rfl (zX.n rfl (zX.ite (fun hh => absurd hh h_1) p_2))))))
theorem s_JPre_checkFromIndexSize_8 {x0 : Int} {x1 : Int} {x2 : Int} {w3 : Option zV} (p_1 : x1 ≤ (zw (x2 - x0)) → zX c k_JPre_checkFromIndexSize 23 [some (zI x0), some (zI x1), some (zI x2), w3] [] (n, K, mr, mi) Q) (h_2 : ¬ ¬ (x1 ≤ (zw (x2 - x0)))) : zX c k_JPre_checkFromIndexSize 8 [some (zI x0), some (zI x1), some (zI x2), w3] [] (n, K, mr, mi) Q := 
  zX.n rfl (zX.n rfl (zX.n rfl (zX.n rfl (zX.n rfl (zX.ite p_1 (fun hh => absurd hh h_2))))))
theorem s_JPre_checkFromIndexSize_23 {x0 : Int} {w1 : Option zV} {w2 : Option zV} {w3 : Option zV} (p_1 : Q (.inl (some (zI x0))) (n, K, mr, mi)) : zX c k_JPre_checkFromIndexSize 23 [some (zI x0), w1, w2, w3] [] (n, K, mr, mi) Q := 
  zX.n rfl (zX.ret rfl trivial p_1)
theorem s_JStr_checkBoundsOffCount_0 {x0 : Int} {x1 : Int} {x2 : Int} (k_1 : zCall c k_JStr_checkBoundsOffCount 6 9 [some (zI x0), some (zI x1), some (zI x2)] [] 0 k_JPre_checkFromIndexSize [zI x0, zI x1, zI x2, zR 63] (n, K, mr, mi) Q) : zX c k_JStr_checkBoundsOffCount 0 [some (zI x0), some (zI x1), some (zI x2)] [] (n, K, mr, mi) Q := 
  zX.n rfl (zX.n rfl (zX.n rfl (zX.n rfl (zX.callQ rfl trivial trivial k_1))))
theorem s_JStr_checkBoundsOffCount_9 {w0 : Option zV} {w1 : Option zV} {w2 : Option zV} {sx0 : Int} (p_1 : Q (.inl (some (zI sx0))) (n, K, mr, mi)) : zX c k_JStr_checkBoundsOffCount 9 [w0, w1, w2] [zI sx0] (n, K, mr, mi) Q := 
  zX.ret rfl trivial p_1
theorem s_JStr_rangeCheck_0 {a0 : Nat} {x1 : Int} {x2 : Int} {kd1 : Nat} {N2 : Nat} (h_3 : K a0 = (kd1, N2)) (h_4 : 100 ≤ kd1) (k_5 : zCall c k_JStr_rangeCheck 4 7 [some (zR a0), some (zI x1), some (zI x2)] [] 0 k_JStr_checkBoundsOffCount [zI x1, zI x2, zI ((N2 : Int))] (n, K, mr, mi) Q) : zX c k_JStr_rangeCheck 0 [some (zR a0), some (zI x1), some (zI x2)] [] (n, K, mr, mi) Q := by
  have hN_N2 := congrArg Prod.snd h_3; dsimp only at hN_N2; subst hN_N2
  exact zX.n rfl (zX.n rfl (zX.n rfl (zX.g rfl (Nat.le_trans h_4 (Nat.le_of_eq (congrArg Prod.fst h_3).symm)) (zX.callQ rfl trivial trivial k_5))))
theorem s_JStr_rangeCheck_7 {w0 : Option zV} {w1 : Option zV} {w2 : Option zV} {sx0 : Int} (p_1 : Q (.inl (some (zR 0))) (n, K, mr, mi)) : zX c k_JStr_rangeCheck 7 [w0, w1, w2] [zI sx0] (n, K, mr, mi) Q := 
  zX.n rfl (zX.n rfl (zX.ret rfl trivial p_1))
theorem s_JU16_compress_2_0 {a0 : Nat} {x1 : Int} {a2 : Nat} {x3 : Int} {x4 : Int} {w5 : Option zV} {w6 : Option zV} (p_1 : zX c k_JU16_compress_2 3 [some (zR a0), some (zI x1), some (zR a2), some (zI x3), some (zI x4), some (zI 0), w6] [] (n, K, mr, mi) Q) : zX c k_JU16_compress_2 0 [some (zR a0), some (zI x1), some (zR a2), some (zI x3), some (zI x4), w5, w6] [] (n, K, mr, mi) Q := 
  zX.n rfl (zX.n rfl p_1)
theorem s_JU16_compress_2_3 {a0 : Nat} {x1 : Int} {a2 : Nat} {x3 : Int} {x4 : Int} {x5 : Int} {w6 : Option zV} (p_1 : x4 ≤ x5 → zX c k_JU16_compress_2 44 [some (zR a0), some (zI x1), some (zR a2), some (zI x3), some (zI x4), some (zI x5), w6] [] (n, K, mr, mi) Q) (p_2 : ¬ x4 ≤ x5 → zX c k_JU16_compress_2 10 [some (zR a0), some (zI x1), some (zR a2), some (zI x3), some (zI x4), some (zI x5), w6] [] (n, K, mr, mi) Q) : zX c k_JU16_compress_2 3 [some (zR a0), some (zI x1), some (zR a2), some (zI x3), some (zI x4), some (zI x5), w6] [] (n, K, mr, mi) Q := 
  zX.n rfl (zX.n rfl (zX.n rfl (zX.ite p_1 p_2)))
theorem s_JU16_compress_2_10 {a0 : Nat} {x1 : Int} {a2 : Nat} {x3 : Int} {x4 : Int} {x5 : Int} {w6 : Option zV} {N1 : Nat} {j5 : Nat} (h_2 : K a0 = (103, N1)) (h_3 : 0 ≤ x1) (h_4 : x1 < (N1 : Int)) (h_6 : Int.toNat x1 = j5) (p_7 : (mi a0 j5) ≤ (255 : Int) → zX c k_JU16_compress_2 26 [some (zR a0), some (zI x1), some (zR a2), some (zI x3), some (zI x4), some (zI x5), some (zI (mi a0 j5))] [] (n, K, mr, mi) Q) (p_8 : ¬ (mi a0 j5) ≤ (255 : Int) → zX c k_JU16_compress_2 23 [some (zR a0), some (zI x1), some (zR a2), some (zI x3), some (zI x4), some (zI x5), some (zI (mi a0 j5))] [] (n, K, mr, mi) Q) : zX c k_JU16_compress_2 10 [some (zR a0), some (zI x1), some (zR a2), some (zI x3), some (zI x4), some (zI x5), w6] [] (n, K, mr, mi) Q := by
  subst h_6
  exact zX.n rfl (zX.n rfl (zX.g rfl ⟨N1, h_2, h_3, h_4⟩ (zX.n rfl (zX.n rfl (zX.n rfl (zX.n rfl (zX.ite p_7 p_8)))))))
theorem s_JU16_compress_2_23 {w0 : Option zV} {w1 : Option zV} {w2 : Option zV} {w3 : Option zV} {w4 : Option zV} {x5 : Int} {w6 : Option zV} (p_1 : Q (.inl (some (zI x5))) (n, K, mr, mi)) : zX c k_JU16_compress_2 23 [w0, w1, w2, w3, w4, some (zI x5), w6] [] (n, K, mr, mi) Q := 
  zX.n rfl (zX.ret rfl trivial p_1)
theorem s_JU16_compress_2_26 {a0 : Nat} {x1 : Int} {a2 : Nat} {x3 : Int} {x4 : Int} {x5 : Int} {x6 : Int} {N1 : Nat} {j5 : Nat} (h_2 : K a2 = (101, N1)) (h_3 : 0 ≤ x3) (h_4 : x3 < (N1 : Int)) (h_6 : Int.toNat x3 = j5) (h_7 : 64 ≤ a2) (p_8 : zX c k_JU16_compress_2 3 [some (zR a0), some (zI (zw (x1 + 1))), some (zR a2), some (zI (zw (x3 + 1))), some (zI x4), some (zI (zw (x5 + 1))), some (zI x6)] [] (n, K, mr, zst mi a2 j5 (zi2b (zi2b x6))) Q) : zX c k_JU16_compress_2 26 [some (zR a0), some (zI x1), some (zR a2), some (zI x3), some (zI x4), some (zI x5), some (zI x6)] [] (n, K, mr, mi) Q := by
  subst h_6
  exact zX.n rfl (zX.n rfl (zX.n rfl (zX.n rfl (zX.g rfl ⟨N1, h_7, h_2, h_3, h_4⟩ (zX.n rfl (zX.n rfl (zX.n rfl (zX.n rfl p_8))))))))
theorem s_JU16_compress_2_44 {w0 : Option zV} {w1 : Option zV} {w2 : Option zV} {w3 : Option zV} {x4 : Int} {w5 : Option zV} {w6 : Option zV} (p_1 : Q (.inl (some (zI x4))) (n, K, mr, mi)) : zX c k_JU16_compress_2 44 [w0, w1, w2, w3, some (zI x4), w5, w6] [] (n, K, mr, mi) Q := 
  zX.n rfl (zX.ret rfl trivial p_1)
theorem s_JU16_compress_0 {a0 : Nat} {x1 : Int} {x2 : Int} {w3 : Option zV} {w4 : Option zV} {w5 : Option zV} (h_1 : 0 ≤ x2 ∧ x2 ≤ 1000000) (k_2 : zCall c k_JU16_compress 9 12 [some (zR a0), some (zI x1), some (zI x2), some (zR n), w4, w5] [] 0 k_JU16_compress_2 [zR a0, zI x1, zR n, zI 0, zI x2] (n + zwt (x2.toNat), zup K n (101, x2.toNat), zup mr n (fun _ => 0), zup mi n (fun _ => 0)) Q) : zX c k_JU16_compress 0 [some (zR a0), some (zI x1), some (zI x2), w3, w4, w5] [] (n, K, mr, mi) Q := 
  zX.n rfl (zX.g rfl h_1 (zX.n rfl (zX.n rfl (zX.n rfl (zX.n rfl (zX.n rfl (zX.n rfl (zX.callQ rfl trivial trivial k_2))))))))
theorem s_JU16_compress_12 {w0 : Option zV} {w1 : Option zV} {x2 : Int} {a3 : Nat} {w4 : Option zV} {w5 : Option zV} {sx0 : Int} (p_1 : sx0 = x2 → zX c k_JU16_compress 57 [w0, w1, some (zI x2), some (zR a3), some (zI sx0), w5] [] (n, K, mr, mi) Q) (h_2 : ¬ ¬ (sx0 = x2)) : zX c k_JU16_compress 12 [w0, w1, some (zI x2), some (zR a3), w4, w5] [zI sx0] (n, K, mr, mi) Q := 
  zX.n rfl (zX.n rfl (zX.n rfl (zX.n rfl (zX.ite p_1 (fun hh => absurd hh h_2)))))
theorem s_JU16_compress_57 {w0 : Option zV} {w1 : Option zV} {w2 : Option zV} {a3 : Nat} {w4 : Option zV} {w5 : Option zV} (p_1 : Q (.inl (some (zR a3))) (n, K, mr, mi)) : zX c k_JU16_compress 57 [w0, w1, w2, some (zR a3), w4, w5] [] (n, K, mr, mi) Q := 
  zX.n rfl (zX.ret rfl trivial p_1)
theorem s_JU16_coderFromArrayLen_0 {a0 : Nat} {x1 : Int} {kd1 : Nat} {N2 : Nat} (h_3 : K a0 = (kd1, N2)) (h_4 : 100 ≤ kd1) (h_5 : zi2b (zi2b (zushr (zw (x1 - ((N2 : Int)))) 31)) = (zi2b (zushr (zw (x1 - ((N2 : Int)))) 31))) (p_6 : Q (.inl (some (zI (zi2b (zushr (zw (x1 - ((N2 : Int)))) 31))))) (n, K, mr, mi)) : zX c k_JU16_coderFromArrayLen 0 [some (zR a0), some (zI x1)] [] (n, K, mr, mi) Q := by
  have hN_N2 := congrArg Prod.snd h_3; dsimp only at hN_N2; subst hN_N2
  exact zX.n rfl (zX.n rfl (zX.g rfl (Nat.le_trans h_4 (Nat.le_of_eq (congrArg Prod.fst h_3).symm)) (zX.n rfl (zX.n rfl (zX.n rfl (zX.n rfl (zX.ret rfl h_5 p_6)))))))
theorem s_JStr_init_2_0 {a0 : Nat} {a1 : Nat} {x2 : Int} {x3 : Int} {w4 : Option zV} {w5 : Option zV} (h_1 : (K a0).1 ≠ 0) (p_2 : ¬ x3 = 0 → zX c k_JStr_init_2 27 [some (zR a0), some (zR a1), some (zI x2), some (zI x3), w4, w5] [] (n, K, mr, mi) Q) (h_3 : ¬ (x3 = 0)) : zX c k_JStr_init_2 0 [some (zR a0), some (zR a1), some (zI x2), some (zI x3), w4, w5] [] (n, K, mr, mi) Q := 
  zX.n rfl (zX.g rfl h_1 (zX.n rfl (zX.n rfl (zX.itn p_2 (fun hh => absurd hh h_3)))))
theorem s_JStr_init_2_27 {a0 : Nat} {a1 : Nat} {x2 : Int} {x3 : Int} {w4 : Option zV} {w5 : Option zV} (h_1 : ¬ ((1 : Int) = 0)) (p_2 : ¬ (1 : Int) = 0 → zX c k_JStr_init_2 33 [some (zR a0), some (zR a1), some (zI x2), some (zI x3), w4, w5] [] (n, K, mr, mi) Q) : zX c k_JStr_init_2 27 [some (zR a0), some (zR a1), some (zI x2), some (zI x3), w4, w5] [] (n, K, mr, mi) Q := 
  zX.n rfl (zX.n rfl (zX.ite (fun hh => absurd hh h_1) p_2))
theorem s_JStr_init_2_33 {a0 : Nat} {a1 : Nat} {x2 : Int} {x3 : Int} {w4 : Option zV} {w5 : Option zV} (k_1 : zCall c k_JStr_init_2 36 39 [some (zR a0), some (zR a1), some (zI x2), some (zI x3), w4, w5] [] 0 k_JU16_compress [zR a1, zI x2, zI x3] (n, K, mr, mi) Q) : zX c k_JStr_init_2 33 [some (zR a0), some (zR a1), some (zI x2), some (zI x3), w4, w5] [] (n, K, mr, mi) Q := 
  zX.n rfl (zX.n rfl (zX.n rfl (zX.callQ rfl trivial trivial k_1)))
theorem s_JStr_init_2_39 {a0 : Nat} {w1 : Option zV} {w2 : Option zV} {x3 : Int} {w4 : Option zV} {w5 : Option zV} {sa0 : Nat} (k_1 : zCall c k_JStr_init_2 45 48 [some (zR a0), w1, w2, some (zI x3), (zkill w4), some (zR sa0)] [zR a0] 0 k_JU16_coderFromArrayLen [zR sa0, zI x3] (n, K, mr, mi) Q) : zX c k_JStr_init_2 39 [some (zR a0), w1, w2, some (zI x3), w4, w5] [zR sa0] (n, K, mr, mi) Q := 
  zX.n rfl (zX.n rfl (zX.n rfl (zX.n rfl (zX.callQ rfl trivial trivial k_1))))
theorem s_JStr_init_2_48 {a0 : Nat} {w1 : Option zV} {w2 : Option zV} {w3 : Option zV} {w4 : Option zV} {a5 : Nat} {sa0 : Nat} {sx1 : Int} (h_1 : K sa0 = (23, 4)) (h_2 : 64 ≤ sa0) (h_3 : zi2b sx1 = sx1) (h_4 : K a0 = (23, 4)) (h_5 : 64 ≤ a0) (p_6 : Q (.inl none) (n, K, zst mr a0 0 a5, zst mi sa0 1 sx1)) : zX c k_JStr_init_2 48 [some (zR a0), w1, w2, w3, w4, some (zR a5)] [zI sx1, zR sa0] (n, K, mr, mi) Q := 
  zX.g rfl ⟨⟨h_2, h_1⟩, h_3⟩ (zX.n rfl (zX.n rfl (zX.g rfl ⟨h_5, h_4⟩ (zX.ret rfl trivial p_6))))
theorem s_JStr_init_0 {a0 : Nat} {a1 : Nat} {x2 : Int} {x3 : Int} (k_1 : zCall c k_JStr_init 7 10 [some (zR a0), some (zR a1), some (zI x2), some (zI x3)] [zI x3, zI x2, zR a1, zR a0] 0 k_JStr_rangeCheck [zR a1, zI x2, zI x3] (n, K, mr, mi) Q) : zX c k_JStr_init 0 [some (zR a0), some (zR a1), some (zI x2), some (zI x3)] [] (n, K, mr, mi) Q := 
  zX.n rfl (zX.n rfl (zX.n rfl (zX.n rfl (zX.n rfl (zX.n rfl (zX.n rfl (zX.callQ rfl trivial trivial k_1)))))))
theorem s_JStr_init_10 {w0 : Option zV} {w1 : Option zV} {w2 : Option zV} {w3 : Option zV} {sa0 : Nat} {sa1 : Nat} {sx2 : Int} {sx3 : Int} {sa4 : Nat} (h_1 : 64 ≤ sa0) (h_2 : (K sa0).1 ≠ 0) (k_3 : zCall c k_JStr_init 10 13 [w0, w1, w2, w3] [] 0 k_JStr_init_2 [zR sa0, zR sa1, zI sx2, zI sx3, zR sa4] (n, K, mr, mi) Q) : zX c k_JStr_init 10 [w0, w1, w2, w3] [zR sa4, zI sx3, zI sx2, zR sa1, zR sa0] (n, K, mr, mi) Q := 
  zX.callQ rfl ⟨h_1, h_2⟩ trivial k_3
theorem s_JStr_init_13 {w0 : Option zV} {w1 : Option zV} {w2 : Option zV} {w3 : Option zV} (p_1 : Q (.inl none) (n, K, mr, mi)) : zX c k_JStr_init 13 [w0, w1, w2, w3] [] (n, K, mr, mi) Q := 
  zX.ret rfl trivial p_1
theorem s_Rd_isDigit_0 {x0 : Int} (k_1 : zCall c k_Rd_isDigit 5 8 [some (zI x0)] [] 0 k_B_in [zI x0, zI 48, zI 57] (n, K, mr, mi) Q) : zX c k_Rd_isDigit 0 [some (zI x0)] [] (n, K, mr, mi) Q := 
  zX.n rfl (zX.n rfl (zX.n rfl (zX.callQ rfl trivial trivial k_1)))
theorem s_Rd_isDigit_8 {w0 : Option zV} {sx0 : Int} (h_1 : sx0 = 0 ∨ sx0 = 1) (p_2 : Q (.inl (some (zI sx0))) (n, K, mr, mi)) : zX c k_Rd_isDigit 8 [w0] [zI sx0] (n, K, mr, mi) Q := 
  zX.ret rfl h_1 p_2
theorem s_Rd_next_0 {a0 : Nat} {w1 : Option zV} {w2 : Option zV} (h_1 : K a0 = (3, 10)) (p_2 : zX c k_Rd_next 5 [some (zR a0), some (zI (mi a0 4)), w2] [] (n, K, mr, mi) Q) : zX c k_Rd_next 0 [some (zR a0), w1, w2] [] (n, K, mr, mi) Q := 
  zX.n rfl (zX.g rfl h_1 (zX.n rfl p_2))
theorem s_Rd_next_5 {a0 : Nat} {x1 : Int} {w2 : Option zV} (h_1 : K a0 = (3, 10)) (k_2 : zCall c k_Rd_next 7 10 [some (zR a0), some (zI x1), w2] [] 0 k_Rd_see [zR a0, zI x1] (n, K, mr, mi) Q) : zX c k_Rd_next 5 [some (zR a0), some (zI x1), w2] [] (n, K, mr, mi) Q := 
  zX.n rfl (zX.n rfl (zX.callQ rfl (congrArg Prod.fst h_1) trivial k_2))
theorem s_Rd_next_10 {a0 : Nat} {x1 : Int} {w2 : Option zV} {sx0 : Int} (p_1 : ¬ sx0 = (32 : Int) → zX c k_Rd_next 21 [some (zR a0), some (zI x1), w2] [] (n, K, mr, mi) Q) (p_2 : sx0 = (32 : Int) → zX c k_Rd_next 15 [some (zR a0), some (zI x1), w2] [] (n, K, mr, mi) Q) : zX c k_Rd_next 10 [some (zR a0), some (zI x1), w2] [zI sx0] (n, K, mr, mi) Q := 
  zX.n rfl (zX.n rfl (zX.itn p_1 p_2))
theorem s_Rd_next_15 {a0 : Nat} {x1 : Int} {w2 : Option zV} (p_1 : zX c k_Rd_next 5 [some (zR a0), some (zI (zw (x1 + 1))), w2] [] (n, K, mr, mi) Q) : zX c k_Rd_next 15 [some (zR a0), some (zI x1), w2] [] (n, K, mr, mi) Q := 
  zX.n rfl (zX.n rfl p_1)
theorem s_Rd_next_21 {a0 : Nat} {x1 : Int} {w2 : Option zV} (h_1 : K a0 = (3, 10)) (h_2 : 64 ≤ a0) (k_3 : zCall c k_Rd_next 35 38 [some (zR a0), some (zI x1), w2] [] 0 k_Rd_see [zR a0, zI x1] (n, K, mr, zst (zst mi a0 6 x1) a0 4 (zw (x1 + 1))) Q) : zX c k_Rd_next 21 [some (zR a0), some (zI x1), w2] [] (n, K, mr, mi) Q := 
  zX.n rfl (zX.n rfl (zX.g rfl ⟨h_2, h_1⟩ (zX.n rfl (zX.n rfl (zX.n rfl (zX.n rfl (zX.g rfl ⟨h_2, h_1⟩ (zX.n rfl (zX.n rfl (zX.callQ rfl (congrArg Prod.fst h_1) trivial k_3))))))))))
theorem s_Rd_next_38 {a0 : Nat} {x1 : Int} {w2 : Option zV} {sx0 : Int} (p_1 : ¬ sx0 = ((-1)) → zX c k_Rd_next 57 [some (zR a0), some (zI x1), some (zI sx0)] [] (n, K, mr, mi) Q) (p_2 : sx0 = ((-1)) → zX c k_Rd_next 44 [some (zR a0), some (zI x1), some (zI sx0)] [] (n, K, mr, mi) Q) : zX c k_Rd_next 38 [some (zR a0), some (zI x1), w2] [zI sx0] (n, K, mr, mi) Q := 
  zX.n rfl (zX.n rfl (zX.n rfl (zX.n rfl (zX.itn p_1 p_2))))
theorem s_Rd_next_44 {a0 : Nat} {x1 : Int} {w2 : Option zV} (h_1 : K a0 = (3, 10)) (h_2 : 64 ≤ a0) (p_3 : zX c k_Rd_next 305 [some (zR a0), some (zI x1), w2] [] (n, K, mr, zst (zst mi a0 5 0) a0 4 x1) Q) : zX c k_Rd_next 44 [some (zR a0), some (zI x1), w2] [] (n, K, mr, mi) Q := 
  zX.n rfl (zX.n rfl (zX.g rfl ⟨h_2, h_1⟩ (zX.n rfl (zX.n rfl (zX.g rfl ⟨h_2, h_1⟩ (zX.n rfl p_3))))))
theorem s_Rd_next_57 {a0 : Nat} {x1 : Int} {x2 : Int} (k_1 : zCall c k_Rd_next 58 61 [some (zR a0), some (zI x1), some (zI x2)] [] 0 k_Rd_isSmall [zI x2] (n, K, mr, mi) Q) : zX c k_Rd_next 57 [some (zR a0), some (zI x1), some (zI x2)] [] (n, K, mr, mi) Q := 
  zX.n rfl (zX.callQ rfl trivial trivial k_1)
theorem s_Rd_next_61 {a0 : Nat} {x1 : Int} {x2 : Int} {sx0 : Int} (p_1 : sx0 = 0 → zX c k_Rd_next 185 [some (zR a0), some (zI x1), some (zI x2)] [] (n, K, mr, mi) Q) (p_2 : ¬ sx0 = 0 → zX c k_Rd_next 64 [some (zR a0), some (zI x1), some (zI x2)] [] (n, K, mr, mi) Q) : zX c k_Rd_next 61 [some (zR a0), some (zI x1), some (zI x2)] [zI sx0] (n, K, mr, mi) Q := 
  zX.n rfl (zX.ite p_1 p_2)
theorem s_Rd_next_64 {a0 : Nat} {x1 : Int} {w2 : Option zV} (h_1 : K a0 = (3, 10)) (h_2 : 64 ≤ a0) (p_3 : zX c k_Rd_next 69 [some (zR a0), some (zI x1), w2] [] (n, K, mr, zst mi a0 4 x1) Q) : zX c k_Rd_next 64 [some (zR a0), some (zI x1), w2] [] (n, K, mr, mi) Q := 
  zX.n rfl (zX.n rfl (zX.g rfl ⟨h_2, h_1⟩ p_3))
theorem s_Rd_next_69 {a0 : Nat} {x1 : Int} {w2 : Option zV} (h_1 : K a0 = (3, 10)) (k_2 : zCall c k_Rd_next 74 77 [some (zR a0), some (zI x1), w2] [] 0 k_Rd_see [zR a0, zI (mi a0 4)] (n, K, mr, mi) Q) : zX c k_Rd_next 69 [some (zR a0), some (zI x1), w2] [] (n, K, mr, mi) Q := 
  zX.n rfl (zX.n rfl (zX.g rfl h_1 (zX.callQ rfl (congrArg Prod.fst h_1) trivial k_2)))
theorem s_Rd_next_77 {a0 : Nat} {x1 : Int} {w2 : Option zV} {sx0 : Int} (k_1 : zCall c k_Rd_next 77 80 [some (zR a0), some (zI x1), w2] [] 0 k_Rd_isSmall [zI sx0] (n, K, mr, mi) Q) : zX c k_Rd_next 77 [some (zR a0), some (zI x1), w2] [zI sx0] (n, K, mr, mi) Q := 
  zX.callQ rfl trivial trivial k_1
theorem s_Rd_next_80 {a0 : Nat} {x1 : Int} {w2 : Option zV} {sx0 : Int} (p_1 : sx0 = 0 → zX c k_Rd_next 127 [some (zR a0), some (zI x1), w2] [] (n, K, mr, mi) Q) (p_2 : ¬ sx0 = 0 → zX c k_Rd_next 83 [some (zR a0), some (zI x1), w2] [] (n, K, mr, mi) Q) : zX c k_Rd_next 80 [some (zR a0), some (zI x1), w2] [zI sx0] (n, K, mr, mi) Q := 
  zX.n rfl (zX.ite p_1 p_2)
theorem s_Rd_next_83 {a0 : Nat} {x1 : Int} {w2 : Option zV} (h_1 : K a0 = (3, 10)) (p_2 : (8 : Int) ≤ (zw ((mi a0 4) - x1)) → zX c k_Rd_next 114 [some (zR a0), some (zI x1), w2] [] (n, K, mr, mi) Q) (p_3 : ¬ (8 : Int) ≤ (zw ((mi a0 4) - x1)) → zX c k_Rd_next 94 [some (zR a0), some (zI x1), w2] [] (n, K, mr, mi) Q) : zX c k_Rd_next 83 [some (zR a0), some (zI x1), w2] [] (n, K, mr, mi) Q := 
  zX.n rfl (zX.g rfl h_1 (zX.n rfl (zX.n rfl (zX.n rfl (zX.n rfl (zX.ite p_2 p_3))))))
theorem s_Rd_next_94 {a0 : Nat} {x1 : Int} {w2 : Option zV} {A2 : Nat} (h_1 : K a0 = (3, 10)) (h_3 : mr a0 2 = A2) (k_4 : zCall c k_Rd_next 109 112 [some (zR a0), some (zI x1), w2] [zI (zw ((mi a0 4) - x1)), zR A2] 0 k_Rd_see [zR a0, zI (mi a0 4)] (n, K, mr, mi) Q) : zX c k_Rd_next 94 [some (zR a0), some (zI x1), w2] [] (n, K, mr, mi) Q := by
  subst h_3
  exact zX.n rfl (zX.g rfl h_1 (zX.n rfl (zX.g rfl h_1 (zX.n rfl (zX.n rfl (zX.n rfl (zX.n rfl (zX.g rfl h_1 (zX.callQ rfl (congrArg Prod.fst h_1) trivial k_4)))))))))
theorem s_Rd_next_112 {a0 : Nat} {x1 : Int} {w2 : Option zV} {sa0 : Nat} {sx1 : Int} {sx2 : Int} {N1 : Nat} {j5 : Nat} (h_2 : K sa0 = (103, N1)) (h_3 : 0 ≤ sx1) (h_4 : sx1 < (N1 : Int)) (h_6 : Int.toNat sx1 = j5) (h_7 : 64 ≤ sa0) (p_8 : zX c k_Rd_next 114 [some (zR a0), some (zI x1), w2] [] (n, K, mr, zst mi sa0 j5 (zi2c (zi2c sx2))) Q) : zX c k_Rd_next 112 [some (zR a0), some (zI x1), w2] [zI sx2, zI sx1, zR sa0] (n, K, mr, mi) Q := by
  subst h_6
  exact zX.n rfl (zX.g rfl ⟨N1, h_7, h_2, h_3, h_4⟩ p_8)
theorem s_Rd_next_114 {a0 : Nat} {x1 : Int} {w2 : Option zV} (h_1 : K a0 = (3, 10)) (h_2 : 64 ≤ a0) (p_3 : zX c k_Rd_next 69 [some (zR a0), some (zI x1), w2] [] (n, K, mr, zst mi a0 4 (zw ((mi a0 4) + 1))) Q) : zX c k_Rd_next 114 [some (zR a0), some (zI x1), w2] [] (n, K, mr, mi) Q := 
  zX.n rfl (zX.n rfl (zX.g rfl h_1 (zX.n rfl (zX.n rfl (zX.g rfl ⟨h_2, h_1⟩ (zX.n rfl p_3))))))
theorem s_Rd_next_127 {a0 : Nat} {x1 : Int} {w2 : Option zV} (h_1 : K a0 = (3, 10)) (p_2 : (zw ((mi a0 4) - x1)) ≤ (8 : Int) → zX c k_Rd_next 143 [some (zR a0), some (zI x1), w2] [zR a0] (n, K, mr, mi) Q) (p_3 : ¬ (zw ((mi a0 4) - x1)) ≤ (8 : Int) → zX c k_Rd_next 139 [some (zR a0), some (zI x1), w2] [zR a0] (n, K, mr, mi) Q) : zX c k_Rd_next 127 [some (zR a0), some (zI x1), w2] [] (n, K, mr, mi) Q := 
  zX.n rfl (zX.n rfl (zX.g rfl h_1 (zX.n rfl (zX.n rfl (zX.n rfl (zX.n rfl (zX.ite p_2 p_3)))))))
theorem s_Rd_next_139 {a0 : Nat} {x1 : Int} {w2 : Option zV} {sa0 : Nat} (p_1 : zX c k_Rd_next 144 [some (zR a0), some (zI x1), w2] [zI 1, zR sa0] (n, K, mr, mi) Q) : zX c k_Rd_next 139 [some (zR a0), some (zI x1), w2] [zR sa0] (n, K, mr, mi) Q := 
  zX.n rfl (zX.n rfl p_1)
theorem s_Rd_next_143 {a0 : Nat} {x1 : Int} {w2 : Option zV} {sa0 : Nat} (p_1 : zX c k_Rd_next 144 [some (zR a0), some (zI x1), w2] [zI 2, zR sa0] (n, K, mr, mi) Q) : zX c k_Rd_next 143 [some (zR a0), some (zI x1), w2] [zR sa0] (n, K, mr, mi) Q := 
  zX.n rfl p_1
theorem s_Rd_next_144 {a0 : Nat} {x1 : Int} {w2 : Option zV} {sa0 : Nat} {sx1 : Int} (h_1 : K sa0 = (3, 10)) (h_2 : 64 ≤ sa0) (h_3 : K a0 = (3, 10)) (p_4 : ¬ ((zst mi sa0 5 sx1) a0 5) = (2 : Int) → zX c k_Rd_next 177 [some (zR a0), some (zI x1), w2] [zR a0] (n, K, mr, zst mi sa0 5 sx1) Q) (p_5 : ((zst mi sa0 5 sx1) a0 5) = (2 : Int) → zX c k_Rd_next 156 [some (zR a0), some (zI x1), w2] [zR a0] (n, K, mr, zst mi sa0 5 sx1) Q) : zX c k_Rd_next 144 [some (zR a0), some (zI x1), w2] [zI sx1, zR sa0] (n, K, mr, mi) Q := 
  zX.g rfl ⟨h_2, h_1⟩ (zX.n rfl (zX.n rfl (zX.g rfl h_3 (zX.n rfl (zX.n rfl (zX.itn p_4 p_5))))))
theorem s_Rd_next_156 {a0 : Nat} {x1 : Int} {w2 : Option zV} {sa0 : Nat} {A2 : Nat} (h_1 : (zup K n (23, 4)) a0 = (3, 10)) (h_3 : (zup mr n (fun _ => 0)) a0 2 = A2) (h_4 : 64 ≤ n) (h_5 : ((zup K n (23, 4)) n).1 ≠ 0) (k_6 : zCall c k_Rd_next 171 174 [some (zR a0), some (zI x1), w2] [zR n, zR sa0] 0 k_JStr_init [zR n, zR A2, zI 0, zI (zw (((zup mi n (fun _ => 0)) a0 4) - x1))] (n + 1, zup K n (23, 4), zup mr n (fun _ => 0), zup mi n (fun _ => 0)) Q) : zX c k_Rd_next 156 [some (zR a0), some (zI x1), w2] [zR sa0] (n, K, mr, mi) Q := by
  subst h_3
  exact zX.n rfl (zX.n rfl (zX.n rfl (zX.g rfl h_1 (zX.n rfl (zX.n rfl (zX.g rfl h_1 (zX.n rfl (zX.n rfl (zX.callQ rfl ⟨h_4, h_5⟩ trivial k_6)))))))))
theorem s_Rd_next_174 {w0 : Option zV} {w1 : Option zV} {w2 : Option zV} {sa0 : Nat} {sa1 : Nat} (p_1 : zX c k_Rd_next 179 [w0, w1, w2] [zR sa1, zR sa0] (n, K, mr, mi) Q) : zX c k_Rd_next 174 [w0, w1, w2] [zR sa1, zR sa0] (n, K, mr, mi) Q := 
  zX.n rfl p_1
theorem s_Rd_next_177 {w0 : Option zV} {w1 : Option zV} {w2 : Option zV} {sa0 : Nat} (p_1 : zX c k_Rd_next 179 [w0, w1, w2] [zR 2, zR sa0] (n, K, mr, mi) Q) : zX c k_Rd_next 177 [w0, w1, w2] [zR sa0] (n, K, mr, mi) Q := 
  zX.n rfl p_1
theorem s_Rd_next_179 {w0 : Option zV} {w1 : Option zV} {w2 : Option zV} {sa0 : Nat} {sa1 : Nat} (h_1 : K sa0 = (3, 10)) (h_2 : 64 ≤ sa0) (p_3 : zX c k_Rd_next 305 [w0, w1, w2] [] (n, K, zst mr sa0 8 sa1, mi) Q) : zX c k_Rd_next 179 [w0, w1, w2] [zR sa1, zR sa0] (n, K, mr, mi) Q := 
  zX.g rfl ⟨h_2, h_1⟩ (zX.n rfl p_3)
theorem s_Rd_next_185 {a0 : Nat} {x1 : Int} {x2 : Int} (k_1 : zCall c k_Rd_next 186 189 [some (zR a0), some (zI x1), some (zI x2)] [] 0 k_Rd_isDigit [zI x2] (n, K, mr, mi) Q) : zX c k_Rd_next 185 [some (zR a0), some (zI x1), some (zI x2)] [] (n, K, mr, mi) Q := 
  zX.n rfl (zX.callQ rfl trivial trivial k_1)
theorem s_Rd_next_189 {a0 : Nat} {x1 : Int} {x2 : Int} {sx0 : Int} (p_1 : sx0 = 0 → zX c k_Rd_next 284 [some (zR a0), some (zI x1), some (zI x2)] [] (n, K, mr, mi) Q) (p_2 : ¬ sx0 = 0 → zX c k_Rd_next 192 [some (zR a0), some (zI x1), some (zI x2)] [] (n, K, mr, mi) Q) : zX c k_Rd_next 189 [some (zR a0), some (zI x1), some (zI x2)] [zI sx0] (n, K, mr, mi) Q := 
  zX.n rfl (zX.ite p_1 p_2)
theorem s_Rd_next_192 {a0 : Nat} {x1 : Int} {w2 : Option zV} (h_1 : K a0 = (3, 10)) (h_2 : 64 ≤ a0) (p_3 : zX c k_Rd_next 202 [some (zR a0), some (zI x1), w2] [] (n, K, mr, zst (zst mi a0 7 0) a0 4 x1) Q) : zX c k_Rd_next 192 [some (zR a0), some (zI x1), w2] [] (n, K, mr, mi) Q := 
  zX.n rfl (zX.n rfl (zX.g rfl ⟨h_2, h_1⟩ (zX.n rfl (zX.n rfl (zX.g rfl ⟨h_2, h_1⟩ p_3)))))
theorem s_Rd_next_202 {a0 : Nat} {x1 : Int} {w2 : Option zV} (h_1 : K a0 = (3, 10)) (k_2 : zCall c k_Rd_next 207 210 [some (zR a0), some (zI x1), w2] [] 0 k_Rd_see [zR a0, zI (mi a0 4)] (n, K, mr, mi) Q) : zX c k_Rd_next 202 [some (zR a0), some (zI x1), w2] [] (n, K, mr, mi) Q := 
  zX.n rfl (zX.n rfl (zX.g rfl h_1 (zX.callQ rfl (congrArg Prod.fst h_1) trivial k_2)))
theorem s_Rd_next_210 {a0 : Nat} {x1 : Int} {w2 : Option zV} {sx0 : Int} (k_1 : zCall c k_Rd_next 210 213 [some (zR a0), some (zI x1), w2] [] 0 k_Rd_isDigit [zI sx0] (n, K, mr, mi) Q) : zX c k_Rd_next 210 [some (zR a0), some (zI x1), w2] [zI sx0] (n, K, mr, mi) Q := 
  zX.callQ rfl trivial trivial k_1
theorem s_Rd_next_213 {a0 : Nat} {x1 : Int} {w2 : Option zV} {sx0 : Int} (p_1 : sx0 = 0 → zX c k_Rd_next 262 [some (zR a0), some (zI x1), w2] [] (n, K, mr, mi) Q) (p_2 : ¬ sx0 = 0 → zX c k_Rd_next 216 [some (zR a0), some (zI x1), w2] [] (n, K, mr, mi) Q) : zX c k_Rd_next 213 [some (zR a0), some (zI x1), w2] [zI sx0] (n, K, mr, mi) Q := 
  zX.n rfl (zX.ite p_1 p_2)
theorem s_Rd_next_216 {a0 : Nat} {x1 : Int} {w2 : Option zV} (h_1 : K a0 = (3, 10)) (p_2 : (3 : Int) ≤ (zw ((mi a0 4) - x1)) → zX c k_Rd_next 249 [some (zR a0), some (zI x1), w2] [] (n, K, mr, mi) Q) (p_3 : ¬ (3 : Int) ≤ (zw ((mi a0 4) - x1)) → zX c k_Rd_next 226 [some (zR a0), some (zI x1), w2] [] (n, K, mr, mi) Q) : zX c k_Rd_next 216 [some (zR a0), some (zI x1), w2] [] (n, K, mr, mi) Q := 
  zX.n rfl (zX.g rfl h_1 (zX.n rfl (zX.n rfl (zX.n rfl (zX.n rfl (zX.ite p_2 p_3))))))
theorem s_Rd_next_226 {a0 : Nat} {x1 : Int} {w2 : Option zV} (h_1 : K a0 = (3, 10)) (k_2 : zCall c k_Rd_next 239 242 [some (zR a0), some (zI x1), w2] [zI (zw (10 * (mi a0 7))), zR a0] 0 k_Rd_see [zR a0, zI (mi a0 4)] (n, K, mr, mi) Q) : zX c k_Rd_next 226 [some (zR a0), some (zI x1), w2] [] (n, K, mr, mi) Q := 
  zX.n rfl (zX.n rfl (zX.n rfl (zX.g rfl h_1 (zX.n rfl (zX.n rfl (zX.n rfl (zX.g rfl h_1 (zX.callQ rfl (congrArg Prod.fst h_1) trivial k_2))))))))
theorem s_Rd_next_242 {a0 : Nat} {x1 : Int} {w2 : Option zV} {sa0 : Nat} {sx1 : Int} {sx2 : Int} (h_1 : K sa0 = (3, 10)) (h_2 : 64 ≤ sa0) (p_3 : zX c k_Rd_next 249 [some (zR a0), some (zI x1), w2] [] (n, K, mr, zst mi sa0 7 (zw ((zw (sx1 + sx2)) - 48))) Q) : zX c k_Rd_next 242 [some (zR a0), some (zI x1), w2] [zI sx2, zI sx1, zR sa0] (n, K, mr, mi) Q := 
  zX.n rfl (zX.n rfl (zX.n rfl (zX.g rfl ⟨h_2, h_1⟩ p_3)))
theorem s_Rd_next_249 {a0 : Nat} {x1 : Int} {w2 : Option zV} (h_1 : K a0 = (3, 10)) (h_2 : 64 ≤ a0) (p_3 : zX c k_Rd_next 202 [some (zR a0), some (zI x1), w2] [] (n, K, mr, zst mi a0 4 (zw ((mi a0 4) + 1))) Q) : zX c k_Rd_next 249 [some (zR a0), some (zI x1), w2] [] (n, K, mr, mi) Q := 
  zX.n rfl (zX.n rfl (zX.g rfl h_1 (zX.n rfl (zX.n rfl (zX.g rfl ⟨h_2, h_1⟩ (zX.n rfl p_3))))))
theorem s_Rd_next_262 {a0 : Nat} {x1 : Int} {w2 : Option zV} (h_1 : K a0 = (3, 10)) (p_2 : (zw ((mi a0 4) - x1)) ≤ (3 : Int) → zX c k_Rd_next 277 [some (zR a0), some (zI x1), w2] [zR a0] (n, K, mr, mi) Q) (p_3 : ¬ (zw ((mi a0 4) - x1)) ≤ (3 : Int) → zX c k_Rd_next 273 [some (zR a0), some (zI x1), w2] [zR a0] (n, K, mr, mi) Q) : zX c k_Rd_next 262 [some (zR a0), some (zI x1), w2] [] (n, K, mr, mi) Q := 
  zX.n rfl (zX.n rfl (zX.g rfl h_1 (zX.n rfl (zX.n rfl (zX.n rfl (zX.n rfl (zX.ite p_2 p_3)))))))
theorem s_Rd_next_273 {w0 : Option zV} {w1 : Option zV} {w2 : Option zV} {sa0 : Nat} (p_1 : zX c k_Rd_next 278 [w0, w1, w2] [zI 1, zR sa0] (n, K, mr, mi) Q) : zX c k_Rd_next 273 [w0, w1, w2] [zR sa0] (n, K, mr, mi) Q := 
  zX.n rfl (zX.n rfl p_1)
theorem s_Rd_next_277 {w0 : Option zV} {w1 : Option zV} {w2 : Option zV} {sa0 : Nat} (p_1 : zX c k_Rd_next 278 [w0, w1, w2] [zI 3, zR sa0] (n, K, mr, mi) Q) : zX c k_Rd_next 277 [w0, w1, w2] [zR sa0] (n, K, mr, mi) Q := 
  zX.n rfl p_1
theorem s_Rd_next_278 {w0 : Option zV} {w1 : Option zV} {w2 : Option zV} {sa0 : Nat} {sx1 : Int} (h_1 : K sa0 = (3, 10)) (h_2 : 64 ≤ sa0) (p_3 : zX c k_Rd_next 305 [w0, w1, w2] [] (n, K, mr, zst mi sa0 5 sx1) Q) : zX c k_Rd_next 278 [w0, w1, w2] [zI sx1, zR sa0] (n, K, mr, mi) Q := 
  zX.g rfl ⟨h_2, h_1⟩ (zX.n rfl p_3)
theorem s_Rd_next_284 {a0 : Nat} {w1 : Option zV} {x2 : Int} (p_1 : x2 = (59 : Int) → zX c k_Rd_next 297 [some (zR a0), w1, some (zI x2)] [zR a0] (n, K, mr, mi) Q) (p_2 : ¬ x2 = (59 : Int) → zX c k_Rd_next 291 [some (zR a0), w1, some (zI x2)] [zR a0] (n, K, mr, mi) Q) : zX c k_Rd_next 284 [some (zR a0), w1, some (zI x2)] [] (n, K, mr, mi) Q := 
  zX.n rfl (zX.n rfl (zX.n rfl (zX.n rfl (zX.ite p_1 p_2))))
theorem s_Rd_next_291 {w0 : Option zV} {w1 : Option zV} {x2 : Int} {sa0 : Nat} (p_1 : ¬ x2 = (44 : Int) → zX c k_Rd_next 301 [w0, w1, some (zI x2)] [zR sa0] (n, K, mr, mi) Q) (p_2 : x2 = (44 : Int) → zX c k_Rd_next 297 [w0, w1, some (zI x2)] [zR sa0] (n, K, mr, mi) Q) : zX c k_Rd_next 291 [w0, w1, some (zI x2)] [zR sa0] (n, K, mr, mi) Q := 
  zX.n rfl (zX.n rfl (zX.n rfl (zX.itn p_1 p_2)))
theorem s_Rd_next_297 {w0 : Option zV} {w1 : Option zV} {x2 : Int} {sa0 : Nat} (p_1 : zX c k_Rd_next 302 [w0, w1, some (zI x2)] [zI x2, zR sa0] (n, K, mr, mi) Q) : zX c k_Rd_next 297 [w0, w1, some (zI x2)] [zR sa0] (n, K, mr, mi) Q := 
  zX.n rfl (zX.n rfl p_1)
theorem s_Rd_next_301 {w0 : Option zV} {w1 : Option zV} {w2 : Option zV} {sa0 : Nat} (p_1 : zX c k_Rd_next 302 [w0, w1, w2] [zI 1, zR sa0] (n, K, mr, mi) Q) : zX c k_Rd_next 301 [w0, w1, w2] [zR sa0] (n, K, mr, mi) Q := 
  zX.n rfl p_1
theorem s_Rd_next_302 {w0 : Option zV} {w1 : Option zV} {w2 : Option zV} {sa0 : Nat} {sx1 : Int} (h_1 : K sa0 = (3, 10)) (h_2 : 64 ≤ sa0) (p_3 : zX c k_Rd_next 305 [w0, w1, w2] [] (n, K, mr, zst mi sa0 5 sx1) Q) : zX c k_Rd_next 302 [w0, w1, w2] [zI sx1, zR sa0] (n, K, mr, mi) Q := 
  zX.g rfl ⟨h_2, h_1⟩ p_3
theorem s_Rd_next_305 {w0 : Option zV} {w1 : Option zV} {w2 : Option zV} (p_1 : Q (.inl none) (n, K, mr, mi)) : zX c k_Rd_next 305 [w0, w1, w2] [] (n, K, mr, mi) Q := 
  zX.ret rfl trivial p_1
theorem s_Rf_at_0 {a0 : Nat} {x1 : Int} {x2 : Int} (h_1 : K a0 = (4, 8)) (h_2 : 64 ≤ a0) (p_3 : Q (.inl (some (zR a0))) (n, K, mr, zst (zst mi a0 6 x1) a0 7 x2)) : zX c k_Rf_at 0 [some (zR a0), some (zI x1), some (zI x2)] [] (n, K, mr, mi) Q := 
  zX.n rfl (zX.n rfl (zX.g rfl ⟨h_2, h_1⟩ (zX.n rfl (zX.n rfl (zX.g rfl ⟨h_2, h_1⟩ (zX.n rfl (zX.ret rfl trivial p_3)))))))
theorem s_Rd_fail_0 {a0 : Nat} {x1 : Int} {A2 : Nat} (h_1 : K a0 = (3, 10)) (h_3 : mr a0 0 = A2) (h_4 : K A2 = (4, 8)) (k_5 : zCall c k_Rd_fail 9 12 [some (zR a0), some (zI x1)] [] 0 k_Rf_at [zR A2, zI x1, zI (mi a0 6)] (n, K, mr, mi) Q) : zX c k_Rd_fail 0 [some (zR a0), some (zI x1)] [] (n, K, mr, mi) Q := by
  subst h_3
  exact zX.n rfl (zX.g rfl h_1 (zX.n rfl (zX.n rfl (zX.g rfl h_1 (zX.callQ rfl (congrArg Prod.fst h_4) trivial k_5)))))
theorem s_Rd_fail_12 {w0 : Option zV} {w1 : Option zV} {sa0 : Nat} (p_1 : Q (.inl (some (zR sa0))) (n, K, mr, mi)) : zX c k_Rd_fail 12 [w0, w1] [zR sa0] (n, K, mr, mi) Q := 
  zX.ret rfl trivial p_1
theorem s_JStr_isLatin1_0 {a0 : Nat} (p_1 : (1 : Int) = 0 → zX c k_JStr_isLatin1 17 [some (zR a0)] [] (n, K, mr, mi) Q) (p_2 : ¬ (1 : Int) = 0 → zX c k_JStr_isLatin1 6 [some (zR a0)] [] (n, K, mr, mi) Q) : zX c k_JStr_isLatin1 0 [some (zR a0)] [] (n, K, mr, mi) Q := 
  zX.n rfl (zX.n rfl (zX.ite p_1 p_2))
theorem s_JStr_isLatin1_6 {a0 : Nat} (h_1 : K a0 = (23, 4)) (p_2 : ¬ (mi a0 1) = 0 → zX c k_JStr_isLatin1 17 [some (zR a0)] [] (n, K, mr, mi) Q) (p_3 : (mi a0 1) = 0 → zX c k_JStr_isLatin1 13 [some (zR a0)] [] (n, K, mr, mi) Q) : zX c k_JStr_isLatin1 6 [some (zR a0)] [] (n, K, mr, mi) Q := 
  zX.n rfl (zX.g rfl h_1 (zX.n rfl (zX.itn p_2 p_3)))
theorem s_JStr_isLatin1_13 {w0 : Option zV} (p_1 : zX c k_JStr_isLatin1 18 [w0] [zI 1] (n, K, mr, mi) Q) : zX c k_JStr_isLatin1 13 [w0] [] (n, K, mr, mi) Q := 
  zX.n rfl (zX.n rfl p_1)
theorem s_JStr_isLatin1_17 {w0 : Option zV} (p_1 : zX c k_JStr_isLatin1 18 [w0] [zI 0] (n, K, mr, mi) Q) : zX c k_JStr_isLatin1 17 [w0] [] (n, K, mr, mi) Q := 
  zX.n rfl p_1
theorem s_JStr_isLatin1_18 {w0 : Option zV} {sx0 : Int} (h_1 : sx0 = 0 ∨ sx0 = 1) (p_2 : Q (.inl (some (zI sx0))) (n, K, mr, mi)) : zX c k_JStr_isLatin1 18 [w0] [zI sx0] (n, K, mr, mi) Q := 
  zX.ret rfl h_1 p_2
theorem s_JArr_signedHashCode_0 {x0 : Int} {a1 : Nat} {x2 : Int} {x3 : Int} {w4 : Option zV} {w5 : Option zV} (p_1 : zX c k_JArr_signedHashCode 8 [some (zI x0), some (zR a1), some (zI x2), some (zI x3), some (zI (zw (x2 + x3))), some (zI x2)] [] (n, K, mr, mi) Q) : zX c k_JArr_signedHashCode 0 [some (zI x0), some (zR a1), some (zI x2), some (zI x3), w4, w5] [] (n, K, mr, mi) Q := 
  zX.n rfl (zX.n rfl (zX.n rfl (zX.n rfl (zX.n rfl (zX.n rfl p_1)))))
theorem s_JArr_signedHashCode_8 {x0 : Int} {a1 : Nat} {w2 : Option zV} {w3 : Option zV} {x4 : Int} {x5 : Int} (p_1 : x4 ≤ x5 → zX c k_JArr_signedHashCode 35 [some (zI x0), some (zR a1), w2, w3, some (zI x4), some (zI x5)] [] (n, K, mr, mi) Q) (p_2 : ¬ x4 ≤ x5 → zX c k_JArr_signedHashCode 15 [some (zI x0), some (zR a1), w2, w3, some (zI x4), some (zI x5)] [] (n, K, mr, mi) Q) : zX c k_JArr_signedHashCode 8 [some (zI x0), some (zR a1), w2, w3, some (zI x4), some (zI x5)] [] (n, K, mr, mi) Q := 
  zX.n rfl (zX.n rfl (zX.n rfl (zX.ite p_1 p_2)))
theorem s_JArr_signedHashCode_15 {x0 : Int} {a1 : Nat} {w2 : Option zV} {w3 : Option zV} {x4 : Int} {x5 : Int} {N1 : Nat} {j5 : Nat} (h_2 : K a1 = (101, N1)) (h_3 : 0 ≤ x5) (h_4 : x5 < (N1 : Int)) (h_6 : Int.toNat x5 = j5) (p_7 : zX c k_JArr_signedHashCode 8 [some (zI (zw ((zw (31 * x0)) + (zand (mi a1 j5) 255)))), some (zR a1), w2, w3, some (zI x4), some (zI (zw (x5 + 1)))] [] (n, K, mr, mi) Q) : zX c k_JArr_signedHashCode 15 [some (zI x0), some (zR a1), w2, w3, some (zI x4), some (zI x5)] [] (n, K, mr, mi) Q := by
  subst h_6
  exact zX.n rfl (zX.n rfl (zX.n rfl (zX.n rfl (zX.n rfl (zX.g rfl ⟨N1, Or.inl h_2, h_3, h_4⟩ (zX.n rfl (zX.n rfl (zX.n rfl (zX.n rfl (zX.n rfl (zX.n rfl p_7)))))))))))
theorem s_JArr_signedHashCode_35 {x0 : Int} {w1 : Option zV} {w2 : Option zV} {w3 : Option zV} {w4 : Option zV} {w5 : Option zV} (p_1 : Q (.inl (some (zI x0))) (n, K, mr, mi)) : zX c k_JArr_signedHashCode 35 [some (zI x0), w1, w2, w3, w4, w5] [] (n, K, mr, mi) Q := 
  zX.n rfl (zX.ret rfl trivial p_1)
theorem s_JArr_vectorizedHashCode_0 {a0 : Nat} {x1 : Int} {x2 : Int} {x3 : Int} {x4 : Int} (p_1 : x4 = 4 → zX c k_JArr_vectorizedHashCode 44 [some (zR a0), some (zI x1), some (zI x2), some (zI x3), some (zI x4)] [] (n, K, mr, mi) Q) (h_2 : ¬ x4 = 5) (h_3 : ¬ x4 = 6) (h_4 : ¬ x4 = 7) (h_5 : ¬ x4 = 8) (h_6 : ¬ x4 = 9) (h_7 : ¬ x4 = 10) (h_8 : ¬ (x4 < 4 ∨ 10 < x4)) : zX c k_JArr_vectorizedHashCode 0 [some (zR a0), some (zI x1), some (zI x2), some (zI x3), some (zI x4)] [] (n, K, mr, mi) Q := 
  zX.n rfl (zX.n rfl (zX.tsw (fun k hk hx => match k, hk, hx with | 0, _, hx => p_1 hx | 1, _, hx => absurd hx h_2 | 2, _, hx => absurd hx h_3 | 3, _, hx => absurd hx h_4 | 4, _, hx => absurd hx h_5 | 5, _, hx => absurd hx h_6 | 6, _, hx => absurd hx h_7 | k + 7, hk, _ => absurd hk (by omega)) (fun hx => absurd hx h_8)))
theorem s_JArr_vectorizedHashCode_44 {a0 : Nat} {x1 : Int} {x2 : Int} {x3 : Int} {w4 : Option zV} (h_1 : (K a0).1 = 101) (h_2 : 64 ≤ a0) (k_3 : zCall c k_JArr_vectorizedHashCode 51 54 [some (zR a0), some (zI x1), some (zI x2), some (zI x3), w4] [] 0 k_JArr_signedHashCode [zI x3, zR a0, zI x1, zI x2] (n, K, mr, mi) Q) : zX c k_JArr_vectorizedHashCode 44 [some (zR a0), some (zI x1), some (zI x2), some (zI x3), w4] [] (n, K, mr, mi) Q := 
  zX.n rfl (zX.n rfl (zX.g rfl ⟨h_2, h_1⟩ (zX.n rfl (zX.n rfl (zX.callQ rfl trivial trivial k_3)))))
theorem s_JArr_vectorizedHashCode_54 {w0 : Option zV} {w1 : Option zV} {w2 : Option zV} {w3 : Option zV} {w4 : Option zV} {sx0 : Int} (p_1 : Q (.inl (some (zI sx0))) (n, K, mr, mi)) : zX c k_JArr_vectorizedHashCode 54 [w0, w1, w2, w3, w4] [zI sx0] (n, K, mr, mi) Q := 
  zX.n rfl (zX.ret rfl trivial p_1)
theorem s_JL1_hashCode_0 {a0 : Nat} {kd1 : Nat} {N2 : Nat} (h_3 : K a0 = (kd1, N2)) (h_4 : 100 ≤ kd1) (p_5 : ((N2 : Int)) = 0 → zX c k_JL1_hashCode 28 [some (zR a0)] [] (n, K, mr, mi) Q) (p_6 : ((N2 : Int)) = 1 → zX c k_JL1_hashCode 32 [some (zR a0)] [] (n, K, mr, mi) Q) (p_7 : ¬ ((N2 : Int)) = 0 → ¬ ((N2 : Int)) = 1 → zX c k_JL1_hashCode 42 [some (zR a0)] [] (n, K, mr, mi) Q) : zX c k_JL1_hashCode 0 [some (zR a0)] [] (n, K, mr, mi) Q := by
  have hN_N2 := congrArg Prod.snd h_3; dsimp only at hN_N2; subst hN_N2
  exact zX.n rfl (zX.g rfl (Nat.le_trans h_4 (Nat.le_of_eq (congrArg Prod.fst h_3).symm)) (zX.n rfl (zX.lsw p_5 (fun q0 => (zX.lsw p_6 (fun q1 => (p_7 q0 q1)))))))
theorem s_JL1_hashCode_28 {w0 : Option zV} (p_1 : zX c k_JL1_hashCode 51 [w0] [zI 0] (n, K, mr, mi) Q) : zX c k_JL1_hashCode 28 [w0] [] (n, K, mr, mi) Q := 
  zX.n rfl (zX.n rfl p_1)
theorem s_JL1_hashCode_32 {a0 : Nat} {N1 : Nat} (h_2 : K a0 = (101, N1)) (h_3 : (0 : Int) < (N1 : Int)) (p_4 : zX c k_JL1_hashCode 51 [some (zR a0)] [zI (zand (mi a0 0) 255)] (n, K, mr, mi) Q) : zX c k_JL1_hashCode 32 [some (zR a0)] [] (n, K, mr, mi) Q := 
  zX.n rfl (zX.n rfl (zX.g rfl ⟨N1, Or.inl h_2, (by decide), h_3⟩ (zX.n rfl (zX.n rfl (zX.n rfl p_4)))))
theorem s_JL1_hashCode_42 {a0 : Nat} {kd1 : Nat} {N2 : Nat} (h_3 : K a0 = (kd1, N2)) (h_4 : 100 ≤ kd1) (k_5 : zCall c k_JL1_hashCode 48 51 [some (zR a0)] [] 0 k_JArr_vectorizedHashCode [zR a0, zI 0, zI ((N2 : Int)), zI 0, zI 4] (n, K, mr, mi) Q) : zX c k_JL1_hashCode 42 [some (zR a0)] [] (n, K, mr, mi) Q := by
  have hN_N2 := congrArg Prod.snd h_3; dsimp only at hN_N2; subst hN_N2
  exact zX.n rfl (zX.n rfl (zX.n rfl (zX.g rfl (Nat.le_trans h_4 (Nat.le_of_eq (congrArg Prod.fst h_3).symm)) (zX.n rfl (zX.n rfl (zX.callQ rfl trivial trivial k_5))))))
theorem s_JL1_hashCode_51 {w0 : Option zV} {sx0 : Int} (p_1 : Q (.inl (some (zI sx0))) (n, K, mr, mi)) : zX c k_JL1_hashCode 51 [w0] [zI sx0] (n, K, mr, mi) Q := 
  zX.ret rfl trivial p_1
theorem s_JStr_hashCode_0 {a0 : Nat} {w1 : Option zV} (h_1 : K a0 = (23, 4)) (h_2 : 64 ≤ a0) (p_3 : ¬ (mi a0 2) = 0 → zX c k_JStr_hashCode 58 [some (zR a0), some (zI (mi a0 2))] [] (n, K, mr, mi) Q) (p_4 : (mi a0 2) = 0 → zX c k_JStr_hashCode 9 [some (zR a0), some (zI (mi a0 2))] [] (n, K, mr, mi) Q) : zX c k_JStr_hashCode 0 [some (zR a0), w1] [] (n, K, mr, mi) Q := 
  zX.n rfl (zX.g rfl ⟨h_2, h_1⟩ (zX.n rfl (zX.n rfl (zX.n rfl (zX.itn p_3 p_4)))))
theorem s_JStr_hashCode_9 {a0 : Nat} {x1 : Int} (h_1 : K a0 = (23, 4)) (h_2 : 64 ≤ a0) (p_3 : ¬ (mi a0 3) = 0 → zX c k_JStr_hashCode 58 [some (zR a0), some (zI x1)] [] (n, K, mr, mi) Q) (p_4 : (mi a0 3) = 0 → zX c k_JStr_hashCode 16 [some (zR a0), some (zI x1)] [] (n, K, mr, mi) Q) : zX c k_JStr_hashCode 9 [some (zR a0), some (zI x1)] [] (n, K, mr, mi) Q := 
  zX.n rfl (zX.g rfl ⟨h_2, h_1⟩ (zX.n rfl (zX.itn p_3 p_4)))
theorem s_JStr_hashCode_16 {a0 : Nat} {w1 : Option zV} (h_1 : K a0 = (23, 4)) (k_2 : zCall c k_JStr_hashCode 17 20 [some (zR a0), w1] [] 0 k_JStr_isLatin1 [zR a0] (n, K, mr, mi) Q) : zX c k_JStr_hashCode 16 [some (zR a0), w1] [] (n, K, mr, mi) Q := 
  zX.n rfl (zX.callQ rfl (congrArg Prod.fst h_1) trivial k_2)
theorem s_JStr_hashCode_20 {a0 : Nat} {w1 : Option zV} {sx0 : Int} (h_1 : ¬ (sx0 = 0)) (p_2 : ¬ sx0 = 0 → zX c k_JStr_hashCode 23 [some (zR a0), w1] [] (n, K, mr, mi) Q) : zX c k_JStr_hashCode 20 [some (zR a0), w1] [zI sx0] (n, K, mr, mi) Q := 
  zX.n rfl (zX.ite (fun hh => absurd hh h_1) p_2)
theorem s_JStr_hashCode_23 {a0 : Nat} {w1 : Option zV} {A2 : Nat} (h_1 : K a0 = (23, 4)) (h_3 : mr a0 0 = A2) (k_4 : zCall c k_JStr_hashCode 27 30 [some (zR a0), w1] [] 0 k_JL1_hashCode [zR A2] (n, K, mr, mi) Q) : zX c k_JStr_hashCode 23 [some (zR a0), w1] [] (n, K, mr, mi) Q := by
  subst h_3
  exact zX.n rfl (zX.g rfl h_1 (zX.callQ rfl trivial trivial k_4))
theorem s_JStr_hashCode_30 {a0 : Nat} {w1 : Option zV} {sx0 : Int} (p_1 : ¬ sx0 = 0 → zX c k_JStr_hashCode 53 [some (zR a0), some (zI sx0)] [] (n, K, mr, mi) Q) (p_2 : sx0 = 0 → zX c k_JStr_hashCode 45 [some (zR a0), some (zI sx0)] [] (n, K, mr, mi) Q) : zX c k_JStr_hashCode 30 [some (zR a0), w1] [zI sx0] (n, K, mr, mi) Q := 
  zX.n rfl (zX.n rfl (zX.n rfl (zX.n rfl (zX.itn p_1 p_2))))
theorem s_JStr_hashCode_45 {a0 : Nat} {x1 : Int} (h_1 : K a0 = (23, 4)) (h_2 : 64 ≤ a0) (p_3 : zX c k_JStr_hashCode 58 [some (zR a0), some (zI x1)] [] (n, K, mr, zst mi a0 3 1) Q) : zX c k_JStr_hashCode 45 [some (zR a0), some (zI x1)] [] (n, K, mr, mi) Q := 
  zX.n rfl (zX.n rfl (zX.g rfl ⟨⟨h_2, h_1⟩, Or.inr rfl⟩ (zX.n rfl p_3)))
theorem s_JStr_hashCode_53 {a0 : Nat} {x1 : Int} (h_1 : K a0 = (23, 4)) (h_2 : 64 ≤ a0) (p_3 : zX c k_JStr_hashCode 58 [some (zR a0), some (zI x1)] [] (n, K, mr, zst mi a0 2 x1) Q) : zX c k_JStr_hashCode 53 [some (zR a0), some (zI x1)] [] (n, K, mr, mi) Q := 
  zX.n rfl (zX.n rfl (zX.g rfl ⟨h_2, h_1⟩ p_3))
theorem s_JStr_hashCode_58 {w0 : Option zV} {x1 : Int} (p_1 : Q (.inl (some (zI x1))) (n, K, mr, mi)) : zX c k_JStr_hashCode 58 [w0, some (zI x1)] [] (n, K, mr, mi) Q := 
  zX.n rfl (zX.ret rfl trivial p_1)
theorem s_JL1_equals_0 {a0 : Nat} {a1 : Nat} {w2 : Option zV} {kd1 : Nat} {N2 : Nat} {kd5 : Nat} {N6 : Nat} (h_3 : K a0 = (kd1, N2)) (h_4 : 100 ≤ kd1) (h_7 : K a1 = (kd5, N6)) (h_8 : 100 ≤ kd5) (p_9 : ¬ ((N2 : Int)) = ((N6 : Int)) → zX c k_JL1_equals 34 [some (zR a0), some (zR a1), w2] [] (n, K, mr, mi) Q) (p_10 : ((N2 : Int)) = ((N6 : Int)) → zX c k_JL1_equals 7 [some (zR a0), some (zR a1), w2] [] (n, K, mr, mi) Q) : zX c k_JL1_equals 0 [some (zR a0), some (zR a1), w2] [] (n, K, mr, mi) Q := by
  have hN_N6 := congrArg Prod.snd h_7; dsimp only at hN_N6; subst hN_N6
  have hN_N2 := congrArg Prod.snd h_3; dsimp only at hN_N2; subst hN_N2
  exact zX.n rfl (zX.g rfl (Nat.le_trans h_4 (Nat.le_of_eq (congrArg Prod.fst h_3).symm)) (zX.n rfl (zX.g rfl (Nat.le_trans h_8 (Nat.le_of_eq (congrArg Prod.fst h_7).symm)) (zX.n rfl (zX.itn p_9 p_10)))))
theorem s_JL1_equals_7 {a0 : Nat} {a1 : Nat} {w2 : Option zV} (p_1 : zX c k_JL1_equals 9 [some (zR a0), some (zR a1), some (zI 0)] [] (n, K, mr, mi) Q) : zX c k_JL1_equals 7 [some (zR a0), some (zR a1), w2] [] (n, K, mr, mi) Q := 
  zX.n rfl (zX.n rfl p_1)
theorem s_JL1_equals_9 {a0 : Nat} {a1 : Nat} {x2 : Int} {kd1 : Nat} {N2 : Nat} (h_3 : K a0 = (kd1, N2)) (h_4 : 100 ≤ kd1) (p_5 : ((N2 : Int)) ≤ x2 → zX c k_JL1_equals 32 [some (zR a0), some (zR a1), some (zI x2)] [] (n, K, mr, mi) Q) (p_6 : ¬ ((N2 : Int)) ≤ x2 → zX c k_JL1_equals 15 [some (zR a0), some (zR a1), some (zI x2)] [] (n, K, mr, mi) Q) : zX c k_JL1_equals 9 [some (zR a0), some (zR a1), some (zI x2)] [] (n, K, mr, mi) Q := by
  have hN_N2 := congrArg Prod.snd h_3; dsimp only at hN_N2; subst hN_N2
  exact zX.n rfl (zX.n rfl (zX.g rfl (Nat.le_trans h_4 (Nat.le_of_eq (congrArg Prod.fst h_3).symm)) (zX.n rfl (zX.ite p_5 p_6))))
theorem s_JL1_equals_15 {a0 : Nat} {a1 : Nat} {x2 : Int} {N1 : Nat} {j5 : Nat} {N7 : Nat} (h_2 : K a0 = (101, N1)) (h_3 : 0 ≤ x2) (h_4 : x2 < (N1 : Int)) (h_6 : Int.toNat x2 = j5) (h_8 : K a1 = (101, N7)) (h_9 : x2 < (N7 : Int)) (p_10 : (mi a0 j5) = (mi a1 j5) → zX c k_JL1_equals 26 [some (zR a0), some (zR a1), some (zI x2)] [] (n, K, mr, mi) Q) (p_11 : ¬ (mi a0 j5) = (mi a1 j5) → zX c k_JL1_equals 24 [some (zR a0), some (zR a1), some (zI x2)] [] (n, K, mr, mi) Q) : zX c k_JL1_equals 15 [some (zR a0), some (zR a1), some (zI x2)] [] (n, K, mr, mi) Q := by
  subst h_6
  exact zX.n rfl (zX.n rfl (zX.g rfl ⟨N1, Or.inl h_2, h_3, h_4⟩ (zX.n rfl (zX.n rfl (zX.g rfl ⟨N7, Or.inl h_8, h_3, h_9⟩ (zX.n rfl (zX.ite p_10 p_11)))))))
theorem s_JL1_equals_24 {w0 : Option zV} {w1 : Option zV} {w2 : Option zV} (p_1 : Q (.inl (some (zI 0))) (n, K, mr, mi)) : zX c k_JL1_equals 24 [w0, w1, w2] [] (n, K, mr, mi) Q := 
  zX.n rfl (zX.ret rfl (Or.inl rfl) p_1)
theorem s_JL1_equals_26 {a0 : Nat} {a1 : Nat} {x2 : Int} (p_1 : zX c k_JL1_equals 9 [some (zR a0), some (zR a1), some (zI (zw (x2 + 1)))] [] (n, K, mr, mi) Q) : zX c k_JL1_equals 26 [some (zR a0), some (zR a1), some (zI x2)] [] (n, K, mr, mi) Q := 
  zX.n rfl (zX.n rfl p_1)
theorem s_JL1_equals_32 {w0 : Option zV} {w1 : Option zV} {w2 : Option zV} (p_1 : Q (.inl (some (zI 1))) (n, K, mr, mi)) : zX c k_JL1_equals 32 [w0, w1, w2] [] (n, K, mr, mi) Q := 
  zX.n rfl (zX.ret rfl (Or.inr rfl) p_1)
theorem s_JL1_equals_34 {w0 : Option zV} {w1 : Option zV} {w2 : Option zV} (p_1 : Q (.inl (some (zI 0))) (n, K, mr, mi)) : zX c k_JL1_equals 34 [w0, w1, w2] [] (n, K, mr, mi) Q := 
  zX.n rfl (zX.ret rfl (Or.inl rfl) p_1)
theorem s_JStr_equals_0 {a0 : Nat} {a1 : Nat} {w2 : Option zV} (h_1 : 64 ≤ a0 ∧ (K a0).1 ≠ 0 ∧ (K a1).1 ≠ 0) (p_2 : ¬ a0 = a1 → zX c k_JStr_equals 7 [some (zR a0), some (zR a1), w2] [] (n, K, mr, mi) Q) (p_3 : a0 = a1 → zX c k_JStr_equals 5 [some (zR a0), some (zR a1), w2] [] (n, K, mr, mi) Q) : zX c k_JStr_equals 0 [some (zR a0), some (zR a1), w2] [] (n, K, mr, mi) Q := 
  zX.n rfl (zX.n rfl (zX.g rfl h_1 (zX.itn p_2 p_3)))
theorem s_JStr_equals_5 {w0 : Option zV} {w1 : Option zV} {w2 : Option zV} (p_1 : Q (.inl (some (zI 1))) (n, K, mr, mi)) : zX c k_JStr_equals 5 [w0, w1, w2] [] (n, K, mr, mi) Q := 
  zX.n rfl (zX.ret rfl (Or.inr rfl) p_1)
theorem s_JStr_equals_7 {a0 : Nat} {a1 : Nat} {w2 : Option zV} (h_1 : (K a1).1 = 23) (p_2 : (1 : Int) = 0 → zX c k_JStr_equals 54 [some (zR a0), some (zR a1), w2] [] (n, K, mr, mi) Q) (p_3 : ¬ (1 : Int) = 0 → zX c k_JStr_equals 14 [some (zR a0), some (zR a1), w2] [] (n, K, mr, mi) Q) : zX c k_JStr_equals 7 [some (zR a0), some (zR a1), w2] [] (n, K, mr, mi) Q := 
  zX.n rfl (zX.g rfl h_1 (zX.n rfl (zX.ite p_2 p_3)))
theorem s_JStr_equals_14 {a0 : Nat} {a1 : Nat} {w2 : Option zV} (h_1 : (K a1).1 = 23) (p_2 : (1 : Int) = 0 → zX c k_JStr_equals 36 [some (zR a0), some (zR a1), some (zR a1)] [] (n, K, mr, mi) Q) (p_3 : ¬ (1 : Int) = 0 → zX c k_JStr_equals 25 [some (zR a0), some (zR a1), some (zR a1)] [] (n, K, mr, mi) Q) : zX c k_JStr_equals 14 [some (zR a0), some (zR a1), w2] [] (n, K, mr, mi) Q := 
  zX.n rfl (zX.g rfl h_1 (zX.n rfl (zX.n rfl (zX.n rfl (zX.ite p_2 p_3)))))
theorem s_JStr_equals_25 {a0 : Nat} {w1 : Option zV} {a2 : Nat} (h_1 : K a0 = (23, 4)) (h_2 : K a2 = (23, 4)) (p_3 : ¬ (mi a0 1) = (mi a2 1) → zX c k_JStr_equals 54 [some (zR a0), w1, some (zR a2)] [] (n, K, mr, mi) Q) (p_4 : (mi a0 1) = (mi a2 1) → zX c k_JStr_equals 36 [some (zR a0), w1, some (zR a2)] [] (n, K, mr, mi) Q) : zX c k_JStr_equals 25 [some (zR a0), w1, some (zR a2)] [] (n, K, mr, mi) Q := 
  zX.n rfl (zX.g rfl h_1 (zX.n rfl (zX.g rfl h_2 (zX.n rfl (zX.itn p_3 p_4)))))
theorem s_JStr_equals_36 {a0 : Nat} {w1 : Option zV} {a2 : Nat} {A2 : Nat} {A5 : Nat} (h_1 : K a0 = (23, 4)) (h_3 : mr a0 0 = A2) (h_4 : K a2 = (23, 4)) (h_6 : mr a2 0 = A5) (k_7 : zCall c k_JStr_equals 44 47 [some (zR a0), w1, some (zR a2)] [] 0 k_JL1_equals [zR A2, zR A5] (n, K, mr, mi) Q) : zX c k_JStr_equals 36 [some (zR a0), w1, some (zR a2)] [] (n, K, mr, mi) Q := by
  subst h_3
  subst h_6
  exact zX.n rfl (zX.g rfl h_1 (zX.n rfl (zX.g rfl h_4 (zX.callQ rfl trivial trivial k_7))))
theorem s_JStr_equals_47 {w0 : Option zV} {w1 : Option zV} {w2 : Option zV} {sx0 : Int} (p_1 : sx0 = 0 → zX c k_JStr_equals 54 [w0, w1, w2] [] (n, K, mr, mi) Q) (p_2 : ¬ sx0 = 0 → zX c k_JStr_equals 50 [w0, w1, w2] [] (n, K, mr, mi) Q) : zX c k_JStr_equals 47 [w0, w1, w2] [zI sx0] (n, K, mr, mi) Q := 
  zX.n rfl (zX.ite p_1 p_2)
theorem s_JStr_equals_50 {w0 : Option zV} {w1 : Option zV} {w2 : Option zV} (p_1 : zX c k_JStr_equals 55 [w0, w1, w2] [zI 1] (n, K, mr, mi) Q) : zX c k_JStr_equals 50 [w0, w1, w2] [] (n, K, mr, mi) Q := 
  zX.n rfl (zX.n rfl p_1)
theorem s_JStr_equals_54 {w0 : Option zV} {w1 : Option zV} {w2 : Option zV} (p_1 : zX c k_JStr_equals 55 [w0, w1, w2] [zI 0] (n, K, mr, mi) Q) : zX c k_JStr_equals 54 [w0, w1, w2] [] (n, K, mr, mi) Q := 
  zX.n rfl p_1
theorem s_JStr_equals_55 {w0 : Option zV} {w1 : Option zV} {w2 : Option zV} {sx0 : Int} (h_1 : sx0 = 0 ∨ sx0 = 1) (p_2 : Q (.inl (some (zI sx0))) (n, K, mr, mi)) : zX c k_JStr_equals 55 [w0, w1, w2] [zI sx0] (n, K, mr, mi) Q := 
  zX.ret rfl h_1 p_2
theorem s_Rd_takes_0 {a0 : Nat} {a1 : Nat} (h_1 : K a0 = (3, 10)) (p_2 : ¬ (mi a0 5) = (2 : Int) → zX c k_Rd_takes 19 [some (zR a0), some (zR a1)] [] (n, K, mr, mi) Q) (p_3 : (mi a0 5) = (2 : Int) → zX c k_Rd_takes 8 [some (zR a0), some (zR a1)] [] (n, K, mr, mi) Q) : zX c k_Rd_takes 0 [some (zR a0), some (zR a1)] [] (n, K, mr, mi) Q := 
  zX.n rfl (zX.g rfl h_1 (zX.n rfl (zX.n rfl (zX.itn p_2 p_3))))
theorem s_Rd_takes_8 {a0 : Nat} {a1 : Nat} {A2 : Nat} (h_1 : K a0 = (3, 10)) (h_3 : mr a0 8 = A2) (h_4 : K A2 = (23, 4)) (k_5 : zCall c k_Rd_takes 13 16 [some (zR a0), some (zR a1)] [] 0 k_JStr_equals [zR A2, zR a1] (n, K, mr, mi) Q) : zX c k_Rd_takes 8 [some (zR a0), some (zR a1)] [] (n, K, mr, mi) Q := by
  subst h_3
  exact zX.n rfl (zX.g rfl h_1 (zX.n rfl (zX.callQ rfl (congrArg Prod.fst h_4) trivial k_5)))
theorem s_Rd_takes_16 {a0 : Nat} {w1 : Option zV} {sx0 : Int} (p_1 : ¬ sx0 = 0 → zX c k_Rd_takes 21 [some (zR a0), w1] [] (n, K, mr, mi) Q) (p_2 : sx0 = 0 → zX c k_Rd_takes 19 [some (zR a0), w1] [] (n, K, mr, mi) Q) : zX c k_Rd_takes 16 [some (zR a0), w1] [zI sx0] (n, K, mr, mi) Q := 
  zX.n rfl (zX.itn p_1 p_2)
theorem s_Rd_takes_19 {w0 : Option zV} {w1 : Option zV} (p_1 : Q (.inl (some (zI 0))) (n, K, mr, mi)) : zX c k_Rd_takes 19 [w0, w1] [] (n, K, mr, mi) Q := 
  zX.n rfl (zX.ret rfl (Or.inl rfl) p_1)
theorem s_Rd_takes_21 {a0 : Nat} {w1 : Option zV} (h_1 : K a0 = (3, 10)) (k_2 : zCall c k_Rd_takes 22 25 [some (zR a0), w1] [] 0 k_Rd_next [zR a0] (n, K, mr, mi) Q) : zX c k_Rd_takes 21 [some (zR a0), w1] [] (n, K, mr, mi) Q := 
  zX.n rfl (zX.callQ rfl (congrArg Prod.fst h_1) trivial k_2)
theorem s_Rd_takes_25 {w0 : Option zV} {w1 : Option zV} (p_1 : Q (.inl (some (zI 1))) (n, K, mr, mi)) : zX c k_Rd_takes 25 [w0, w1] [] (n, K, mr, mi) Q := 
  zX.n rfl (zX.ret rfl (Or.inr rfl) p_1)
theorem s_Rd_must_0 {a0 : Nat} {a1 : Nat} (h_1 : K a0 = (3, 10)) (k_2 : zCall c k_Rd_must 2 5 [some (zR a0), some (zR a1)] [] 0 k_Rd_takes [zR a0, zR a1] (n, K, mr, mi) Q) : zX c k_Rd_must 0 [some (zR a0), some (zR a1)] [] (n, K, mr, mi) Q := 
  zX.n rfl (zX.n rfl (zX.callQ rfl (congrArg Prod.fst h_1) trivial k_2))
theorem s_Rd_must_5 {a0 : Nat} {w1 : Option zV} {sx0 : Int} (p_1 : ¬ sx0 = 0 → zX c k_Rd_must 14 [some (zR a0), w1] [] (n, K, mr, mi) Q) (p_2 : sx0 = 0 → zX c k_Rd_must 8 [some (zR a0), w1] [] (n, K, mr, mi) Q) : zX c k_Rd_must 5 [some (zR a0), w1] [zI sx0] (n, K, mr, mi) Q := 
  zX.n rfl (zX.itn p_1 p_2)
theorem s_Rd_must_8 {a0 : Nat} {w1 : Option zV} (h_1 : K a0 = (3, 10)) (k_2 : zCall c k_Rd_must 10 13 [some (zR a0), w1] [] 0 k_Rd_fail [zR a0, zI 1] (n, K, mr, mi) Q) : zX c k_Rd_must 8 [some (zR a0), w1] [] (n, K, mr, mi) Q := 
  zX.n rfl (zX.n rfl (zX.callQ rfl (congrArg Prod.fst h_1) trivial k_2))
theorem s_Rd_must_13 {w0 : Option zV} {w1 : Option zV} {sa0 : Nat} (p_1 : Q (.inr sa0) (n, K, mr, mi)) (h_2 : (K sa0).1 = 4) (h_3 : 64 ≤ sa0) : zX c k_Rd_must 13 [w0, w1] [zR sa0] (n, K, mr, mi) Q := 
  zX.thr rfl ⟨⟨h_3, fun e9 => absurd (h_2.symm.trans e9) (by decide)⟩, Nat.lt_of_le_of_lt (Nat.le_of_eq h_2) (by decide)⟩ rfl p_1
theorem s_Rd_must_14 {w0 : Option zV} {w1 : Option zV} (p_1 : Q (.inl none) (n, K, mr, mi)) : zX c k_Rd_must 14 [w0, w1] [] (n, K, mr, mi) Q := 
  zX.ret rfl trivial p_1
theorem s_Rd_numberHere_0 {a0 : Nat} {x1 : Int} {x2 : Int} (h_1 : K a0 = (3, 10)) (p_2 : (mi a0 5) = (3 : Int) → zX c k_Rd_numberHere 14 [some (zR a0), some (zI x1), some (zI x2)] [] (n, K, mr, mi) Q) (p_3 : ¬ (mi a0 5) = (3 : Int) → zX c k_Rd_numberHere 8 [some (zR a0), some (zI x1), some (zI x2)] [] (n, K, mr, mi) Q) : zX c k_Rd_numberHere 0 [some (zR a0), some (zI x1), some (zI x2)] [] (n, K, mr, mi) Q := 
  zX.n rfl (zX.g rfl h_1 (zX.n rfl (zX.n rfl (zX.ite p_2 p_3))))
theorem s_Rd_numberHere_8 {a0 : Nat} {w1 : Option zV} {w2 : Option zV} (h_1 : K a0 = (3, 10)) (k_2 : zCall c k_Rd_numberHere 10 13 [some (zR a0), w1, w2] [] 0 k_Rd_fail [zR a0, zI 1] (n, K, mr, mi) Q) : zX c k_Rd_numberHere 8 [some (zR a0), w1, w2] [] (n, K, mr, mi) Q := 
  zX.n rfl (zX.n rfl (zX.callQ rfl (congrArg Prod.fst h_1) trivial k_2))
theorem s_Rd_numberHere_13 {w0 : Option zV} {w1 : Option zV} {w2 : Option zV} {sa0 : Nat} (p_1 : Q (.inr sa0) (n, K, mr, mi)) (h_2 : (K sa0).1 = 4) (h_3 : 64 ≤ sa0) : zX c k_Rd_numberHere 13 [w0, w1, w2] [zR sa0] (n, K, mr, mi) Q := 
  zX.thr rfl ⟨⟨h_3, fun e9 => absurd (h_2.symm.trans e9) (by decide)⟩, Nat.lt_of_le_of_lt (Nat.le_of_eq h_2) (by decide)⟩ rfl p_1
theorem s_Rd_numberHere_14 {a0 : Nat} {x1 : Int} {x2 : Int} (h_1 : K a0 = (3, 10)) (k_2 : zCall c k_Rd_numberHere 20 23 [some (zR a0), some (zI x1), some (zI x2)] [] 0 k_B_in [zI (mi a0 7), zI x1, zI x2] (n, K, mr, mi) Q) : zX c k_Rd_numberHere 14 [some (zR a0), some (zI x1), some (zI x2)] [] (n, K, mr, mi) Q := 
  zX.n rfl (zX.g rfl h_1 (zX.n rfl (zX.n rfl (zX.callQ rfl trivial trivial k_2))))
theorem s_Rd_numberHere_23 {a0 : Nat} {w1 : Option zV} {w2 : Option zV} {sx0 : Int} (p_1 : ¬ sx0 = 0 → zX c k_Rd_numberHere 32 [some (zR a0), w1, w2] [] (n, K, mr, mi) Q) (p_2 : sx0 = 0 → zX c k_Rd_numberHere 26 [some (zR a0), w1, w2] [] (n, K, mr, mi) Q) : zX c k_Rd_numberHere 23 [some (zR a0), w1, w2] [zI sx0] (n, K, mr, mi) Q := 
  zX.n rfl (zX.itn p_1 p_2)
theorem s_Rd_numberHere_26 {a0 : Nat} {w1 : Option zV} {w2 : Option zV} (h_1 : K a0 = (3, 10)) (k_2 : zCall c k_Rd_numberHere 28 31 [some (zR a0), w1, w2] [] 0 k_Rd_fail [zR a0, zI 4] (n, K, mr, mi) Q) : zX c k_Rd_numberHere 26 [some (zR a0), w1, w2] [] (n, K, mr, mi) Q := 
  zX.n rfl (zX.n rfl (zX.callQ rfl (congrArg Prod.fst h_1) trivial k_2))
theorem s_Rd_numberHere_31 {w0 : Option zV} {w1 : Option zV} {w2 : Option zV} {sa0 : Nat} (p_1 : Q (.inr sa0) (n, K, mr, mi)) (h_2 : (K sa0).1 = 4) (h_3 : 64 ≤ sa0) : zX c k_Rd_numberHere 31 [w0, w1, w2] [zR sa0] (n, K, mr, mi) Q := 
  zX.thr rfl ⟨⟨h_3, fun e9 => absurd (h_2.symm.trans e9) (by decide)⟩, Nat.lt_of_le_of_lt (Nat.le_of_eq h_2) (by decide)⟩ rfl p_1
theorem s_Rd_numberHere_32 {a0 : Nat} {w1 : Option zV} {w2 : Option zV} (h_1 : K a0 = (3, 10)) (p_2 : Q (.inl (some (zI (mi a0 7)))) (n, K, mr, mi)) : zX c k_Rd_numberHere 32 [some (zR a0), w1, w2] [] (n, K, mr, mi) Q := 
  zX.n rfl (zX.g rfl h_1 (zX.ret rfl trivial p_2))
theorem s_Rd_number_0 {a0 : Nat} {x1 : Int} {x2 : Int} {w3 : Option zV} (h_1 : K a0 = (3, 10)) (k_2 : zCall c k_Rd_number 3 6 [some (zR a0), some (zI x1), some (zI x2), w3] [] 0 k_Rd_numberHere [zR a0, zI x1, zI x2] (n, K, mr, mi) Q) : zX c k_Rd_number 0 [some (zR a0), some (zI x1), some (zI x2), w3] [] (n, K, mr, mi) Q := 
  zX.n rfl (zX.n rfl (zX.n rfl (zX.callQ rfl (congrArg Prod.fst h_1) trivial k_2)))
theorem s_Rd_number_6 {a0 : Nat} {w1 : Option zV} {w2 : Option zV} {w3 : Option zV} {sx0 : Int} (h_1 : K a0 = (3, 10)) (k_2 : zCall c k_Rd_number 8 11 [some (zR a0), w1, (zkill w2), some (zI sx0)] [] 0 k_Rd_next [zR a0] (n, K, mr, mi) Q) : zX c k_Rd_number 6 [some (zR a0), w1, w2, w3] [zI sx0] (n, K, mr, mi) Q := 
  zX.n rfl (zX.n rfl (zX.callQ rfl (congrArg Prod.fst h_1) trivial k_2))
theorem s_Rd_number_11 {w0 : Option zV} {w1 : Option zV} {w2 : Option zV} {x3 : Int} (p_1 : Q (.inl (some (zI x3))) (n, K, mr, mi)) : zX c k_Rd_number 11 [w0, w1, w2, some (zI x3)] [] (n, K, mr, mi) Q := 
  zX.n rfl (zX.ret rfl trivial p_1)
theorem s_Rd_after_0 {a0 : Nat} {a1 : Nat} {x2 : Int} {x3 : Int} (h_1 : K a0 = (3, 10)) (k_2 : zCall c k_Rd_after 2 5 [some (zR a0), some (zR a1), some (zI x2), some (zI x3)] [] 0 k_Rd_must [zR a0, zR a1] (n, K, mr, mi) Q) : zX c k_Rd_after 0 [some (zR a0), some (zR a1), some (zI x2), some (zI x3)] [] (n, K, mr, mi) Q := 
  zX.n rfl (zX.n rfl (zX.callQ rfl (congrArg Prod.fst h_1) trivial k_2))
theorem s_Rd_after_5 {a0 : Nat} {w1 : Option zV} {x2 : Int} {x3 : Int} (h_1 : K a0 = (3, 10)) (k_2 : zCall c k_Rd_after 8 11 [some (zR a0), w1, some (zI x2), some (zI x3)] [] 0 k_Rd_number [zR a0, zI x2, zI x3] (n, K, mr, mi) Q) : zX c k_Rd_after 5 [some (zR a0), w1, some (zI x2), some (zI x3)] [] (n, K, mr, mi) Q := 
  zX.n rfl (zX.n rfl (zX.n rfl (zX.callQ rfl (congrArg Prod.fst h_1) trivial k_2)))
theorem s_Rd_after_11 {w0 : Option zV} {w1 : Option zV} {w2 : Option zV} {w3 : Option zV} {sx0 : Int} (p_1 : Q (.inl (some (zI sx0))) (n, K, mr, mi)) : zX c k_Rd_after 11 [w0, w1, w2, w3] [zI sx0] (n, K, mr, mi) Q := 
  zX.ret rfl trivial p_1
theorem s_Rd_glassLine_0 {a0 : Nat} {w1 : Option zV} {A2 : Nat} (h_1 : K a0 = (3, 10)) (h_3 : mr a0 9 = A2) (h_4 : K A2 = (18, 12)) (p_5 : (mi A2 4) ≤ 0 → zX c k_Rd_glassLine 16 [some (zR a0), w1] [] (n, K, mr, mi) Q) (p_6 : ¬ (mi A2 4) ≤ 0 → zX c k_Rd_glassLine 10 [some (zR a0), w1] [] (n, K, mr, mi) Q) : zX c k_Rd_glassLine 0 [some (zR a0), w1] [] (n, K, mr, mi) Q := by
  subst h_3
  exact zX.n rfl (zX.g rfl h_1 (zX.g rfl h_4 (zX.n rfl (zX.ite p_5 p_6))))
theorem s_Rd_glassLine_10 {a0 : Nat} {w1 : Option zV} (h_1 : K a0 = (3, 10)) (k_2 : zCall c k_Rd_glassLine 12 15 [some (zR a0), w1] [] 0 k_Rd_fail [zR a0, zI 3] (n, K, mr, mi) Q) : zX c k_Rd_glassLine 10 [some (zR a0), w1] [] (n, K, mr, mi) Q := 
  zX.n rfl (zX.n rfl (zX.callQ rfl (congrArg Prod.fst h_1) trivial k_2))
theorem s_Rd_glassLine_15 {w0 : Option zV} {w1 : Option zV} {sa0 : Nat} (p_1 : Q (.inr sa0) (n, K, mr, mi)) (h_2 : (K sa0).1 = 4) (h_3 : 64 ≤ sa0) : zX c k_Rd_glassLine 15 [w0, w1] [zR sa0] (n, K, mr, mi) Q := 
  zX.thr rfl ⟨⟨h_3, fun e9 => absurd (h_2.symm.trans e9) (by decide)⟩, Nat.lt_of_le_of_lt (Nat.le_of_eq h_2) (by decide)⟩ rfl p_1
theorem s_Rd_glassLine_16 {a0 : Nat} {w1 : Option zV} (h_1 : K a0 = (3, 10)) (k_2 : zCall c k_Rd_glassLine 17 20 [some (zR a0), w1] [] 0 k_Rd_next [zR a0] (n, K, mr, mi) Q) : zX c k_Rd_glassLine 16 [some (zR a0), w1] [] (n, K, mr, mi) Q := 
  zX.n rfl (zX.callQ rfl (congrArg Prod.fst h_1) trivial k_2)
theorem s_Rd_glassLine_20 {a0 : Nat} {w1 : Option zV} (h_1 : K a0 = (3, 10)) (k_2 : zCall c k_Rd_glassLine 26 29 [some (zR a0), w1] [] 0 k_Rd_after [zR a0, zR 10, zI 2, zI 30] (n, K, mr, mi) Q) : zX c k_Rd_glassLine 20 [some (zR a0), w1] [] (n, K, mr, mi) Q := 
  zX.n rfl (zX.n rfl (zX.n rfl (zX.n rfl (zX.callQ rfl (congrArg Prod.fst h_1) trivial k_2))))
theorem s_Rd_glassLine_29 {a0 : Nat} {w1 : Option zV} {sx0 : Int} {A2 : Nat} (h_1 : K a0 = (3, 10)) (h_3 : mr a0 9 = A2) (k_4 : zCall c k_Rd_glassLine 40 43 [some (zR a0), some (zI sx0)] [zR A2] 0 k_Rd_after [zR a0, zR 30, zI 2, zI 8] (n, K, mr, mi) Q) : zX c k_Rd_glassLine 29 [some (zR a0), w1] [zI sx0] (n, K, mr, mi) Q := by
  subst h_3
  exact zX.n rfl (zX.n rfl (zX.g rfl h_1 (zX.n rfl (zX.n rfl (zX.n rfl (zX.n rfl (zX.callQ rfl (congrArg Prod.fst h_1) trivial k_4)))))))
theorem s_Rd_glassLine_43 {a0 : Nat} {x1 : Int} {sa0 : Nat} {sx1 : Int} {A4 : Nat} (h_1 : K sa0 = (18, 12)) (h_2 : 64 ≤ sa0) (h_3 : K a0 = (3, 10)) (h_5 : mr a0 9 = A4) (k_6 : zCall c k_Rd_glassLine 56 59 [some (zR a0), some (zI x1)] [zR A4] 0 k_Rd_after [zR a0, zR 8, zI 1, zI 6] (n, K, mr, zst mi sa0 5 sx1) Q) : zX c k_Rd_glassLine 43 [some (zR a0), some (zI x1)] [zI sx1, zR sa0] (n, K, mr, mi) Q := by
  subst h_5
  exact zX.g rfl ⟨h_2, h_1⟩ (zX.n rfl (zX.g rfl h_3 (zX.n rfl (zX.n rfl (zX.n rfl (zX.n rfl (zX.callQ rfl (congrArg Prod.fst h_3) trivial k_6)))))))
theorem s_Rd_glassLine_59 {a0 : Nat} {x1 : Int} {sa0 : Nat} {sx1 : Int} {A4 : Nat} (h_1 : K sa0 = (18, 12)) (h_2 : 64 ≤ sa0) (h_3 : K a0 = (3, 10)) (h_5 : mr a0 9 = A4) (k_6 : zCall c k_Rd_glassLine 72 75 [some (zR a0), some (zI x1)] [zR A4] 0 k_Rd_after [zR a0, zR 34, zI 0, zI 100] (n, K, mr, zst mi sa0 6 sx1) Q) : zX c k_Rd_glassLine 59 [some (zR a0), some (zI x1)] [zI sx1, zR sa0] (n, K, mr, mi) Q := by
  subst h_5
  exact zX.g rfl ⟨h_2, h_1⟩ (zX.n rfl (zX.g rfl h_3 (zX.n rfl (zX.n rfl (zX.n rfl (zX.n rfl (zX.callQ rfl (congrArg Prod.fst h_3) trivial k_6)))))))
theorem s_Rd_glassLine_75 {a0 : Nat} {x1 : Int} {sa0 : Nat} {sx1 : Int} {A4 : Nat} (h_1 : K sa0 = (18, 12)) (h_2 : 64 ≤ sa0) (h_3 : K a0 = (3, 10)) (h_5 : mr a0 9 = A4) (h_6 : K A4 = (18, 12)) (h_7 : 64 ≤ A4) (p_8 : Q (.inl none) (n, K, mr, zst (zst mi sa0 7 sx1) A4 4 x1)) : zX c k_Rd_glassLine 75 [some (zR a0), some (zI x1)] [zI sx1, zR sa0] (n, K, mr, mi) Q := by
  subst h_5
  exact zX.g rfl ⟨h_2, h_1⟩ (zX.n rfl (zX.g rfl h_3 (zX.n rfl (zX.g rfl ⟨h_7, h_6⟩ (zX.ret rfl trivial p_8)))))
theorem s_Rd_begins_0 {a0 : Nat} {x1 : Int} (p_1 : ¬ x1 = 0 → zX c k_Rd_begins 10 [some (zR a0), some (zI x1)] [] (n, K, mr, mi) Q) (p_2 : x1 = 0 → zX c k_Rd_begins 4 [some (zR a0), some (zI x1)] [] (n, K, mr, mi) Q) : zX c k_Rd_begins 0 [some (zR a0), some (zI x1)] [] (n, K, mr, mi) Q := 
  zX.n rfl (zX.n rfl (zX.itn p_1 p_2))
theorem s_Rd_begins_4 {a0 : Nat} {w1 : Option zV} (h_1 : K a0 = (3, 10)) (k_2 : zCall c k_Rd_begins 6 9 [some (zR a0), w1] [] 0 k_Rd_fail [zR a0, zI 5] (n, K, mr, mi) Q) : zX c k_Rd_begins 4 [some (zR a0), w1] [] (n, K, mr, mi) Q := 
  zX.n rfl (zX.n rfl (zX.callQ rfl (congrArg Prod.fst h_1) trivial k_2))
theorem s_Rd_begins_9 {w0 : Option zV} {w1 : Option zV} {sa0 : Nat} (p_1 : Q (.inr sa0) (n, K, mr, mi)) (h_2 : (K sa0).1 = 4) (h_3 : 64 ≤ sa0) : zX c k_Rd_begins 9 [w0, w1] [zR sa0] (n, K, mr, mi) Q := 
  zX.thr rfl ⟨⟨h_3, fun e9 => absurd (h_2.symm.trans e9) (by decide)⟩, Nat.lt_of_le_of_lt (Nat.le_of_eq h_2) (by decide)⟩ rfl p_1
theorem s_Rd_begins_10 {a0 : Nat} {w1 : Option zV} {A2 : Nat} (h_1 : K a0 = (3, 10)) (h_3 : mr a0 9 = A2) (h_4 : K A2 = (18, 12)) (p_5 : ¬ (mi A2 4) = 0 → zX c k_Rd_begins 27 [some (zR a0), w1] [] (n, K, mr, mi) Q) (p_6 : (mi A2 4) = 0 → zX c k_Rd_begins 20 [some (zR a0), w1] [] (n, K, mr, mi) Q) : zX c k_Rd_begins 10 [some (zR a0), w1] [] (n, K, mr, mi) Q := by
  subst h_3
  exact zX.n rfl (zX.g rfl h_1 (zX.g rfl h_4 (zX.n rfl (zX.itn p_5 p_6))))
theorem s_Rd_begins_20 {a0 : Nat} {w1 : Option zV} (h_1 : K a0 = (3, 10)) (k_2 : zCall c k_Rd_begins 23 26 [some (zR a0), w1] [] 0 k_Rd_fail [zR a0, zI 6] (n, K, mr, mi) Q) : zX c k_Rd_begins 20 [some (zR a0), w1] [] (n, K, mr, mi) Q := 
  zX.n rfl (zX.n rfl (zX.callQ rfl (congrArg Prod.fst h_1) trivial k_2))
theorem s_Rd_begins_26 {w0 : Option zV} {w1 : Option zV} {sa0 : Nat} (p_1 : Q (.inr sa0) (n, K, mr, mi)) (h_2 : (K sa0).1 = 4) (h_3 : 64 ≤ sa0) : zX c k_Rd_begins 26 [w0, w1] [zR sa0] (n, K, mr, mi) Q := 
  zX.thr rfl ⟨⟨h_3, fun e9 => absurd (h_2.symm.trans e9) (by decide)⟩, Nat.lt_of_le_of_lt (Nat.le_of_eq h_2) (by decide)⟩ rfl p_1
theorem s_Rd_begins_27 {a0 : Nat} {w1 : Option zV} (h_1 : K a0 = (3, 10)) (k_2 : zCall c k_Rd_begins 28 31 [some (zR a0), w1] [] 0 k_Rd_next [zR a0] (n, K, mr, mi) Q) : zX c k_Rd_begins 27 [some (zR a0), w1] [] (n, K, mr, mi) Q := 
  zX.n rfl (zX.callQ rfl (congrArg Prod.fst h_1) trivial k_2)
theorem s_Rd_begins_31 {w0 : Option zV} {w1 : Option zV} (p_1 : Q (.inl none) (n, K, mr, mi)) : zX c k_Rd_begins 31 [w0, w1] [] (n, K, mr, mi) Q := 
  zX.ret rfl trivial p_1
theorem s_Rd_mustName_0 {a0 : Nat} {w1 : Option zV} {w2 : Option zV} (h_1 : K a0 = (3, 10)) (p_2 : (mi a0 5) = (2 : Int) → zX c k_Rd_mustName 14 [some (zR a0), w1, w2] [] (n, K, mr, mi) Q) (p_3 : ¬ (mi a0 5) = (2 : Int) → zX c k_Rd_mustName 8 [some (zR a0), w1, w2] [] (n, K, mr, mi) Q) : zX c k_Rd_mustName 0 [some (zR a0), w1, w2] [] (n, K, mr, mi) Q := 
  zX.n rfl (zX.g rfl h_1 (zX.n rfl (zX.n rfl (zX.ite p_2 p_3))))
theorem s_Rd_mustName_8 {a0 : Nat} {w1 : Option zV} {w2 : Option zV} (h_1 : K a0 = (3, 10)) (k_2 : zCall c k_Rd_mustName 10 13 [some (zR a0), w1, w2] [] 0 k_Rd_fail [zR a0, zI 1] (n, K, mr, mi) Q) : zX c k_Rd_mustName 8 [some (zR a0), w1, w2] [] (n, K, mr, mi) Q := 
  zX.n rfl (zX.n rfl (zX.callQ rfl (congrArg Prod.fst h_1) trivial k_2))
theorem s_Rd_mustName_13 {w0 : Option zV} {w1 : Option zV} {w2 : Option zV} {sa0 : Nat} (p_1 : Q (.inr sa0) (n, K, mr, mi)) (h_2 : (K sa0).1 = 4) (h_3 : 64 ≤ sa0) : zX c k_Rd_mustName 13 [w0, w1, w2] [zR sa0] (n, K, mr, mi) Q := 
  zX.thr rfl ⟨⟨h_3, fun e9 => absurd (h_2.symm.trans e9) (by decide)⟩, Nat.lt_of_le_of_lt (Nat.le_of_eq h_2) (by decide)⟩ rfl p_1
theorem s_Rd_mustName_14 {a0 : Nat} {w1 : Option zV} {w2 : Option zV} {A2 : Nat} (h_1 : K a0 = (3, 10)) (h_3 : mr a0 8 = A2) (h_4 : K A2 = (23, 4)) (k_5 : zCall c k_Rd_mustName 22 25 [some (zR a0), some (zR A2), some (zI ((-1)))] [] 0 k_JStr_hashCode [zR A2] (n, K, mr, mi) Q) : zX c k_Rd_mustName 14 [some (zR a0), w1, w2] [] (n, K, mr, mi) Q := by
  subst h_3
  exact zX.n rfl (zX.g rfl h_1 (zX.n rfl (zX.n rfl (zX.n rfl (zX.n rfl (zX.callQ rfl (congrArg Prod.fst h_4) trivial k_5))))))
theorem s_Rd_mustName_25 {a0 : Nat} {a1 : Nat} {x2 : Int} {sx0 : Int} (p_1 : sx0 = (-991716523) → zX c k_Rd_mustName 98 [some (zR a0), some (zR a1), some (zI x2)] [] (n, K, mr, mi) Q) (p_2 : sx0 = 3523048 → zX c k_Rd_mustName 154 [some (zR a0), some (zR a1), some (zI x2)] [] (n, K, mr, mi) Q) (p_3 : sx0 = 3526267 → zX c k_Rd_mustName 140 [some (zR a0), some (zR a1), some (zI x2)] [] (n, K, mr, mi) Q) (p_4 : sx0 = 3540569 → zX c k_Rd_mustName 112 [some (zR a0), some (zR a1), some (zI x2)] [] (n, K, mr, mi) Q) (p_5 : sx0 = 98436988 → zX c k_Rd_mustName 84 [some (zR a0), some (zR a1), some (zI x2)] [] (n, K, mr, mi) Q) (p_6 : sx0 = 104087234 → zX c k_Rd_mustName 126 [some (zR a0), some (zR a1), some (zI x2)] [] (n, K, mr, mi) Q) (p_7 : ¬ sx0 = (-991716523) → ¬ sx0 = 3523048 → ¬ sx0 = 3526267 → ¬ sx0 = 3540569 → ¬ sx0 = 98436988 → ¬ sx0 = 104087234 → zX c k_Rd_mustName 165 [some (zR a0), some (zR a1), some (zI x2)] [] (n, K, mr, mi) Q) : zX c k_Rd_mustName 25 [some (zR a0), some (zR a1), some (zI x2)] [zI sx0] (n, K, mr, mi) Q := 
  zX.n rfl (zX.lsw p_1 (fun q0 => (zX.lsw p_2 (fun q1 => (zX.lsw p_3 (fun q2 => (zX.lsw p_4 (fun q3 => (zX.lsw p_5 (fun q4 => (zX.lsw p_6 (fun q5 => (p_7 q0 q1 q2 q3 q4 q5)))))))))))))
theorem s_Rd_mustName_84 {a0 : Nat} {a1 : Nat} {x2 : Int} (h_1 : K a1 = (23, 4)) (k_2 : zCall c k_Rd_mustName 87 90 [some (zR a0), some (zR a1), some (zI x2)] [] 0 k_JStr_equals [zR a1, zR 14] (n, K, mr, mi) Q) : zX c k_Rd_mustName 84 [some (zR a0), some (zR a1), some (zI x2)] [] (n, K, mr, mi) Q := 
  zX.n rfl (zX.n rfl (zX.callQ rfl (congrArg Prod.fst h_1) trivial k_2))
theorem s_Rd_mustName_90 {a0 : Nat} {w1 : Option zV} {x2 : Int} {sx0 : Int} (p_1 : sx0 = 0 → zX c k_Rd_mustName 165 [some (zR a0), w1, some (zI x2)] [] (n, K, mr, mi) Q) (p_2 : ¬ sx0 = 0 → zX c k_Rd_mustName 93 [some (zR a0), w1, some (zI x2)] [] (n, K, mr, mi) Q) : zX c k_Rd_mustName 90 [some (zR a0), w1, some (zI x2)] [zI sx0] (n, K, mr, mi) Q := 
  zX.n rfl (zX.ite p_1 p_2)
theorem s_Rd_mustName_93 {a0 : Nat} {w1 : Option zV} {w2 : Option zV} (p_1 : zX c k_Rd_mustName 165 [some (zR a0), (zkill w1), some (zI 0)] [] (n, K, mr, mi) Q) : zX c k_Rd_mustName 93 [some (zR a0), w1, w2] [] (n, K, mr, mi) Q := 
  zX.n rfl (zX.n rfl (zX.n rfl p_1))
theorem s_Rd_mustName_98 {a0 : Nat} {a1 : Nat} {x2 : Int} (h_1 : K a1 = (23, 4)) (k_2 : zCall c k_Rd_mustName 101 104 [some (zR a0), some (zR a1), some (zI x2)] [] 0 k_JStr_equals [zR a1, zR 26] (n, K, mr, mi) Q) : zX c k_Rd_mustName 98 [some (zR a0), some (zR a1), some (zI x2)] [] (n, K, mr, mi) Q := 
  zX.n rfl (zX.n rfl (zX.callQ rfl (congrArg Prod.fst h_1) trivial k_2))
theorem s_Rd_mustName_104 {a0 : Nat} {w1 : Option zV} {x2 : Int} {sx0 : Int} (p_1 : sx0 = 0 → zX c k_Rd_mustName 165 [some (zR a0), w1, some (zI x2)] [] (n, K, mr, mi) Q) (p_2 : ¬ sx0 = 0 → zX c k_Rd_mustName 107 [some (zR a0), w1, some (zI x2)] [] (n, K, mr, mi) Q) : zX c k_Rd_mustName 104 [some (zR a0), w1, some (zI x2)] [zI sx0] (n, K, mr, mi) Q := 
  zX.n rfl (zX.ite p_1 p_2)
theorem s_Rd_mustName_107 {a0 : Nat} {w1 : Option zV} {w2 : Option zV} (p_1 : zX c k_Rd_mustName 165 [some (zR a0), (zkill w1), some (zI 1)] [] (n, K, mr, mi) Q) : zX c k_Rd_mustName 107 [some (zR a0), w1, w2] [] (n, K, mr, mi) Q := 
  zX.n rfl (zX.n rfl (zX.n rfl p_1))
theorem s_Rd_mustName_112 {a0 : Nat} {a1 : Nat} {x2 : Int} (h_1 : K a1 = (23, 4)) (k_2 : zCall c k_Rd_mustName 115 118 [some (zR a0), some (zR a1), some (zI x2)] [] 0 k_JStr_equals [zR a1, zR 40] (n, K, mr, mi) Q) : zX c k_Rd_mustName 112 [some (zR a0), some (zR a1), some (zI x2)] [] (n, K, mr, mi) Q := 
  zX.n rfl (zX.n rfl (zX.callQ rfl (congrArg Prod.fst h_1) trivial k_2))
theorem s_Rd_mustName_118 {a0 : Nat} {w1 : Option zV} {x2 : Int} {sx0 : Int} (p_1 : sx0 = 0 → zX c k_Rd_mustName 165 [some (zR a0), w1, some (zI x2)] [] (n, K, mr, mi) Q) (p_2 : ¬ sx0 = 0 → zX c k_Rd_mustName 121 [some (zR a0), w1, some (zI x2)] [] (n, K, mr, mi) Q) : zX c k_Rd_mustName 118 [some (zR a0), w1, some (zI x2)] [zI sx0] (n, K, mr, mi) Q := 
  zX.n rfl (zX.ite p_1 p_2)
theorem s_Rd_mustName_121 {a0 : Nat} {w1 : Option zV} {w2 : Option zV} (p_1 : zX c k_Rd_mustName 165 [some (zR a0), (zkill w1), some (zI 2)] [] (n, K, mr, mi) Q) : zX c k_Rd_mustName 121 [some (zR a0), w1, w2] [] (n, K, mr, mi) Q := 
  zX.n rfl (zX.n rfl (zX.n rfl p_1))
theorem s_Rd_mustName_126 {a0 : Nat} {a1 : Nat} {x2 : Int} (h_1 : K a1 = (23, 4)) (k_2 : zCall c k_Rd_mustName 129 132 [some (zR a0), some (zR a1), some (zI x2)] [] 0 k_JStr_equals [zR a1, zR 22] (n, K, mr, mi) Q) : zX c k_Rd_mustName 126 [some (zR a0), some (zR a1), some (zI x2)] [] (n, K, mr, mi) Q := 
  zX.n rfl (zX.n rfl (zX.callQ rfl (congrArg Prod.fst h_1) trivial k_2))
theorem s_Rd_mustName_132 {a0 : Nat} {w1 : Option zV} {x2 : Int} {sx0 : Int} (p_1 : sx0 = 0 → zX c k_Rd_mustName 165 [some (zR a0), w1, some (zI x2)] [] (n, K, mr, mi) Q) (p_2 : ¬ sx0 = 0 → zX c k_Rd_mustName 135 [some (zR a0), w1, some (zI x2)] [] (n, K, mr, mi) Q) : zX c k_Rd_mustName 132 [some (zR a0), w1, some (zI x2)] [zI sx0] (n, K, mr, mi) Q := 
  zX.n rfl (zX.ite p_1 p_2)
theorem s_Rd_mustName_135 {a0 : Nat} {w1 : Option zV} {w2 : Option zV} (p_1 : zX c k_Rd_mustName 165 [some (zR a0), (zkill w1), some (zI 3)] [] (n, K, mr, mi) Q) : zX c k_Rd_mustName 135 [some (zR a0), w1, w2] [] (n, K, mr, mi) Q := 
  zX.n rfl (zX.n rfl (zX.n rfl p_1))
theorem s_Rd_mustName_140 {a0 : Nat} {a1 : Nat} {x2 : Int} (h_1 : K a1 = (23, 4)) (k_2 : zCall c k_Rd_mustName 143 146 [some (zR a0), some (zR a1), some (zI x2)] [] 0 k_JStr_equals [zR a1, zR 38] (n, K, mr, mi) Q) : zX c k_Rd_mustName 140 [some (zR a0), some (zR a1), some (zI x2)] [] (n, K, mr, mi) Q := 
  zX.n rfl (zX.n rfl (zX.callQ rfl (congrArg Prod.fst h_1) trivial k_2))
theorem s_Rd_mustName_146 {a0 : Nat} {w1 : Option zV} {x2 : Int} {sx0 : Int} (p_1 : sx0 = 0 → zX c k_Rd_mustName 165 [some (zR a0), w1, some (zI x2)] [] (n, K, mr, mi) Q) (p_2 : ¬ sx0 = 0 → zX c k_Rd_mustName 149 [some (zR a0), w1, some (zI x2)] [] (n, K, mr, mi) Q) : zX c k_Rd_mustName 146 [some (zR a0), w1, some (zI x2)] [zI sx0] (n, K, mr, mi) Q := 
  zX.n rfl (zX.ite p_1 p_2)
theorem s_Rd_mustName_149 {a0 : Nat} {w1 : Option zV} {w2 : Option zV} (p_1 : zX c k_Rd_mustName 165 [some (zR a0), (zkill w1), some (zI 4)] [] (n, K, mr, mi) Q) : zX c k_Rd_mustName 149 [some (zR a0), w1, w2] [] (n, K, mr, mi) Q := 
  zX.n rfl (zX.n rfl (zX.n rfl p_1))
theorem s_Rd_mustName_154 {a0 : Nat} {a1 : Nat} {x2 : Int} (h_1 : K a1 = (23, 4)) (k_2 : zCall c k_Rd_mustName 157 160 [some (zR a0), some (zR a1), some (zI x2)] [] 0 k_JStr_equals [zR a1, zR 36] (n, K, mr, mi) Q) : zX c k_Rd_mustName 154 [some (zR a0), some (zR a1), some (zI x2)] [] (n, K, mr, mi) Q := 
  zX.n rfl (zX.n rfl (zX.callQ rfl (congrArg Prod.fst h_1) trivial k_2))
theorem s_Rd_mustName_160 {a0 : Nat} {w1 : Option zV} {x2 : Int} {sx0 : Int} (p_1 : sx0 = 0 → zX c k_Rd_mustName 165 [some (zR a0), w1, some (zI x2)] [] (n, K, mr, mi) Q) (p_2 : ¬ sx0 = 0 → zX c k_Rd_mustName 163 [some (zR a0), w1, some (zI x2)] [] (n, K, mr, mi) Q) : zX c k_Rd_mustName 160 [some (zR a0), w1, some (zI x2)] [zI sx0] (n, K, mr, mi) Q := 
  zX.n rfl (zX.ite p_1 p_2)
theorem s_Rd_mustName_163 {a0 : Nat} {w1 : Option zV} {w2 : Option zV} (p_1 : zX c k_Rd_mustName 165 [some (zR a0), (zkill w1), some (zI 5)] [] (n, K, mr, mi) Q) : zX c k_Rd_mustName 163 [some (zR a0), w1, w2] [] (n, K, mr, mi) Q := 
  zX.n rfl (zX.n rfl p_1)
theorem s_Rd_mustName_165 {a0 : Nat} {w1 : Option zV} {x2 : Int} (p_1 : x2 = 0 → zX c k_Rd_mustName 204 [some (zR a0), w1, some (zI x2)] [] (n, K, mr, mi) Q) (p_2 : x2 = 1 → zX c k_Rd_mustName 204 [some (zR a0), w1, some (zI x2)] [] (n, K, mr, mi) Q) (p_3 : x2 = 2 → zX c k_Rd_mustName 204 [some (zR a0), w1, some (zI x2)] [] (n, K, mr, mi) Q) (p_4 : x2 = 3 → zX c k_Rd_mustName 204 [some (zR a0), w1, some (zI x2)] [] (n, K, mr, mi) Q) (p_5 : x2 = 4 → zX c k_Rd_mustName 204 [some (zR a0), w1, some (zI x2)] [] (n, K, mr, mi) Q) (p_6 : x2 = 5 → zX c k_Rd_mustName 204 [some (zR a0), w1, some (zI x2)] [] (n, K, mr, mi) Q) (p_7 : x2 < 0 ∨ 5 < x2 → zX c k_Rd_mustName 210 [some (zR a0), w1, some (zI x2)] [] (n, K, mr, mi) Q) : zX c k_Rd_mustName 165 [some (zR a0), w1, some (zI x2)] [] (n, K, mr, mi) Q := 
  zX.n rfl (zX.n rfl (zX.tsw (fun k hk hx => match k, hk, hx with | 0, _, hx => p_1 hx | 1, _, hx => p_2 hx | 2, _, hx => p_3 hx | 3, _, hx => p_4 hx | 4, _, hx => p_5 hx | 5, _, hx => p_6 hx | k + 6, hk, _ => absurd hk (by omega)) p_7))
theorem s_Rd_mustName_204 {a0 : Nat} {w1 : Option zV} {w2 : Option zV} (h_1 : K a0 = (3, 10)) (k_2 : zCall c k_Rd_mustName 206 209 [some (zR a0), w1, w2] [] 0 k_Rd_fail [zR a0, zI 1] (n, K, mr, mi) Q) : zX c k_Rd_mustName 204 [some (zR a0), w1, w2] [] (n, K, mr, mi) Q := 
  zX.n rfl (zX.n rfl (zX.callQ rfl (congrArg Prod.fst h_1) trivial k_2))
theorem s_Rd_mustName_209 {w0 : Option zV} {w1 : Option zV} {w2 : Option zV} {sa0 : Nat} (p_1 : Q (.inr sa0) (n, K, mr, mi)) (h_2 : (K sa0).1 = 4) (h_3 : 64 ≤ sa0) : zX c k_Rd_mustName 209 [w0, w1, w2] [zR sa0] (n, K, mr, mi) Q := 
  zX.thr rfl ⟨⟨h_3, fun e9 => absurd (h_2.symm.trans e9) (by decide)⟩, Nat.lt_of_le_of_lt (Nat.le_of_eq h_2) (by decide)⟩ rfl p_1
theorem s_Rd_mustName_210 {w0 : Option zV} {w1 : Option zV} {w2 : Option zV} (p_1 : Q (.inl none) (n, K, mr, mi)) : zX c k_Rd_mustName 210 [w0, w1, w2] [] (n, K, mr, mi) Q := 
  zX.ret rfl trivial p_1
theorem s_Rd_newName_0 {a0 : Nat} {w1 : Option zV} (h_1 : K a0 = (3, 10)) (k_2 : zCall c k_Rd_newName 1 4 [some (zR a0), w1] [] 0 k_Rd_mustName [zR a0] (n, K, mr, mi) Q) : zX c k_Rd_newName 0 [some (zR a0), w1] [] (n, K, mr, mi) Q := 
  zX.n rfl (zX.callQ rfl (congrArg Prod.fst h_1) trivial k_2)
theorem s_Rd_newName_4 {a0 : Nat} {w1 : Option zV} {A2 : Nat} {A4 : Nat} (h_1 : K a0 = (3, 10)) (h_3 : mr a0 9 = A2) (h_5 : mr a0 8 = A4) (h_6 : K A2 = (18, 12)) (k_7 : zCall c k_Rd_newName 12 15 [some (zR a0), w1] [] 0 k_G_find [zR A2, zR A4] (n, K, mr, mi) Q) : zX c k_Rd_newName 4 [some (zR a0), w1] [] (n, K, mr, mi) Q := by
  subst h_3
  subst h_5
  exact zX.n rfl (zX.g rfl h_1 (zX.n rfl (zX.g rfl h_1 (zX.callQ rfl (congrArg Prod.fst h_6) trivial k_7))))
theorem s_Rd_newName_15 {a0 : Nat} {w1 : Option zV} {sa0 : Nat} (h_1 : sa0 = 0 ∨ (K sa0).1 ≠ 0) (p_2 : sa0 = 0 → zX c k_Rd_newName 24 [some (zR a0), w1] [] (n, K, mr, mi) Q) (p_3 : ¬ sa0 = 0 → zX c k_Rd_newName 18 [some (zR a0), w1] [] (n, K, mr, mi) Q) : zX c k_Rd_newName 15 [some (zR a0), w1] [zR sa0] (n, K, mr, mi) Q := 
  zX.g rfl h_1 (zX.ite p_2 p_3)
theorem s_Rd_newName_18 {a0 : Nat} {w1 : Option zV} (h_1 : K a0 = (3, 10)) (k_2 : zCall c k_Rd_newName 20 23 [some (zR a0), w1] [] 0 k_Rd_fail [zR a0, zI 3] (n, K, mr, mi) Q) : zX c k_Rd_newName 18 [some (zR a0), w1] [] (n, K, mr, mi) Q := 
  zX.n rfl (zX.n rfl (zX.callQ rfl (congrArg Prod.fst h_1) trivial k_2))
theorem s_Rd_newName_23 {w0 : Option zV} {w1 : Option zV} {sa0 : Nat} (p_1 : Q (.inr sa0) (n, K, mr, mi)) (h_2 : (K sa0).1 = 4) (h_3 : 64 ≤ sa0) : zX c k_Rd_newName 23 [w0, w1] [zR sa0] (n, K, mr, mi) Q := 
  zX.thr rfl ⟨⟨h_3, fun e9 => absurd (h_2.symm.trans e9) (by decide)⟩, Nat.lt_of_le_of_lt (Nat.le_of_eq h_2) (by decide)⟩ rfl p_1
theorem s_Rd_newName_24 {a0 : Nat} {w1 : Option zV} {A2 : Nat} (h_1 : K a0 = (3, 10)) (h_3 : mr a0 8 = A2) (k_4 : zCall c k_Rd_newName 30 33 [some (zR a0), some (zR A2)] [] 0 k_Rd_next [zR a0] (n, K, mr, mi) Q) : zX c k_Rd_newName 24 [some (zR a0), w1] [] (n, K, mr, mi) Q := by
  subst h_3
  exact zX.n rfl (zX.g rfl h_1 (zX.n rfl (zX.n rfl (zX.callQ rfl (congrArg Prod.fst h_1) trivial k_4))))
theorem s_Rd_newName_33 {w0 : Option zV} {a1 : Nat} (p_1 : Q (.inl (some (zR a1))) (n, K, mr, mi)) : zX c k_Rd_newName 33 [w0, some (zR a1)] [] (n, K, mr, mi) Q := 
  zX.n rfl (zX.ret rfl trivial p_1)
theorem s_Rd_kind_0 {a0 : Nat} (h_1 : K a0 = (3, 10)) (k_2 : zCall c k_Rd_kind 3 6 [some (zR a0)] [] 0 k_Rd_takes [zR a0, zR 42] (n, K, mr, mi) Q) : zX c k_Rd_kind 0 [some (zR a0)] [] (n, K, mr, mi) Q := 
  zX.n rfl (zX.n rfl (zX.callQ rfl (congrArg Prod.fst h_1) trivial k_2))
theorem s_Rd_kind_6 {a0 : Nat} {sx0 : Int} (p_1 : sx0 = 0 → zX c k_Rd_kind 11 [some (zR a0)] [] (n, K, mr, mi) Q) (p_2 : ¬ sx0 = 0 → zX c k_Rd_kind 9 [some (zR a0)] [] (n, K, mr, mi) Q) : zX c k_Rd_kind 6 [some (zR a0)] [zI sx0] (n, K, mr, mi) Q := 
  zX.n rfl (zX.ite p_1 p_2)
theorem s_Rd_kind_9 {w0 : Option zV} (p_1 : Q (.inl (some (zI 0))) (n, K, mr, mi)) : zX c k_Rd_kind 9 [w0] [] (n, K, mr, mi) Q := 
  zX.n rfl (zX.ret rfl trivial p_1)
theorem s_Rd_kind_11 {a0 : Nat} (h_1 : K a0 = (3, 10)) (k_2 : zCall c k_Rd_kind 14 17 [some (zR a0)] [] 0 k_Rd_takes [zR a0, zR 6] (n, K, mr, mi) Q) : zX c k_Rd_kind 11 [some (zR a0)] [] (n, K, mr, mi) Q := 
  zX.n rfl (zX.n rfl (zX.callQ rfl (congrArg Prod.fst h_1) trivial k_2))
theorem s_Rd_kind_17 {a0 : Nat} {sx0 : Int} (p_1 : sx0 = 0 → zX c k_Rd_kind 22 [some (zR a0)] [] (n, K, mr, mi) Q) (p_2 : ¬ sx0 = 0 → zX c k_Rd_kind 20 [some (zR a0)] [] (n, K, mr, mi) Q) : zX c k_Rd_kind 17 [some (zR a0)] [zI sx0] (n, K, mr, mi) Q := 
  zX.n rfl (zX.ite p_1 p_2)
theorem s_Rd_kind_20 {w0 : Option zV} (p_1 : Q (.inl (some (zI 1))) (n, K, mr, mi)) : zX c k_Rd_kind 20 [w0] [] (n, K, mr, mi) Q := 
  zX.n rfl (zX.ret rfl trivial p_1)
theorem s_Rd_kind_22 {a0 : Nat} (h_1 : K a0 = (3, 10)) (k_2 : zCall c k_Rd_kind 25 28 [some (zR a0)] [] 0 k_Rd_takes [zR a0, zR 28] (n, K, mr, mi) Q) : zX c k_Rd_kind 22 [some (zR a0)] [] (n, K, mr, mi) Q := 
  zX.n rfl (zX.n rfl (zX.callQ rfl (congrArg Prod.fst h_1) trivial k_2))
theorem s_Rd_kind_28 {a0 : Nat} {sx0 : Int} (p_1 : sx0 = 0 → zX c k_Rd_kind 33 [some (zR a0)] [] (n, K, mr, mi) Q) (p_2 : ¬ sx0 = 0 → zX c k_Rd_kind 31 [some (zR a0)] [] (n, K, mr, mi) Q) : zX c k_Rd_kind 28 [some (zR a0)] [zI sx0] (n, K, mr, mi) Q := 
  zX.n rfl (zX.ite p_1 p_2)
theorem s_Rd_kind_31 {w0 : Option zV} (p_1 : Q (.inl (some (zI 2))) (n, K, mr, mi)) : zX c k_Rd_kind 31 [w0] [] (n, K, mr, mi) Q := 
  zX.n rfl (zX.ret rfl trivial p_1)
theorem s_Rd_kind_33 {a0 : Nat} (h_1 : K a0 = (3, 10)) (k_2 : zCall c k_Rd_kind 36 39 [some (zR a0)] [] 0 k_Rd_must [zR a0, zR 20] (n, K, mr, mi) Q) : zX c k_Rd_kind 33 [some (zR a0)] [] (n, K, mr, mi) Q := 
  zX.n rfl (zX.n rfl (zX.callQ rfl (congrArg Prod.fst h_1) trivial k_2))
theorem s_Rd_kind_39 {w0 : Option zV} (p_1 : Q (.inl (some (zI 3))) (n, K, mr, mi)) : zX c k_Rd_kind 39 [w0] [] (n, K, mr, mi) Q := 
  zX.n rfl (zX.ret rfl trivial p_1)
theorem s_Rd_habit_0 {a0 : Nat} (h_1 : K a0 = (3, 10)) (k_2 : zCall c k_Rd_habit 3 6 [some (zR a0)] [] 0 k_Rd_takes [zR a0, zR 12] (n, K, mr, mi) Q) : zX c k_Rd_habit 0 [some (zR a0)] [] (n, K, mr, mi) Q := 
  zX.n rfl (zX.n rfl (zX.callQ rfl (congrArg Prod.fst h_1) trivial k_2))
theorem s_Rd_habit_6 {a0 : Nat} {sx0 : Int} (p_1 : sx0 = 0 → zX c k_Rd_habit 11 [some (zR a0)] [] (n, K, mr, mi) Q) (p_2 : ¬ sx0 = 0 → zX c k_Rd_habit 9 [some (zR a0)] [] (n, K, mr, mi) Q) : zX c k_Rd_habit 6 [some (zR a0)] [zI sx0] (n, K, mr, mi) Q := 
  zX.n rfl (zX.ite p_1 p_2)
theorem s_Rd_habit_9 {w0 : Option zV} (p_1 : Q (.inl (some (zI 0))) (n, K, mr, mi)) : zX c k_Rd_habit 9 [w0] [] (n, K, mr, mi) Q := 
  zX.n rfl (zX.ret rfl trivial p_1)
theorem s_Rd_habit_11 {a0 : Nat} (h_1 : K a0 = (3, 10)) (k_2 : zCall c k_Rd_habit 14 17 [some (zR a0)] [] 0 k_Rd_takes [zR a0, zR 48] (n, K, mr, mi) Q) : zX c k_Rd_habit 11 [some (zR a0)] [] (n, K, mr, mi) Q := 
  zX.n rfl (zX.n rfl (zX.callQ rfl (congrArg Prod.fst h_1) trivial k_2))
theorem s_Rd_habit_17 {a0 : Nat} {sx0 : Int} (p_1 : sx0 = 0 → zX c k_Rd_habit 22 [some (zR a0)] [] (n, K, mr, mi) Q) (p_2 : ¬ sx0 = 0 → zX c k_Rd_habit 20 [some (zR a0)] [] (n, K, mr, mi) Q) : zX c k_Rd_habit 17 [some (zR a0)] [zI sx0] (n, K, mr, mi) Q := 
  zX.n rfl (zX.ite p_1 p_2)
theorem s_Rd_habit_20 {w0 : Option zV} (p_1 : Q (.inl (some (zI 1))) (n, K, mr, mi)) : zX c k_Rd_habit 20 [w0] [] (n, K, mr, mi) Q := 
  zX.n rfl (zX.ret rfl trivial p_1)
theorem s_Rd_habit_22 {a0 : Nat} (h_1 : K a0 = (3, 10)) (k_2 : zCall c k_Rd_habit 25 28 [some (zR a0)] [] 0 k_Rd_must [zR a0, zR 32] (n, K, mr, mi) Q) : zX c k_Rd_habit 22 [some (zR a0)] [] (n, K, mr, mi) Q := 
  zX.n rfl (zX.n rfl (zX.callQ rfl (congrArg Prod.fst h_1) trivial k_2))
theorem s_Rd_habit_28 {w0 : Option zV} (p_1 : Q (.inl (some (zI 2))) (n, K, mr, mi)) : zX c k_Rd_habit 28 [w0] [] (n, K, mr, mi) Q := 
  zX.n rfl (zX.ret rfl trivial p_1)
theorem s_JStr_coder_0 {a0 : Nat} (p_1 : (1 : Int) = 0 → zX c k_JStr_coder 13 [some (zR a0)] [] (n, K, mr, mi) Q) (p_2 : ¬ (1 : Int) = 0 → zX c k_JStr_coder 6 [some (zR a0)] [] (n, K, mr, mi) Q) : zX c k_JStr_coder 0 [some (zR a0)] [] (n, K, mr, mi) Q := 
  zX.n rfl (zX.n rfl (zX.ite p_1 p_2))
theorem s_JStr_coder_6 {a0 : Nat} (h_1 : K a0 = (23, 4)) (p_2 : zX c k_JStr_coder 14 [some (zR a0)] [zI (mi a0 1)] (n, K, mr, mi) Q) : zX c k_JStr_coder 6 [some (zR a0)] [] (n, K, mr, mi) Q := 
  zX.n rfl (zX.g rfl h_1 (zX.n rfl p_2))
theorem s_JStr_coder_13 {w0 : Option zV} (p_1 : zX c k_JStr_coder 14 [w0] [zI 1] (n, K, mr, mi) Q) : zX c k_JStr_coder 13 [w0] [] (n, K, mr, mi) Q := 
  zX.n rfl p_1
theorem s_JStr_coder_14 {w0 : Option zV} {sx0 : Int} (h_1 : zi2b sx0 = sx0) (p_2 : Q (.inl (some (zI sx0))) (n, K, mr, mi)) : zX c k_JStr_coder 14 [w0] [zI sx0] (n, K, mr, mi) Q := 
  zX.ret rfl h_1 p_2
theorem s_JStr_length_0 {a0 : Nat} {A2 : Nat} {kd4 : Nat} {N5 : Nat} (h_1 : K a0 = (23, 4)) (h_3 : mr a0 0 = A2) (h_6 : K A2 = (kd4, N5)) (h_7 : 100 ≤ kd4) (k_8 : zCall c k_JStr_length 6 9 [some (zR a0)] [zI ((N5 : Int))] 0 k_JStr_coder [zR a0] (n, K, mr, mi) Q) : zX c k_JStr_length 0 [some (zR a0)] [] (n, K, mr, mi) Q := by
  subst h_3
  have hN_N5 := congrArg Prod.snd h_6; dsimp only at hN_N5; subst hN_N5
  exact zX.n rfl (zX.g rfl h_1 (zX.g rfl (Nat.le_trans h_7 (Nat.le_of_eq (congrArg Prod.fst h_6).symm)) (zX.n rfl (zX.callQ rfl (congrArg Prod.fst h_1) trivial k_8))))
theorem s_JStr_length_9 {w0 : Option zV} {sx0 : Int} {sx1 : Int} (p_1 : Q (.inl (some (zI (zshr sx0 sx1)))) (n, K, mr, mi)) : zX c k_JStr_length 9 [w0] [zI sx1, zI sx0] (n, K, mr, mi) Q := 
  zX.n rfl (zX.ret rfl trivial p_1)
theorem s_JPre_checkIndex_0 {x0 : Int} {x1 : Int} {w2 : Option zV} (h_1 : ¬ (x0 < 0)) (p_2 : ¬ x0 < 0 → zX c k_JPre_checkIndex 4 [some (zI x0), some (zI x1), w2] [] (n, K, mr, mi) Q) : zX c k_JPre_checkIndex 0 [some (zI x0), some (zI x1), w2] [] (n, K, mr, mi) Q := 
  zX.n rfl (zX.n rfl (zX.ite (fun hh => absurd hh h_1) p_2))
theorem s_JPre_checkIndex_4 {x0 : Int} {x1 : Int} {w2 : Option zV} (p_1 : x0 < x1 → zX c k_JPre_checkIndex 16 [some (zI x0), some (zI x1), w2] [] (n, K, mr, mi) Q) (h_2 : ¬ ¬ (x0 < x1)) : zX c k_JPre_checkIndex 4 [some (zI x0), some (zI x1), w2] [] (n, K, mr, mi) Q := 
  zX.n rfl (zX.n rfl (zX.n rfl (zX.ite p_1 (fun hh => absurd hh h_2))))
theorem s_JPre_checkIndex_16 {x0 : Int} {w1 : Option zV} {w2 : Option zV} (p_1 : Q (.inl (some (zI x0))) (n, K, mr, mi)) : zX c k_JPre_checkIndex 16 [some (zI x0), w1, w2] [] (n, K, mr, mi) Q := 
  zX.n rfl (zX.ret rfl trivial p_1)
theorem s_JStr_checkIndex_0 {x0 : Int} {x1 : Int} (k_1 : zCall c k_JStr_checkIndex 5 8 [some (zI x0), some (zI x1)] [] 0 k_JPre_checkIndex [zI x0, zI x1, zR 63] (n, K, mr, mi) Q) : zX c k_JStr_checkIndex 0 [some (zI x0), some (zI x1)] [] (n, K, mr, mi) Q := 
  zX.n rfl (zX.n rfl (zX.n rfl (zX.callQ rfl trivial trivial k_1)))
theorem s_JStr_checkIndex_8 {w0 : Option zV} {w1 : Option zV} {sx0 : Int} (p_1 : Q (.inl none) (n, K, mr, mi)) : zX c k_JStr_checkIndex 8 [w0, w1] [zI sx0] (n, K, mr, mi) Q := 
  zX.n rfl (zX.ret rfl trivial p_1)
theorem s_JL1_charAt_0 {a0 : Nat} {x1 : Int} {kd1 : Nat} {N2 : Nat} (h_3 : K a0 = (kd1, N2)) (h_4 : 100 ≤ kd1) (k_5 : zCall c k_JL1_charAt 3 6 [some (zR a0), some (zI x1)] [] 0 k_JStr_checkIndex [zI x1, zI ((N2 : Int))] (n, K, mr, mi) Q) : zX c k_JL1_charAt 0 [some (zR a0), some (zI x1)] [] (n, K, mr, mi) Q := by
  have hN_N2 := congrArg Prod.snd h_3; dsimp only at hN_N2; subst hN_N2
  exact zX.n rfl (zX.n rfl (zX.g rfl (Nat.le_trans h_4 (Nat.le_of_eq (congrArg Prod.fst h_3).symm)) (zX.callQ rfl trivial trivial k_5)))
theorem s_JL1_charAt_6 {a0 : Nat} {x1 : Int} {N1 : Nat} {j5 : Nat} (h_2 : K a0 = (101, N1)) (h_3 : 0 ≤ x1) (h_4 : x1 < (N1 : Int)) (h_6 : Int.toNat x1 = j5) (h_7 : zi2c (zi2c (zand (mi a0 j5) 255)) = (zi2c (zand (mi a0 j5) 255))) (p_8 : Q (.inl (some (zI (zi2c (zand (mi a0 j5) 255))))) (n, K, mr, mi)) : zX c k_JL1_charAt 6 [some (zR a0), some (zI x1)] [] (n, K, mr, mi) Q := by
  subst h_6
  exact zX.n rfl (zX.n rfl (zX.g rfl ⟨N1, Or.inl h_2, h_3, h_4⟩ (zX.n rfl (zX.n rfl (zX.n rfl (zX.ret rfl h_7 p_8))))))
theorem s_JStr_charAt_0 {a0 : Nat} {x1 : Int} (h_1 : K a0 = (23, 4)) (k_2 : zCall c k_JStr_charAt 1 4 [some (zR a0), some (zI x1)] [] 0 k_JStr_isLatin1 [zR a0] (n, K, mr, mi) Q) : zX c k_JStr_charAt 0 [some (zR a0), some (zI x1)] [] (n, K, mr, mi) Q := 
  zX.n rfl (zX.callQ rfl (congrArg Prod.fst h_1) trivial k_2)
theorem s_JStr_charAt_4 {a0 : Nat} {x1 : Int} {sx0 : Int} (h_1 : ¬ (sx0 = 0)) (p_2 : ¬ sx0 = 0 → zX c k_JStr_charAt 7 [some (zR a0), some (zI x1)] [] (n, K, mr, mi) Q) : zX c k_JStr_charAt 4 [some (zR a0), some (zI x1)] [zI sx0] (n, K, mr, mi) Q := 
  zX.n rfl (zX.ite (fun hh => absurd hh h_1) p_2)
theorem s_JStr_charAt_7 {a0 : Nat} {x1 : Int} {A2 : Nat} (h_1 : K a0 = (23, 4)) (h_3 : mr a0 0 = A2) (k_4 : zCall c k_JStr_charAt 12 15 [some (zR a0), some (zI x1)] [] 0 k_JL1_charAt [zR A2, zI x1] (n, K, mr, mi) Q) : zX c k_JStr_charAt 7 [some (zR a0), some (zI x1)] [] (n, K, mr, mi) Q := by
  subst h_3
  exact zX.n rfl (zX.g rfl h_1 (zX.n rfl (zX.callQ rfl trivial trivial k_4)))
theorem s_JStr_charAt_15 {w0 : Option zV} {w1 : Option zV} {sx0 : Int} (h_1 : zi2c sx0 = sx0) (p_2 : Q (.inl (some (zI sx0))) (n, K, mr, mi)) : zX c k_JStr_charAt 15 [w0, w1] [zI sx0] (n, K, mr, mi) Q := 
  zX.ret rfl h_1 p_2
theorem s_Rd_order_0 {a0 : Nat} {a1 : Nat} {w2 : Option zV} {w3 : Option zV} (h_1 : K a0 = (3, 10)) (p_2 : (mi a0 5) = (2 : Int) → zX c k_Rd_order 14 [some (zR a0), some (zR a1), w2, w3] [] (n, K, mr, mi) Q) (p_3 : ¬ (mi a0 5) = (2 : Int) → zX c k_Rd_order 8 [some (zR a0), some (zR a1), w2, w3] [] (n, K, mr, mi) Q) : zX c k_Rd_order 0 [some (zR a0), some (zR a1), w2, w3] [] (n, K, mr, mi) Q := 
  zX.n rfl (zX.g rfl h_1 (zX.n rfl (zX.n rfl (zX.ite p_2 p_3))))
theorem s_Rd_order_8 {a0 : Nat} {w1 : Option zV} {w2 : Option zV} {w3 : Option zV} (h_1 : K a0 = (3, 10)) (k_2 : zCall c k_Rd_order 10 13 [some (zR a0), w1, w2, w3] [] 0 k_Rd_fail [zR a0, zI 1] (n, K, mr, mi) Q) : zX c k_Rd_order 8 [some (zR a0), w1, w2, w3] [] (n, K, mr, mi) Q := 
  zX.n rfl (zX.n rfl (zX.callQ rfl (congrArg Prod.fst h_1) trivial k_2))
theorem s_Rd_order_13 {w0 : Option zV} {w1 : Option zV} {w2 : Option zV} {w3 : Option zV} {sa0 : Nat} (p_1 : Q (.inr sa0) (n, K, mr, mi)) (h_2 : (K sa0).1 = 4) (h_3 : 64 ≤ sa0) : zX c k_Rd_order 13 [w0, w1, w2, w3] [zR sa0] (n, K, mr, mi) Q := 
  zX.thr rfl ⟨⟨h_3, fun e9 => absurd (h_2.symm.trans e9) (by decide)⟩, Nat.lt_of_le_of_lt (Nat.le_of_eq h_2) (by decide)⟩ rfl p_1
theorem s_Rd_order_14 {a0 : Nat} {a1 : Nat} {w2 : Option zV} {w3 : Option zV} (p_1 : zX c k_Rd_order 16 [some (zR a0), some (zR a1), some (zI 0), w3] [] (n, K, mr, mi) Q) : zX c k_Rd_order 14 [some (zR a0), some (zR a1), w2, w3] [] (n, K, mr, mi) Q := 
  zX.n rfl (zX.n rfl p_1)
theorem s_Rd_order_16 {a0 : Nat} {a1 : Nat} {x2 : Int} {w3 : Option zV} {A2 : Nat} (h_1 : K a0 = (3, 10)) (h_3 : mr a0 8 = A2) (h_4 : K A2 = (23, 4)) (k_5 : zCall c k_Rd_order 21 24 [some (zR a0), some (zR a1), some (zI x2), w3] [zI x2] 0 k_JStr_length [zR A2] (n, K, mr, mi) Q) : zX c k_Rd_order 16 [some (zR a0), some (zR a1), some (zI x2), w3] [] (n, K, mr, mi) Q := by
  subst h_3
  exact zX.n rfl (zX.n rfl (zX.g rfl h_1 (zX.callQ rfl (congrArg Prod.fst h_4) trivial k_5)))
theorem s_Rd_order_24 {a0 : Nat} {a1 : Nat} {x2 : Int} {w3 : Option zV} {sx0 : Int} {sx1 : Int} (p_1 : sx1 ≤ sx0 → zX c k_Rd_order 94 [some (zR a0), some (zR a1), some (zI x2), w3] [] (n, K, mr, mi) Q) (p_2 : ¬ sx1 ≤ sx0 → zX c k_Rd_order 27 [some (zR a0), some (zR a1), some (zI x2), w3] [] (n, K, mr, mi) Q) : zX c k_Rd_order 24 [some (zR a0), some (zR a1), some (zI x2), w3] [zI sx1, zI sx0] (n, K, mr, mi) Q := 
  zX.n rfl (zX.ite p_1 p_2)
theorem s_Rd_order_27 {a0 : Nat} {a1 : Nat} {x2 : Int} {w3 : Option zV} {A2 : Nat} (h_1 : K a0 = (3, 10)) (h_3 : mr a0 8 = A2) (h_4 : K A2 = (23, 4)) (k_5 : zCall c k_Rd_order 32 35 [some (zR a0), some (zR a1), some (zI x2), w3] [] 0 k_JStr_charAt [zR A2, zI x2] (n, K, mr, mi) Q) : zX c k_Rd_order 27 [some (zR a0), some (zR a1), some (zI x2), w3] [] (n, K, mr, mi) Q := by
  subst h_3
  exact zX.n rfl (zX.g rfl h_1 (zX.n rfl (zX.callQ rfl (congrArg Prod.fst h_4) trivial k_5)))
theorem s_Rd_order_35 {a0 : Nat} {a1 : Nat} {x2 : Int} {w3 : Option zV} {sx0 : Int} {A2 : Nat} (h_1 : K a0 = (3, 10)) (h_3 : mr a0 9 = A2) (h_4 : K A2 = (18, 12)) (k_5 : zCall c k_Rd_order 50 53 [some (zR a0), some (zR a1), some (zI x2), some (zI (zw (sx0 - 97)))] [] 0 k_B_in [zI (zw (sx0 - 97)), zI 0, zI (zw ((mi A2 6) - 1))] (n, K, mr, mi) Q) : zX c k_Rd_order 35 [some (zR a0), some (zR a1), some (zI x2), w3] [zI sx0] (n, K, mr, mi) Q := by
  subst h_3
  exact zX.n rfl (zX.n rfl (zX.n rfl (zX.n rfl (zX.n rfl (zX.n rfl (zX.g rfl h_1 (zX.g rfl h_4 (zX.n rfl (zX.n rfl (zX.callQ rfl trivial trivial k_5))))))))))
theorem s_Rd_order_53 {a0 : Nat} {a1 : Nat} {x2 : Int} {x3 : Int} {sx0 : Int} (p_1 : sx0 = 0 → zX c k_Rd_order 64 [some (zR a0), some (zR a1), some (zI x2), some (zI x3)] [] (n, K, mr, mi) Q) (p_2 : ¬ sx0 = 0 → zX c k_Rd_order 56 [some (zR a0), some (zR a1), some (zI x2), some (zI x3)] [] (n, K, mr, mi) Q) : zX c k_Rd_order 53 [some (zR a0), some (zR a1), some (zI x2), some (zI x3)] [zI sx0] (n, K, mr, mi) Q := 
  zX.n rfl (zX.ite p_1 p_2)
theorem s_Rd_order_56 {a0 : Nat} {a1 : Nat} {x2 : Int} {x3 : Int} (h_1 : K a1 = (19, 12)) (k_2 : zCall c k_Rd_order 58 61 [some (zR a0), some (zR a1), some (zI x2), some (zI x3)] [] 0 k_Pe_doesLike [zR a1, zI x3] (n, K, mr, mi) Q) : zX c k_Rd_order 56 [some (zR a0), some (zR a1), some (zI x2), some (zI x3)] [] (n, K, mr, mi) Q := 
  zX.n rfl (zX.n rfl (zX.callQ rfl (congrArg Prod.fst h_1) trivial k_2))
theorem s_Rd_order_61 {a0 : Nat} {a1 : Nat} {x2 : Int} {x3 : Int} {sx0 : Int} (p_1 : sx0 = 0 → zX c k_Rd_order 71 [some (zR a0), some (zR a1), some (zI x2), some (zI x3)] [] (n, K, mr, mi) Q) (p_2 : ¬ sx0 = 0 → zX c k_Rd_order 64 [some (zR a0), some (zR a1), some (zI x2), some (zI x3)] [] (n, K, mr, mi) Q) : zX c k_Rd_order 61 [some (zR a0), some (zR a1), some (zI x2), some (zI x3)] [zI sx0] (n, K, mr, mi) Q := 
  zX.n rfl (zX.ite p_1 p_2)
theorem s_Rd_order_64 {a0 : Nat} {w1 : Option zV} {w2 : Option zV} {w3 : Option zV} (h_1 : K a0 = (3, 10)) (k_2 : zCall c k_Rd_order 67 70 [some (zR a0), w1, w2, w3] [] 0 k_Rd_fail [zR a0, zI 7] (n, K, mr, mi) Q) : zX c k_Rd_order 64 [some (zR a0), w1, w2, w3] [] (n, K, mr, mi) Q := 
  zX.n rfl (zX.n rfl (zX.callQ rfl (congrArg Prod.fst h_1) trivial k_2))
theorem s_Rd_order_70 {w0 : Option zV} {w1 : Option zV} {w2 : Option zV} {w3 : Option zV} {sa0 : Nat} (p_1 : Q (.inr sa0) (n, K, mr, mi)) (h_2 : (K sa0).1 = 4) (h_3 : 64 ≤ sa0) : zX c k_Rd_order 70 [w0, w1, w2, w3] [zR sa0] (n, K, mr, mi) Q := 
  zX.thr rfl ⟨⟨h_3, fun e9 => absurd (h_2.symm.trans e9) (by decide)⟩, Nat.lt_of_le_of_lt (Nat.le_of_eq h_2) (by decide)⟩ rfl p_1
theorem s_Rd_order_71 {a0 : Nat} {a1 : Nat} {x2 : Int} {x3 : Int} {A2 : Nat} {N4 : Nat} {j8 : Nat} (h_1 : K a1 = (19, 12)) (h_3 : mr a1 2 = A2) (h_5 : K A2 = (100, N4)) (h_6 : 0 ≤ x2) (h_7 : x2 < (N4 : Int)) (h_9 : Int.toNat x2 = j8) (h_10 : 64 ≤ A2) (h_11 : 64 ≤ a1) (p_12 : zX c k_Rd_order 16 [some (zR a0), some (zR a1), some (zI (zw (x2 + 1))), some (zI x3)] [] (n, K, mr, zst (zst mi A2 j8 x3) a1 5 (zw (((zst mi A2 j8 x3) a1 5) + 1))) Q) : zX c k_Rd_order 71 [some (zR a0), some (zR a1), some (zI x2), some (zI x3)] [] (n, K, mr, mi) Q := by
  subst h_3
  subst h_9
  exact zX.n rfl (zX.g rfl h_1 (zX.n rfl (zX.n rfl (zX.g rfl ⟨N4, h_10, h_5, h_6, h_7⟩ (zX.n rfl (zX.n rfl (zX.g rfl h_1 (zX.n rfl (zX.n rfl (zX.g rfl ⟨h_11, h_1⟩ (zX.n rfl (zX.n rfl p_12))))))))))))
theorem s_Rd_order_94 {a0 : Nat} {w1 : Option zV} {w2 : Option zV} {w3 : Option zV} (h_1 : K a0 = (3, 10)) (k_2 : zCall c k_Rd_order 95 98 [some (zR a0), w1, w2, w3] [] 0 k_Rd_next [zR a0] (n, K, mr, mi) Q) : zX c k_Rd_order 94 [some (zR a0), w1, w2, w3] [] (n, K, mr, mi) Q := 
  zX.n rfl (zX.callQ rfl (congrArg Prod.fst h_1) trivial k_2)
theorem s_Rd_order_98 {w0 : Option zV} {w1 : Option zV} {w2 : Option zV} {w3 : Option zV} (p_1 : Q (.inl none) (n, K, mr, mi)) : zX c k_Rd_order 98 [w0, w1, w2, w3] [] (n, K, mr, mi) Q := 
  zX.ret rfl trivial p_1
theorem s_Rd_answer_0 {a0 : Nat} (h_1 : K a0 = (3, 10)) (k_2 : zCall c k_Rd_answer 3 6 [some (zR a0)] [] 0 k_Rd_takes [zR a0, zR 52] (n, K, mr, mi) Q) : zX c k_Rd_answer 0 [some (zR a0)] [] (n, K, mr, mi) Q := 
  zX.n rfl (zX.n rfl (zX.callQ rfl (congrArg Prod.fst h_1) trivial k_2))
theorem s_Rd_answer_6 {a0 : Nat} {sx0 : Int} (p_1 : sx0 = 0 → zX c k_Rd_answer 11 [some (zR a0)] [] (n, K, mr, mi) Q) (p_2 : ¬ sx0 = 0 → zX c k_Rd_answer 9 [some (zR a0)] [] (n, K, mr, mi) Q) : zX c k_Rd_answer 6 [some (zR a0)] [zI sx0] (n, K, mr, mi) Q := 
  zX.n rfl (zX.ite p_1 p_2)
theorem s_Rd_answer_9 {w0 : Option zV} (p_1 : Q (.inl (some (zI 1))) (n, K, mr, mi)) : zX c k_Rd_answer 9 [w0] [] (n, K, mr, mi) Q := 
  zX.n rfl (zX.ret rfl (Or.inr rfl) p_1)
theorem s_Rd_answer_11 {a0 : Nat} (h_1 : K a0 = (3, 10)) (k_2 : zCall c k_Rd_answer 14 17 [some (zR a0)] [] 0 k_Rd_must [zR a0, zR 24] (n, K, mr, mi) Q) : zX c k_Rd_answer 11 [some (zR a0)] [] (n, K, mr, mi) Q := 
  zX.n rfl (zX.n rfl (zX.callQ rfl (congrArg Prod.fst h_1) trivial k_2))
theorem s_Rd_answer_17 {w0 : Option zV} (p_1 : Q (.inl (some (zI 0))) (n, K, mr, mi)) : zX c k_Rd_answer 17 [w0] [] (n, K, mr, mi) Q := 
  zX.n rfl (zX.ret rfl (Or.inl rfl) p_1)
theorem s_Rd_personLine_0 {a0 : Nat} {w1 : Option zV} {A2 : Nat} (h_1 : K a0 = (3, 10)) (h_3 : mr a0 9 = A2) (h_4 : K A2 = (18, 12)) (p_5 : (7 : Int) ≤ (mi A2 8) → zX c k_Rd_personLine 17 [some (zR a0), w1] [zR a0] (n, K, mr, mi) Q) (p_6 : ¬ (7 : Int) ≤ (mi A2 8) → zX c k_Rd_personLine 13 [some (zR a0), w1] [zR a0] (n, K, mr, mi) Q) : zX c k_Rd_personLine 0 [some (zR a0), w1] [] (n, K, mr, mi) Q := by
  subst h_3
  exact zX.n rfl (zX.n rfl (zX.g rfl h_1 (zX.g rfl h_4 (zX.n rfl (zX.n rfl (zX.ite p_5 p_6))))))
theorem s_Rd_personLine_13 {a0 : Nat} {w1 : Option zV} {sa0 : Nat} (p_1 : zX c k_Rd_personLine 18 [some (zR a0), w1] [zI 1, zR sa0] (n, K, mr, mi) Q) : zX c k_Rd_personLine 13 [some (zR a0), w1] [zR sa0] (n, K, mr, mi) Q := 
  zX.n rfl (zX.n rfl p_1)
theorem s_Rd_personLine_17 {a0 : Nat} {w1 : Option zV} {sa0 : Nat} (p_1 : zX c k_Rd_personLine 18 [some (zR a0), w1] [zI 0, zR sa0] (n, K, mr, mi) Q) : zX c k_Rd_personLine 17 [some (zR a0), w1] [zR sa0] (n, K, mr, mi) Q := 
  zX.n rfl p_1
theorem s_Rd_personLine_18 {a0 : Nat} {w1 : Option zV} {sa0 : Nat} {sx1 : Int} (h_1 : K sa0 = (3, 10)) (k_2 : zCall c k_Rd_personLine 18 21 [some (zR a0), w1] [] 0 k_Rd_begins [zR sa0, zI sx1] (n, K, mr, mi) Q) : zX c k_Rd_personLine 18 [some (zR a0), w1] [zI sx1, zR sa0] (n, K, mr, mi) Q := 
  zX.callQ rfl (congrArg Prod.fst h_1) trivial k_2
theorem s_Rd_personLine_21 {a0 : Nat} {w1 : Option zV} (h_1 : (zup K n (19, 12)) a0 = (3, 10)) (k_2 : zCall c k_Rd_personLine 26 29 [some (zR a0), w1] [zR n, zR n] 0 k_Rd_newName [zR a0] (n + 1, zup K n (19, 12), zup mr n (fun _ => 0), zup mi n (fun _ => 0)) Q) : zX c k_Rd_personLine 21 [some (zR a0), w1] [] (n, K, mr, mi) Q := 
  zX.n rfl (zX.n rfl (zX.n rfl (zX.callQ rfl (congrArg Prod.fst h_1) trivial k_2)))
theorem s_Rd_personLine_29 {a0 : Nat} {w1 : Option zV} {sa0 : Nat} {sa1 : Nat} {sa2 : Nat} {A2 : Nat} (h_1 : K a0 = (3, 10)) (h_3 : mr a0 9 = A2) (h_4 : K A2 = (18, 12)) (h_5 : 64 ≤ sa1) (h_6 : (K sa1).1 ≠ 0) (k_7 : zCall c k_Rd_personLine 36 39 [some (zR a0), w1] [zR sa0] 0 k_Pe_init [zR sa1, zR sa2, zI (mi A2 8)] (n, K, mr, mi) Q) : zX c k_Rd_personLine 29 [some (zR a0), w1] [zR sa2, zR sa1, zR sa0] (n, K, mr, mi) Q := by
  subst h_3
  exact zX.n rfl (zX.g rfl h_1 (zX.g rfl h_4 (zX.callQ rfl ⟨h_5, h_6⟩ trivial k_7)))
theorem s_Rd_personLine_39 {a0 : Nat} {w1 : Option zV} {sa0 : Nat} (h_1 : K a0 = (3, 10)) (k_2 : zCall c k_Rd_personLine 42 45 [some (zR a0), some (zR sa0)] [zR sa0] 0 k_Rd_kind [zR a0] (n, K, mr, mi) Q) : zX c k_Rd_personLine 39 [some (zR a0), w1] [zR sa0] (n, K, mr, mi) Q := 
  zX.n rfl (zX.n rfl (zX.n rfl (zX.callQ rfl (congrArg Prod.fst h_1) trivial k_2)))
theorem s_Rd_personLine_45 {a0 : Nat} {a1 : Nat} {sa0 : Nat} {sx1 : Int} (h_1 : K sa0 = (19, 12)) (h_2 : 64 ≤ sa0) (h_3 : K a0 = (3, 10)) (k_4 : zCall c k_Rd_personLine 51 54 [some (zR a0), some (zR a1)] [] 0 k_Rd_must [zR a0, zR 4] (n, K, mr, zst mi sa0 7 sx1) Q) : zX c k_Rd_personLine 45 [some (zR a0), some (zR a1)] [zI sx1, zR sa0] (n, K, mr, mi) Q := 
  zX.g rfl ⟨h_2, h_1⟩ (zX.n rfl (zX.n rfl (zX.callQ rfl (congrArg Prod.fst h_3) trivial k_4)))
theorem s_Rd_personLine_54 {a0 : Nat} {a1 : Nat} (h_1 : K a0 = (3, 10)) (k_2 : zCall c k_Rd_personLine 56 59 [some (zR a0), some (zR a1)] [zR a1] 0 k_Rd_habit [zR a0] (n, K, mr, mi) Q) : zX c k_Rd_personLine 54 [some (zR a0), some (zR a1)] [] (n, K, mr, mi) Q := 
  zX.n rfl (zX.n rfl (zX.callQ rfl (congrArg Prod.fst h_1) trivial k_2))
theorem s_Rd_personLine_59 {a0 : Nat} {a1 : Nat} {sa0 : Nat} {sx1 : Int} (h_1 : K sa0 = (19, 12)) (h_2 : 64 ≤ sa0) (h_3 : K a0 = (3, 10)) (k_4 : zCall c k_Rd_personLine 65 68 [some (zR a0), some (zR a1)] [] 0 k_Rd_must [zR a0, zR 18] (n, K, mr, zst mi sa0 8 sx1) Q) : zX c k_Rd_personLine 59 [some (zR a0), some (zR a1)] [zI sx1, zR sa0] (n, K, mr, mi) Q := 
  zX.g rfl ⟨h_2, h_1⟩ (zX.n rfl (zX.n rfl (zX.callQ rfl (congrArg Prod.fst h_3) trivial k_4)))
theorem s_Rd_personLine_68 {a0 : Nat} {a1 : Nat} (h_1 : K a0 = (3, 10)) (k_2 : zCall c k_Rd_personLine 70 73 [some (zR a0), some (zR a1)] [] 0 k_Rd_order [zR a0, zR a1] (n, K, mr, mi) Q) : zX c k_Rd_personLine 68 [some (zR a0), some (zR a1)] [] (n, K, mr, mi) Q := 
  zX.n rfl (zX.n rfl (zX.callQ rfl (congrArg Prod.fst h_1) trivial k_2))
theorem s_Rd_personLine_73 {a0 : Nat} {a1 : Nat} (h_1 : K a0 = (3, 10)) (k_2 : zCall c k_Rd_personLine 80 83 [some (zR a0), some (zR a1)] [zR a1] 0 k_Rd_after [zR a0, zR 16, zI 3, zI 30] (n, K, mr, mi) Q) : zX c k_Rd_personLine 73 [some (zR a0), some (zR a1)] [] (n, K, mr, mi) Q := 
  zX.n rfl (zX.n rfl (zX.n rfl (zX.n rfl (zX.n rfl (zX.callQ rfl (congrArg Prod.fst h_1) trivial k_2)))))
theorem s_Rd_personLine_83 {a0 : Nat} {a1 : Nat} {sa0 : Nat} {sx1 : Int} (h_1 : K sa0 = (19, 12)) (h_2 : 64 ≤ sa0) (h_3 : K a0 = (3, 10)) (k_4 : zCall c k_Rd_personLine 93 96 [some (zR a0), some (zR a1)] [zR a1] 0 k_Rd_after [zR a0, zR 50, zI 1, zI 9] (n, K, mr, zst mi sa0 9 sx1) Q) : zX c k_Rd_personLine 83 [some (zR a0), some (zR a1)] [zI sx1, zR sa0] (n, K, mr, mi) Q := 
  zX.g rfl ⟨h_2, h_1⟩ (zX.n rfl (zX.n rfl (zX.n rfl (zX.n rfl (zX.n rfl (zX.callQ rfl (congrArg Prod.fst h_3) trivial k_4))))))
theorem s_Rd_personLine_96 {a0 : Nat} {a1 : Nat} {sa0 : Nat} {sx1 : Int} (h_1 : K sa0 = (19, 12)) (h_2 : 64 ≤ sa0) (h_3 : K a0 = (3, 10)) (k_4 : zCall c k_Rd_personLine 102 105 [some (zR a0), some (zR a1)] [] 0 k_Rd_must [zR a0, zR 44] (n, K, mr, zst mi sa0 10 sx1) Q) : zX c k_Rd_personLine 96 [some (zR a0), some (zR a1)] [zI sx1, zR sa0] (n, K, mr, mi) Q := 
  zX.g rfl ⟨h_2, h_1⟩ (zX.n rfl (zX.n rfl (zX.callQ rfl (congrArg Prod.fst h_3) trivial k_4)))
theorem s_Rd_personLine_105 {a0 : Nat} {a1 : Nat} (h_1 : K a0 = (3, 10)) (k_2 : zCall c k_Rd_personLine 107 110 [some (zR a0), some (zR a1)] [zR a1] 0 k_Rd_answer [zR a0] (n, K, mr, mi) Q) : zX c k_Rd_personLine 105 [some (zR a0), some (zR a1)] [] (n, K, mr, mi) Q := 
  zX.n rfl (zX.n rfl (zX.callQ rfl (congrArg Prod.fst h_1) trivial k_2))
theorem s_Rd_personLine_110 {a0 : Nat} {a1 : Nat} {sa0 : Nat} {sx1 : Int} {A5 : Nat} {A8 : Nat} {N10 : Nat} {j14 : Nat} {A19 : Nat} (h_1 : K sa0 = (19, 12)) (h_2 : 64 ≤ sa0) (h_3 : sx1 = 0 ∨ sx1 = 1) (h_4 : K a0 = (3, 10)) (h_6 : mr a0 9 = A5) (h_7 : K A5 = (18, 12)) (h_9 : mr A5 0 = A8) (h_11 : K A8 = (110, N10)) (h_12 : 0 ≤ ((zst mi sa0 11 sx1) A5 8)) (h_13 : ((zst mi sa0 11 sx1) A5 8) < (N10 : Int)) (h_15 : Int.toNat ((zst mi sa0 11 sx1) A5 8) = j14) (h_16 : 64 ≤ A8) (h_17 : (K a1).1 = 19) (h_18 : 64 ≤ a1) (h_20 : (zst mr A8 j14 a1) a0 9 = A19) (h_21 : K A19 = (18, 12)) (h_22 : 64 ≤ A19) (p_23 : Q (.inl none) (n, K, zst mr A8 j14 a1, zst (zst mi sa0 11 sx1) A19 8 (zw (((zst mi sa0 11 sx1) A19 8) + 1)))) : zX c k_Rd_personLine 110 [some (zR a0), some (zR a1)] [zI sx1, zR sa0] (n, K, mr, mi) Q := by
  subst h_6
  subst h_9
  subst h_15
  subst h_20
  exact zX.g rfl ⟨⟨h_2, h_1⟩, h_3⟩ (zX.n rfl (zX.g rfl h_4 (zX.g rfl h_7 (zX.n rfl (zX.g rfl h_4 (zX.g rfl h_7 (zX.n rfl (zX.g rfl ⟨N10, h_16, h_11, ⟨h_12, h_13⟩, h_17, h_18⟩ (zX.n rfl (zX.g rfl h_4 (zX.n rfl (zX.g rfl h_21 (zX.n rfl (zX.n rfl (zX.g rfl ⟨h_22, h_21⟩ (zX.ret rfl trivial p_23))))))))))))))))
theorem s_Rd_personHere_0 {a0 : Nat} {w1 : Option zV} (h_1 : K a0 = (3, 10)) (k_2 : zCall c k_Rd_personHere 1 4 [some (zR a0), w1] [] 0 k_Rd_mustName [zR a0] (n, K, mr, mi) Q) : zX c k_Rd_personHere 0 [some (zR a0), w1] [] (n, K, mr, mi) Q := 
  zX.n rfl (zX.callQ rfl (congrArg Prod.fst h_1) trivial k_2)
theorem s_Rd_personHere_4 {a0 : Nat} {w1 : Option zV} {A2 : Nat} {A4 : Nat} (h_1 : K a0 = (3, 10)) (h_3 : mr a0 9 = A2) (h_5 : mr a0 8 = A4) (h_6 : K A2 = (18, 12)) (k_7 : zCall c k_Rd_personHere 12 15 [some (zR a0), w1] [] 0 k_G_find [zR A2, zR A4] (n, K, mr, mi) Q) : zX c k_Rd_personHere 4 [some (zR a0), w1] [] (n, K, mr, mi) Q := by
  subst h_3
  subst h_5
  exact zX.n rfl (zX.g rfl h_1 (zX.n rfl (zX.g rfl h_1 (zX.callQ rfl (congrArg Prod.fst h_6) trivial k_7))))
theorem s_Rd_personHere_15 {a0 : Nat} {w1 : Option zV} {sa0 : Nat} (h_1 : sa0 = 0 ∨ (K sa0).1 ≠ 0) (p_2 : ¬ sa0 = 0 → zX c k_Rd_personHere 26 [some (zR a0), some (zR sa0)] [] (n, K, mr, mi) Q) (p_3 : sa0 = 0 → zX c k_Rd_personHere 20 [some (zR a0), some (zR sa0)] [] (n, K, mr, mi) Q) : zX c k_Rd_personHere 15 [some (zR a0), w1] [zR sa0] (n, K, mr, mi) Q := 
  zX.n rfl (zX.n rfl (zX.g rfl h_1 (zX.itn p_2 p_3)))
theorem s_Rd_personHere_20 {a0 : Nat} {w1 : Option zV} (h_1 : K a0 = (3, 10)) (k_2 : zCall c k_Rd_personHere 22 25 [some (zR a0), w1] [] 0 k_Rd_fail [zR a0, zI 2] (n, K, mr, mi) Q) : zX c k_Rd_personHere 20 [some (zR a0), w1] [] (n, K, mr, mi) Q := 
  zX.n rfl (zX.n rfl (zX.callQ rfl (congrArg Prod.fst h_1) trivial k_2))
theorem s_Rd_personHere_25 {w0 : Option zV} {w1 : Option zV} {sa0 : Nat} (p_1 : Q (.inr sa0) (n, K, mr, mi)) (h_2 : (K sa0).1 = 4) (h_3 : 64 ≤ sa0) : zX c k_Rd_personHere 25 [w0, w1] [zR sa0] (n, K, mr, mi) Q := 
  zX.thr rfl ⟨⟨h_3, fun e9 => absurd (h_2.symm.trans e9) (by decide)⟩, Nat.lt_of_le_of_lt (Nat.le_of_eq h_2) (by decide)⟩ rfl p_1
theorem s_Rd_personHere_26 {w0 : Option zV} {a1 : Nat} (p_1 : Q (.inl (some (zR a1))) (n, K, mr, mi)) : zX c k_Rd_personHere 26 [w0, some (zR a1)] [] (n, K, mr, mi) Q := 
  zX.n rfl (zX.ret rfl trivial p_1)
theorem s_Rd_stay_0 {a0 : Nat} {w1 : Option zV} {w2 : Option zV} {w3 : Option zV} {w4 : Option zV} (h_1 : K a0 = (3, 10)) (k_2 : zCall c k_Rd_stay 2 5 [some (zR a0), w1, w2, w3, w4] [] 0 k_Rd_begins [zR a0, zI 1] (n, K, mr, mi) Q) : zX c k_Rd_stay 0 [some (zR a0), w1, w2, w3, w4] [] (n, K, mr, mi) Q := 
  zX.n rfl (zX.n rfl (zX.callQ rfl (congrArg Prod.fst h_1) trivial k_2))
theorem s_Rd_stay_5 {a0 : Nat} {w1 : Option zV} {w2 : Option zV} {w3 : Option zV} {w4 : Option zV} (h_1 : K a0 = (3, 10)) (k_2 : zCall c k_Rd_stay 6 9 [some (zR a0), w1, w2, w3, w4] [] 0 k_Rd_personHere [zR a0] (n, K, mr, mi) Q) : zX c k_Rd_stay 5 [some (zR a0), w1, w2, w3, w4] [] (n, K, mr, mi) Q := 
  zX.n rfl (zX.callQ rfl (congrArg Prod.fst h_1) trivial k_2)
theorem s_Rd_stay_9 {a0 : Nat} {w1 : Option zV} {w2 : Option zV} {w3 : Option zV} {w4 : Option zV} {sa0 : Nat} (h_1 : K sa0 = (19, 12)) (p_2 : ¬ (mi sa0 6) = (3 : Int) → zX c k_Rd_stay 24 [some (zR a0), some (zR sa0), w2, w3, w4] [] (n, K, mr, mi) Q) (p_3 : (mi sa0 6) = (3 : Int) → zX c k_Rd_stay 18 [some (zR a0), some (zR sa0), w2, w3, w4] [] (n, K, mr, mi) Q) : zX c k_Rd_stay 9 [some (zR a0), w1, w2, w3, w4] [zR sa0] (n, K, mr, mi) Q := 
  zX.n rfl (zX.n rfl (zX.g rfl h_1 (zX.n rfl (zX.n rfl (zX.itn p_2 p_3)))))
theorem s_Rd_stay_18 {a0 : Nat} {w1 : Option zV} {w2 : Option zV} {w3 : Option zV} {w4 : Option zV} (h_1 : K a0 = (3, 10)) (k_2 : zCall c k_Rd_stay 20 23 [some (zR a0), w1, w2, w3, w4] [] 0 k_Rd_fail [zR a0, zI 5] (n, K, mr, mi) Q) : zX c k_Rd_stay 18 [some (zR a0), w1, w2, w3, w4] [] (n, K, mr, mi) Q := 
  zX.n rfl (zX.n rfl (zX.callQ rfl (congrArg Prod.fst h_1) trivial k_2))
theorem s_Rd_stay_23 {w0 : Option zV} {w1 : Option zV} {w2 : Option zV} {w3 : Option zV} {w4 : Option zV} {sa0 : Nat} (p_1 : Q (.inr sa0) (n, K, mr, mi)) (h_2 : (K sa0).1 = 4) (h_3 : 64 ≤ sa0) : zX c k_Rd_stay 23 [w0, w1, w2, w3, w4] [zR sa0] (n, K, mr, mi) Q := 
  zX.thr rfl ⟨⟨h_3, fun e9 => absurd (h_2.symm.trans e9) (by decide)⟩, Nat.lt_of_le_of_lt (Nat.le_of_eq h_2) (by decide)⟩ rfl p_1
theorem s_Rd_stay_24 {a0 : Nat} {a1 : Nat} {w2 : Option zV} {w3 : Option zV} {w4 : Option zV} (h_1 : K a0 = (3, 10)) (k_2 : zCall c k_Rd_stay 25 28 [some (zR a0), some (zR a1), w2, w3, w4] [] 0 k_Rd_next [zR a0] (n, K, mr, mi) Q) : zX c k_Rd_stay 24 [some (zR a0), some (zR a1), w2, w3, w4] [] (n, K, mr, mi) Q := 
  zX.n rfl (zX.callQ rfl (congrArg Prod.fst h_1) trivial k_2)
theorem s_Rd_stay_28 {a0 : Nat} {a1 : Nat} {w2 : Option zV} {w3 : Option zV} {w4 : Option zV} (h_1 : K a1 = (19, 12)) (p_2 : ¬ (mi a1 6) = 0 → zX c k_Rd_stay 39 [some (zR a0), some (zR a1), w2, w3, w4] [] (n, K, mr, mi) Q) (p_3 : (mi a1 6) = 0 → zX c k_Rd_stay 35 [some (zR a0), some (zR a1), w2, w3, w4] [] (n, K, mr, mi) Q) : zX c k_Rd_stay 28 [some (zR a0), some (zR a1), w2, w3, w4] [] (n, K, mr, mi) Q := 
  zX.n rfl (zX.g rfl h_1 (zX.n rfl (zX.itn p_2 p_3)))
theorem s_Rd_stay_35 {a0 : Nat} {a1 : Nat} {w2 : Option zV} {w3 : Option zV} {w4 : Option zV} (p_1 : zX c k_Rd_stay 52 [some (zR a0), some (zR a1), w2, w3, w4] [zI 0] (n, K, mr, mi) Q) : zX c k_Rd_stay 35 [some (zR a0), some (zR a1), w2, w3, w4] [] (n, K, mr, mi) Q := 
  zX.n rfl (zX.n rfl p_1)
theorem s_Rd_stay_39 {a0 : Nat} {a1 : Nat} {w2 : Option zV} {w3 : Option zV} {w4 : Option zV} {A2 : Nat} {N4 : Nat} {j8 : Nat} (h_1 : K a1 = (19, 12)) (h_3 : mr a1 4 = A2) (h_5 : K A2 = (100, N4)) (h_6 : 0 ≤ (zw ((mi a1 6) - 1))) (h_7 : (zw ((mi a1 6) - 1)) < (N4 : Int)) (h_9 : Int.toNat (zw ((mi a1 6) - 1)) = j8) (p_10 : zX c k_Rd_stay 52 [some (zR a0), some (zR a1), w2, w3, w4] [zI (zw ((mi A2 j8) + 1))] (n, K, mr, mi) Q) : zX c k_Rd_stay 39 [some (zR a0), some (zR a1), w2, w3, w4] [] (n, K, mr, mi) Q := by
  subst h_3
  subst h_9
  exact zX.n rfl (zX.g rfl h_1 (zX.n rfl (zX.g rfl h_1 (zX.n rfl (zX.n rfl (zX.g rfl ⟨N4, h_5, h_6, h_7⟩ (zX.n rfl (zX.n rfl p_10))))))))
theorem s_Rd_stay_52 {a0 : Nat} {a1 : Nat} {w2 : Option zV} {w3 : Option zV} {w4 : Option zV} {sx0 : Int} {A2 : Nat} (h_1 : K a0 = (3, 10)) (h_3 : mr a0 9 = A2) (h_4 : K A2 = (18, 12)) (k_5 : zCall c k_Rd_stay 64 67 [some (zR a0), some (zR a1), some (zI sx0), w3, w4] [] 0 k_Rd_number [zR a0, zI sx0, zI (zw ((mi A2 4) - 1))] (n, K, mr, mi) Q) : zX c k_Rd_stay 52 [some (zR a0), some (zR a1), w2, w3, w4] [zI sx0] (n, K, mr, mi) Q := by
  subst h_3
  exact zX.n rfl (zX.n rfl (zX.n rfl (zX.n rfl (zX.g rfl h_1 (zX.g rfl h_4 (zX.n rfl (zX.n rfl (zX.callQ rfl (congrArg Prod.fst h_1) trivial k_5))))))))
theorem s_Rd_stay_67 {a0 : Nat} {a1 : Nat} {w2 : Option zV} {w3 : Option zV} {w4 : Option zV} {sx0 : Int} {A2 : Nat} (h_1 : K a0 = (3, 10)) (h_3 : mr a0 9 = A2) (h_4 : K A2 = (18, 12)) (k_5 : zCall c k_Rd_stay 82 85 [some (zR a0), some (zR a1), (zkill w2), some (zI sx0), w4] [] 0 k_Rd_after [zR a0, zR 46, zI sx0, zI (zw ((mi A2 4) - 1))] (n, K, mr, mi) Q) : zX c k_Rd_stay 67 [some (zR a0), some (zR a1), w2, w3, w4] [zI sx0] (n, K, mr, mi) Q := by
  subst h_3
  exact zX.n rfl (zX.n rfl (zX.n rfl (zX.n rfl (zX.n rfl (zX.g rfl h_1 (zX.g rfl h_4 (zX.n rfl (zX.n rfl (zX.callQ rfl (congrArg Prod.fst h_1) trivial k_5)))))))))
theorem s_Rd_stay_85 {w0 : Option zV} {a1 : Nat} {w2 : Option zV} {x3 : Int} {w4 : Option zV} {sx0 : Int} {A2 : Nat} {N4 : Nat} {j8 : Nat} {A11 : Nat} {N13 : Nat} {j17 : Nat} (h_1 : K a1 = (19, 12)) (h_3 : mr a1 3 = A2) (h_5 : K A2 = (100, N4)) (h_6 : 0 ≤ (mi a1 6)) (h_7 : (mi a1 6) < (N4 : Int)) (h_9 : Int.toNat (mi a1 6) = j8) (h_10 : 64 ≤ A2) (h_12 : mr a1 4 = A11) (h_14 : K A11 = (100, N13)) (h_15 : 0 ≤ ((zst mi A2 j8 x3) a1 6)) (h_16 : ((zst mi A2 j8 x3) a1 6) < (N13 : Int)) (h_18 : Int.toNat ((zst mi A2 j8 x3) a1 6) = j17) (h_19 : 64 ≤ A11) (h_20 : 64 ≤ a1) (p_21 : Q (.inl none) (n, K, mr, zst (zst (zst mi A2 j8 x3) A11 j17 sx0) a1 6 (zw (((zst (zst mi A2 j8 x3) A11 j17 sx0) a1 6) + 1)))) : zX c k_Rd_stay 85 [w0, some (zR a1), w2, some (zI x3), w4] [zI sx0] (n, K, mr, mi) Q := by
  subst h_3
  subst h_9
  subst h_12
  subst h_18
  exact zX.n rfl (zX.n rfl (zX.g rfl h_1 (zX.n rfl (zX.g rfl h_1 (zX.n rfl (zX.g rfl ⟨N4, h_10, h_5, h_6, h_7⟩ (zX.n rfl (zX.g rfl h_1 (zX.n rfl (zX.g rfl h_1 (zX.n rfl (zX.g rfl ⟨N13, h_19, h_14, h_15, h_16⟩ (zX.n rfl (zX.n rfl (zX.g rfl h_1 (zX.n rfl (zX.n rfl (zX.g rfl ⟨h_20, h_1⟩ (zX.ret rfl trivial p_21)))))))))))))))))))
theorem s_Rd_day_0 {a0 : Nat} {A2 : Nat} (h_1 : K a0 = (3, 10)) (h_3 : mr a0 9 = A2) (h_4 : K A2 = (18, 12)) (k_5 : zCall c k_Rd_day 11 14 [some (zR a0)] [] 0 k_Rd_number [zR a0, zI 0, zI (zw ((mi A2 4) - 1))] (n, K, mr, mi) Q) : zX c k_Rd_day 0 [some (zR a0)] [] (n, K, mr, mi) Q := by
  subst h_3
  exact zX.n rfl (zX.n rfl (zX.n rfl (zX.g rfl h_1 (zX.g rfl h_4 (zX.n rfl (zX.n rfl (zX.callQ rfl (congrArg Prod.fst h_1) trivial k_5)))))))
theorem s_Rd_day_14 {w0 : Option zV} {sx0 : Int} (p_1 : Q (.inl (some (zI sx0))) (n, K, mr, mi)) : zX c k_Rd_day 14 [w0] [zI sx0] (n, K, mr, mi) Q := 
  zX.ret rfl trivial p_1
theorem s_Rd_moves_0 {a0 : Nat} {w1 : Option zV} {w2 : Option zV} {w3 : Option zV} {w4 : Option zV} {A2 : Nat} (h_1 : K a0 = (3, 10)) (h_3 : mr a0 9 = A2) (h_4 : K A2 = (18, 12)) (p_5 : (10 : Int) ≤ (mi A2 9) → zX c k_Rd_moves 17 [some (zR a0), w1, w2, w3, w4] [zR a0] (n, K, mr, mi) Q) (p_6 : ¬ (10 : Int) ≤ (mi A2 9) → zX c k_Rd_moves 13 [some (zR a0), w1, w2, w3, w4] [zR a0] (n, K, mr, mi) Q) : zX c k_Rd_moves 0 [some (zR a0), w1, w2, w3, w4] [] (n, K, mr, mi) Q := by
  subst h_3
  exact zX.n rfl (zX.n rfl (zX.g rfl h_1 (zX.g rfl h_4 (zX.n rfl (zX.n rfl (zX.ite p_5 p_6))))))
theorem s_Rd_moves_13 {a0 : Nat} {w1 : Option zV} {w2 : Option zV} {w3 : Option zV} {w4 : Option zV} {sa0 : Nat} (p_1 : zX c k_Rd_moves 18 [some (zR a0), w1, w2, w3, w4] [zI 1, zR sa0] (n, K, mr, mi) Q) : zX c k_Rd_moves 13 [some (zR a0), w1, w2, w3, w4] [zR sa0] (n, K, mr, mi) Q := 
  zX.n rfl (zX.n rfl p_1)
theorem s_Rd_moves_17 {a0 : Nat} {w1 : Option zV} {w2 : Option zV} {w3 : Option zV} {w4 : Option zV} {sa0 : Nat} (p_1 : zX c k_Rd_moves 18 [some (zR a0), w1, w2, w3, w4] [zI 0, zR sa0] (n, K, mr, mi) Q) : zX c k_Rd_moves 17 [some (zR a0), w1, w2, w3, w4] [zR sa0] (n, K, mr, mi) Q := 
  zX.n rfl p_1
theorem s_Rd_moves_18 {a0 : Nat} {w1 : Option zV} {w2 : Option zV} {w3 : Option zV} {w4 : Option zV} {sa0 : Nat} {sx1 : Int} (h_1 : K sa0 = (3, 10)) (k_2 : zCall c k_Rd_moves 18 21 [some (zR a0), w1, w2, w3, w4] [] 0 k_Rd_begins [zR sa0, zI sx1] (n, K, mr, mi) Q) : zX c k_Rd_moves 18 [some (zR a0), w1, w2, w3, w4] [zI sx1, zR sa0] (n, K, mr, mi) Q := 
  zX.callQ rfl (congrArg Prod.fst h_1) trivial k_2
theorem s_Rd_moves_21 {a0 : Nat} {w1 : Option zV} {w2 : Option zV} {w3 : Option zV} {w4 : Option zV} (h_1 : 64 ≤ n) (h_2 : ((zup K n (1, 3)) n).1 ≠ 0) (k_3 : zCall c k_Rd_moves 25 28 [some (zR a0), w1, w2, w3, w4] [zR n] 0 k_Mv_init [zR n] (n + 1, zup K n (1, 3), zup mr n (fun _ => 0), zup mi n (fun _ => 0)) Q) : zX c k_Rd_moves 21 [some (zR a0), w1, w2, w3, w4] [] (n, K, mr, mi) Q := 
  zX.n rfl (zX.n rfl (zX.callQ rfl ⟨h_1, h_2⟩ trivial k_3))
theorem s_Rd_moves_28 {a0 : Nat} {w1 : Option zV} {w2 : Option zV} {w3 : Option zV} {w4 : Option zV} {sa0 : Nat} (h_1 : K a0 = (3, 10)) (k_2 : zCall c k_Rd_moves 30 33 [some (zR a0), some (zR sa0), w2, w3, w4] [] 0 k_Rd_day [zR a0] (n, K, mr, mi) Q) : zX c k_Rd_moves 28 [some (zR a0), w1, w2, w3, w4] [zR sa0] (n, K, mr, mi) Q := 
  zX.n rfl (zX.n rfl (zX.callQ rfl (congrArg Prod.fst h_1) trivial k_2))
theorem s_Rd_moves_33 {a0 : Nat} {a1 : Nat} {w2 : Option zV} {w3 : Option zV} {w4 : Option zV} {sx0 : Int} {A2 : Nat} (h_1 : K a0 = (3, 10)) (h_3 : mr a0 9 = A2) (h_4 : K A2 = (18, 12)) (k_5 : zCall c k_Rd_moves 45 48 [some (zR a0), some (zR a1), some (zI sx0), w3, w4] [] 0 k_Rd_number [zR a0, zI 0, zI (zw ((mi A2 5) - 1))] (n, K, mr, mi) Q) : zX c k_Rd_moves 33 [some (zR a0), some (zR a1), w2, w3, w4] [zI sx0] (n, K, mr, mi) Q := by
  subst h_3
  exact zX.n rfl (zX.n rfl (zX.n rfl (zX.n rfl (zX.g rfl h_1 (zX.g rfl h_4 (zX.n rfl (zX.n rfl (zX.callQ rfl (congrArg Prod.fst h_1) trivial k_5))))))))
theorem s_Rd_moves_48 {a0 : Nat} {a1 : Nat} {x2 : Int} {w3 : Option zV} {w4 : Option zV} {sx0 : Int} (h_1 : K a0 = (3, 10)) (p_2 : (mi a0 5) = (44 : Int) → zX c k_Rd_moves 64 [some (zR a0), some (zR a1), some (zI x2), some (zI sx0), w4] [] (n, K, mr, mi) Q) (p_3 : ¬ (mi a0 5) = (44 : Int) → zX c k_Rd_moves 58 [some (zR a0), some (zR a1), some (zI x2), some (zI sx0), w4] [] (n, K, mr, mi) Q) : zX c k_Rd_moves 48 [some (zR a0), some (zR a1), some (zI x2), w3, w4] [zI sx0] (n, K, mr, mi) Q := 
  zX.n rfl (zX.n rfl (zX.g rfl h_1 (zX.n rfl (zX.n rfl (zX.ite p_2 p_3)))))
theorem s_Rd_moves_58 {a0 : Nat} {w1 : Option zV} {w2 : Option zV} {w3 : Option zV} {w4 : Option zV} (h_1 : K a0 = (3, 10)) (k_2 : zCall c k_Rd_moves 60 63 [some (zR a0), w1, w2, w3, w4] [] 0 k_Rd_fail [zR a0, zI 1] (n, K, mr, mi) Q) : zX c k_Rd_moves 58 [some (zR a0), w1, w2, w3, w4] [] (n, K, mr, mi) Q := 
  zX.n rfl (zX.n rfl (zX.callQ rfl (congrArg Prod.fst h_1) trivial k_2))
theorem s_Rd_moves_63 {w0 : Option zV} {w1 : Option zV} {w2 : Option zV} {w3 : Option zV} {w4 : Option zV} {sa0 : Nat} (p_1 : Q (.inr sa0) (n, K, mr, mi)) (h_2 : (K sa0).1 = 4) (h_3 : 64 ≤ sa0) : zX c k_Rd_moves 63 [w0, w1, w2, w3, w4] [zR sa0] (n, K, mr, mi) Q := 
  zX.thr rfl ⟨⟨h_3, fun e9 => absurd (h_2.symm.trans e9) (by decide)⟩, Nat.lt_of_le_of_lt (Nat.le_of_eq h_2) (by decide)⟩ rfl p_1
theorem s_Rd_moves_64 {a0 : Nat} {a1 : Nat} {x2 : Int} {x3 : Int} {w4 : Option zV} (h_1 : K a0 = (3, 10)) (k_2 : zCall c k_Rd_moves 65 68 [some (zR a0), some (zR a1), some (zI x2), some (zI x3), w4] [] 0 k_Rd_next [zR a0] (n, K, mr, mi) Q) : zX c k_Rd_moves 64 [some (zR a0), some (zR a1), some (zI x2), some (zI x3), w4] [] (n, K, mr, mi) Q := 
  zX.n rfl (zX.callQ rfl (congrArg Prod.fst h_1) trivial k_2)
theorem s_Rd_moves_68 {a0 : Nat} {a1 : Nat} {x2 : Int} {x3 : Int} {w4 : Option zV} {A2 : Nat} (h_1 : K a0 = (3, 10)) (h_3 : mr a0 9 = A2) (h_4 : K A2 = (18, 12)) (k_5 : zCall c k_Rd_moves 79 82 [some (zR a0), some (zR a1), some (zI x2), some (zI x3), w4] [] 0 k_Rd_numberHere [zR a0, zI 0, zI (zw ((mi A2 5) - 1))] (n, K, mr, mi) Q) : zX c k_Rd_moves 68 [some (zR a0), some (zR a1), some (zI x2), some (zI x3), w4] [] (n, K, mr, mi) Q := by
  subst h_3
  exact zX.n rfl (zX.n rfl (zX.n rfl (zX.g rfl h_1 (zX.g rfl h_4 (zX.n rfl (zX.n rfl (zX.callQ rfl (congrArg Prod.fst h_1) trivial k_5)))))))
theorem s_Rd_moves_82 {a0 : Nat} {a1 : Nat} {x2 : Int} {x3 : Int} {w4 : Option zV} {sx0 : Int} (p_1 : ¬ sx0 = x3 → zX c k_Rd_moves 96 [some (zR a0), some (zR a1), some (zI x2), some (zI x3), some (zI sx0)] [] (n, K, mr, mi) Q) (p_2 : sx0 = x3 → zX c k_Rd_moves 90 [some (zR a0), some (zR a1), some (zI x2), some (zI x3), some (zI sx0)] [] (n, K, mr, mi) Q) : zX c k_Rd_moves 82 [some (zR a0), some (zR a1), some (zI x2), some (zI x3), w4] [zI sx0] (n, K, mr, mi) Q := 
  zX.n rfl (zX.n rfl (zX.n rfl (zX.n rfl (zX.itn p_1 p_2))))
theorem s_Rd_moves_90 {a0 : Nat} {w1 : Option zV} {w2 : Option zV} {w3 : Option zV} {w4 : Option zV} (h_1 : K a0 = (3, 10)) (k_2 : zCall c k_Rd_moves 92 95 [some (zR a0), w1, w2, w3, w4] [] 0 k_Rd_fail [zR a0, zI 3] (n, K, mr, mi) Q) : zX c k_Rd_moves 90 [some (zR a0), w1, w2, w3, w4] [] (n, K, mr, mi) Q := 
  zX.n rfl (zX.n rfl (zX.callQ rfl (congrArg Prod.fst h_1) trivial k_2))
theorem s_Rd_moves_95 {w0 : Option zV} {w1 : Option zV} {w2 : Option zV} {w3 : Option zV} {w4 : Option zV} {sa0 : Nat} (p_1 : Q (.inr sa0) (n, K, mr, mi)) (h_2 : (K sa0).1 = 4) (h_3 : 64 ≤ sa0) : zX c k_Rd_moves 95 [w0, w1, w2, w3, w4] [zR sa0] (n, K, mr, mi) Q := 
  zX.thr rfl ⟨⟨h_3, fun e9 => absurd (h_2.symm.trans e9) (by decide)⟩, Nat.lt_of_le_of_lt (Nat.le_of_eq h_2) (by decide)⟩ rfl p_1
theorem s_Rd_moves_96 {a0 : Nat} {a1 : Nat} {x2 : Int} {x3 : Int} {x4 : Int} (h_1 : K a0 = (3, 10)) (k_2 : zCall c k_Rd_moves 97 100 [some (zR a0), some (zR a1), some (zI x2), some (zI x3), some (zI x4)] [] 0 k_Rd_next [zR a0] (n, K, mr, mi) Q) : zX c k_Rd_moves 96 [some (zR a0), some (zR a1), some (zI x2), some (zI x3), some (zI x4)] [] (n, K, mr, mi) Q := 
  zX.n rfl (zX.callQ rfl (congrArg Prod.fst h_1) trivial k_2)
theorem s_Rd_moves_100 {a0 : Nat} {a1 : Nat} {x2 : Int} {x3 : Int} {x4 : Int} (h_1 : K a1 = (1, 3)) (k_2 : zCall c k_Rd_moves 105 108 [some (zR a0), some (zR a1), some (zI x2), some (zI x3), some (zI x4)] [] 0 k_Mv_be [zR a1, zI x2, zI x3, zI x4] (n, K, mr, mi) Q) : zX c k_Rd_moves 100 [some (zR a0), some (zR a1), some (zI x2), some (zI x3), some (zI x4)] [] (n, K, mr, mi) Q := 
  zX.n rfl (zX.n rfl (zX.n rfl (zX.n rfl (zX.callQ rfl (congrArg Prod.fst h_1) trivial k_2))))
theorem s_Rd_moves_108 {a0 : Nat} {a1 : Nat} {w2 : Option zV} {w3 : Option zV} {w4 : Option zV} {A2 : Nat} {A5 : Nat} {N7 : Nat} {j11 : Nat} {A16 : Nat} (h_1 : K a0 = (3, 10)) (h_3 : mr a0 9 = A2) (h_4 : K A2 = (18, 12)) (h_6 : mr A2 1 = A5) (h_8 : K A5 = (105, N7)) (h_9 : 0 ≤ (mi A2 9)) (h_10 : (mi A2 9) < (N7 : Int)) (h_12 : Int.toNat (mi A2 9) = j11) (h_13 : 64 ≤ A5) (h_14 : (K a1).1 = 1) (h_15 : 64 ≤ a1) (h_17 : (zst mr A5 j11 a1) a0 9 = A16) (h_18 : K A16 = (18, 12)) (h_19 : 64 ≤ A16) (p_20 : Q (.inl none) (n, K, zst mr A5 j11 a1, zst mi A16 9 (zw ((mi A16 9) + 1)))) : zX c k_Rd_moves 108 [some (zR a0), some (zR a1), w2, w3, w4] [] (n, K, mr, mi) Q := by
  subst h_3
  subst h_6
  subst h_12
  subst h_17
  exact zX.n rfl (zX.g rfl h_1 (zX.g rfl h_4 (zX.n rfl (zX.g rfl h_1 (zX.g rfl h_4 (zX.n rfl (zX.g rfl ⟨N7, h_13, h_8, ⟨h_9, h_10⟩, h_14, h_15⟩ (zX.n rfl (zX.g rfl h_1 (zX.n rfl (zX.g rfl h_18 (zX.n rfl (zX.n rfl (zX.g rfl ⟨h_19, h_18⟩ (zX.ret rfl trivial p_20)))))))))))))))
theorem s_Rd_seen_0 {a0 : Nat} {w1 : Option zV} {w2 : Option zV} {w3 : Option zV} {A2 : Nat} (h_1 : K a0 = (3, 10)) (h_3 : mr a0 9 = A2) (h_4 : K A2 = (18, 12)) (p_5 : (6 : Int) ≤ (mi A2 10) → zX c k_Rd_seen 17 [some (zR a0), w1, w2, w3] [zR a0] (n, K, mr, mi) Q) (p_6 : ¬ (6 : Int) ≤ (mi A2 10) → zX c k_Rd_seen 13 [some (zR a0), w1, w2, w3] [zR a0] (n, K, mr, mi) Q) : zX c k_Rd_seen 0 [some (zR a0), w1, w2, w3] [] (n, K, mr, mi) Q := by
  subst h_3
  exact zX.n rfl (zX.n rfl (zX.g rfl h_1 (zX.g rfl h_4 (zX.n rfl (zX.n rfl (zX.ite p_5 p_6))))))
theorem s_Rd_seen_13 {a0 : Nat} {w1 : Option zV} {w2 : Option zV} {w3 : Option zV} {sa0 : Nat} (p_1 : zX c k_Rd_seen 18 [some (zR a0), w1, w2, w3] [zI 1, zR sa0] (n, K, mr, mi) Q) : zX c k_Rd_seen 13 [some (zR a0), w1, w2, w3] [zR sa0] (n, K, mr, mi) Q := 
  zX.n rfl (zX.n rfl p_1)
theorem s_Rd_seen_17 {a0 : Nat} {w1 : Option zV} {w2 : Option zV} {w3 : Option zV} {sa0 : Nat} (p_1 : zX c k_Rd_seen 18 [some (zR a0), w1, w2, w3] [zI 0, zR sa0] (n, K, mr, mi) Q) : zX c k_Rd_seen 17 [some (zR a0), w1, w2, w3] [zR sa0] (n, K, mr, mi) Q := 
  zX.n rfl p_1
theorem s_Rd_seen_18 {a0 : Nat} {w1 : Option zV} {w2 : Option zV} {w3 : Option zV} {sa0 : Nat} {sx1 : Int} (h_1 : K sa0 = (3, 10)) (k_2 : zCall c k_Rd_seen 18 21 [some (zR a0), w1, w2, w3] [] 0 k_Rd_begins [zR sa0, zI sx1] (n, K, mr, mi) Q) : zX c k_Rd_seen 18 [some (zR a0), w1, w2, w3] [zI sx1, zR sa0] (n, K, mr, mi) Q := 
  zX.callQ rfl (congrArg Prod.fst h_1) trivial k_2
theorem s_Rd_seen_21 {a0 : Nat} {w1 : Option zV} {w2 : Option zV} {w3 : Option zV} (h_1 : 64 ≤ n) (h_2 : ((zup K n (20, 2)) n).1 ≠ 0) (k_3 : zCall c k_Rd_seen 25 28 [some (zR a0), w1, w2, w3] [zR n] 0 k_Se_init [zR n] (n + 1, zup K n (20, 2), zup mr n (fun _ => 0), zup mi n (fun _ => 0)) Q) : zX c k_Rd_seen 21 [some (zR a0), w1, w2, w3] [] (n, K, mr, mi) Q := 
  zX.n rfl (zX.n rfl (zX.callQ rfl ⟨h_1, h_2⟩ trivial k_3))
theorem s_Rd_seen_28 {a0 : Nat} {w1 : Option zV} {w2 : Option zV} {w3 : Option zV} {sa0 : Nat} (h_1 : K a0 = (3, 10)) (k_2 : zCall c k_Rd_seen 31 34 [some (zR a0), some (zR sa0), w2, w3] [zR sa0] 0 k_Rd_day [zR a0] (n, K, mr, mi) Q) : zX c k_Rd_seen 28 [some (zR a0), w1, w2, w3] [zR sa0] (n, K, mr, mi) Q := 
  zX.n rfl (zX.n rfl (zX.n rfl (zX.callQ rfl (congrArg Prod.fst h_1) trivial k_2)))
theorem s_Rd_seen_34 {a0 : Nat} {a1 : Nat} {w2 : Option zV} {w3 : Option zV} {sa0 : Nat} {sx1 : Int} (h_1 : K sa0 = (20, 2)) (h_2 : 64 ≤ sa0) (h_3 : K a0 = (3, 10)) (p_4 : ((zst mi sa0 1 sx1) a0 5) = (2 : Int) → zX c k_Rd_seen 51 [some (zR a0), some (zR a1), w2, w3] [] (n, K, mr, zst mi sa0 1 sx1) Q) (p_5 : ¬ ((zst mi sa0 1 sx1) a0 5) = (2 : Int) → zX c k_Rd_seen 45 [some (zR a0), some (zR a1), w2, w3] [] (n, K, mr, zst mi sa0 1 sx1) Q) : zX c k_Rd_seen 34 [some (zR a0), some (zR a1), w2, w3] [zI sx1, zR sa0] (n, K, mr, mi) Q := 
  zX.g rfl ⟨h_2, h_1⟩ (zX.n rfl (zX.g rfl h_3 (zX.n rfl (zX.n rfl (zX.ite p_4 p_5)))))
theorem s_Rd_seen_45 {a0 : Nat} {w1 : Option zV} {w2 : Option zV} {w3 : Option zV} (h_1 : K a0 = (3, 10)) (k_2 : zCall c k_Rd_seen 47 50 [some (zR a0), w1, w2, w3] [] 0 k_Rd_fail [zR a0, zI 1] (n, K, mr, mi) Q) : zX c k_Rd_seen 45 [some (zR a0), w1, w2, w3] [] (n, K, mr, mi) Q := 
  zX.n rfl (zX.n rfl (zX.callQ rfl (congrArg Prod.fst h_1) trivial k_2))
theorem s_Rd_seen_50 {w0 : Option zV} {w1 : Option zV} {w2 : Option zV} {w3 : Option zV} {sa0 : Nat} (p_1 : Q (.inr sa0) (n, K, mr, mi)) (h_2 : (K sa0).1 = 4) (h_3 : 64 ≤ sa0) : zX c k_Rd_seen 50 [w0, w1, w2, w3] [zR sa0] (n, K, mr, mi) Q := 
  zX.thr rfl ⟨⟨h_3, fun e9 => absurd (h_2.symm.trans e9) (by decide)⟩, Nat.lt_of_le_of_lt (Nat.le_of_eq h_2) (by decide)⟩ rfl p_1
theorem s_Rd_seen_51 {a0 : Nat} {a1 : Nat} {w2 : Option zV} {w3 : Option zV} {A2 : Nat} (h_1 : K a0 = (3, 10)) (h_3 : mr a0 8 = A2) (h_4 : K A2 = (23, 4)) (k_5 : zCall c k_Rd_seen 55 58 [some (zR a0), some (zR a1), w2, w3] [] 0 k_JStr_length [zR A2] (n, K, mr, mi) Q) : zX c k_Rd_seen 51 [some (zR a0), some (zR a1), w2, w3] [] (n, K, mr, mi) Q := by
  subst h_3
  exact zX.n rfl (zX.g rfl h_1 (zX.callQ rfl (congrArg Prod.fst h_4) trivial k_5))
theorem s_Rd_seen_58 {a0 : Nat} {a1 : Nat} {w2 : Option zV} {w3 : Option zV} {sx0 : Int} {A2 : Nat} (h_1 : K a0 = (3, 10)) (h_3 : mr a0 9 = A2) (h_4 : K A2 = (18, 12)) (p_5 : sx0 = (mi A2 5) → zX c k_Rd_seen 75 [some (zR a0), some (zR a1), w2, w3] [] (n, K, mr, mi) Q) (p_6 : ¬ sx0 = (mi A2 5) → zX c k_Rd_seen 68 [some (zR a0), some (zR a1), w2, w3] [] (n, K, mr, mi) Q) : zX c k_Rd_seen 58 [some (zR a0), some (zR a1), w2, w3] [zI sx0] (n, K, mr, mi) Q := by
  subst h_3
  exact zX.n rfl (zX.g rfl h_1 (zX.g rfl h_4 (zX.n rfl (zX.ite p_5 p_6))))
theorem s_Rd_seen_68 {a0 : Nat} {w1 : Option zV} {w2 : Option zV} {w3 : Option zV} (h_1 : K a0 = (3, 10)) (k_2 : zCall c k_Rd_seen 71 74 [some (zR a0), w1, w2, w3] [] 0 k_Rd_fail [zR a0, zI 7] (n, K, mr, mi) Q) : zX c k_Rd_seen 68 [some (zR a0), w1, w2, w3] [] (n, K, mr, mi) Q := 
  zX.n rfl (zX.n rfl (zX.callQ rfl (congrArg Prod.fst h_1) trivial k_2))
theorem s_Rd_seen_74 {w0 : Option zV} {w1 : Option zV} {w2 : Option zV} {w3 : Option zV} {sa0 : Nat} (p_1 : Q (.inr sa0) (n, K, mr, mi)) (h_2 : (K sa0).1 = 4) (h_3 : 64 ≤ sa0) : zX c k_Rd_seen 74 [w0, w1, w2, w3] [zR sa0] (n, K, mr, mi) Q := 
  zX.thr rfl ⟨⟨h_3, fun e9 => absurd (h_2.symm.trans e9) (by decide)⟩, Nat.lt_of_le_of_lt (Nat.le_of_eq h_2) (by decide)⟩ rfl p_1
theorem s_Rd_seen_75 {a0 : Nat} {a1 : Nat} {w2 : Option zV} {w3 : Option zV} (p_1 : zX c k_Rd_seen 77 [some (zR a0), some (zR a1), some (zI 0), w3] [] (n, K, mr, mi) Q) : zX c k_Rd_seen 75 [some (zR a0), some (zR a1), w2, w3] [] (n, K, mr, mi) Q := 
  zX.n rfl (zX.n rfl p_1)
theorem s_Rd_seen_77 {a0 : Nat} {a1 : Nat} {x2 : Int} {w3 : Option zV} {A2 : Nat} (h_1 : K a0 = (3, 10)) (h_3 : mr a0 9 = A2) (h_4 : K A2 = (18, 12)) (p_5 : (mi A2 5) ≤ x2 → zX c k_Rd_seen 154 [some (zR a0), some (zR a1), some (zI x2), w3] [] (n, K, mr, mi) Q) (p_6 : ¬ (mi A2 5) ≤ x2 → zX c k_Rd_seen 88 [some (zR a0), some (zR a1), some (zI x2), w3] [] (n, K, mr, mi) Q) : zX c k_Rd_seen 77 [some (zR a0), some (zR a1), some (zI x2), w3] [] (n, K, mr, mi) Q := by
  subst h_3
  exact zX.n rfl (zX.n rfl (zX.g rfl h_1 (zX.g rfl h_4 (zX.n rfl (zX.ite p_5 p_6)))))
theorem s_Rd_seen_88 {a0 : Nat} {a1 : Nat} {x2 : Int} {w3 : Option zV} {A2 : Nat} (h_1 : K a0 = (3, 10)) (h_3 : mr a0 8 = A2) (h_4 : K A2 = (23, 4)) (k_5 : zCall c k_Rd_seen 93 96 [some (zR a0), some (zR a1), some (zI x2), w3] [] 0 k_JStr_charAt [zR A2, zI x2] (n, K, mr, mi) Q) : zX c k_Rd_seen 88 [some (zR a0), some (zR a1), some (zI x2), w3] [] (n, K, mr, mi) Q := by
  subst h_3
  exact zX.n rfl (zX.g rfl h_1 (zX.n rfl (zX.callQ rfl (congrArg Prod.fst h_4) trivial k_5)))
theorem s_Rd_seen_96 {a0 : Nat} {a1 : Nat} {x2 : Int} {w3 : Option zV} {sx0 : Int} (p_1 : (zw (sx0 - 97)) = (25 : Int) → zX c k_Rd_seen 130 [some (zR a0), some (zR a1), some (zI x2), some (zI (zw (sx0 - 97)))] [] (n, K, mr, mi) Q) (p_2 : ¬ (zw (sx0 - 97)) = (25 : Int) → zX c k_Rd_seen 106 [some (zR a0), some (zR a1), some (zI x2), some (zI (zw (sx0 - 97)))] [] (n, K, mr, mi) Q) : zX c k_Rd_seen 96 [some (zR a0), some (zR a1), some (zI x2), w3] [zI sx0] (n, K, mr, mi) Q := 
  zX.n rfl (zX.n rfl (zX.n rfl (zX.n rfl (zX.n rfl (zX.n rfl (zX.ite p_1 p_2))))))
theorem s_Rd_seen_106 {a0 : Nat} {a1 : Nat} {x2 : Int} {x3 : Int} {A2 : Nat} (h_1 : K a0 = (3, 10)) (h_3 : mr a0 9 = A2) (h_4 : K A2 = (18, 12)) (k_5 : zCall c k_Rd_seen 117 120 [some (zR a0), some (zR a1), some (zI x2), some (zI x3)] [] 0 k_B_in [zI x3, zI 0, zI (zw ((mi A2 6) - 1))] (n, K, mr, mi) Q) : zX c k_Rd_seen 106 [some (zR a0), some (zR a1), some (zI x2), some (zI x3)] [] (n, K, mr, mi) Q := by
  subst h_3
  exact zX.n rfl (zX.n rfl (zX.n rfl (zX.g rfl h_1 (zX.g rfl h_4 (zX.n rfl (zX.n rfl (zX.callQ rfl trivial trivial k_5)))))))
theorem s_Rd_seen_120 {a0 : Nat} {a1 : Nat} {x2 : Int} {x3 : Int} {sx0 : Int} (p_1 : ¬ sx0 = 0 → zX c k_Rd_seen 130 [some (zR a0), some (zR a1), some (zI x2), some (zI x3)] [] (n, K, mr, mi) Q) (p_2 : sx0 = 0 → zX c k_Rd_seen 123 [some (zR a0), some (zR a1), some (zI x2), some (zI x3)] [] (n, K, mr, mi) Q) : zX c k_Rd_seen 120 [some (zR a0), some (zR a1), some (zI x2), some (zI x3)] [zI sx0] (n, K, mr, mi) Q := 
  zX.n rfl (zX.itn p_1 p_2)
theorem s_Rd_seen_123 {a0 : Nat} {w1 : Option zV} {w2 : Option zV} {w3 : Option zV} (h_1 : K a0 = (3, 10)) (k_2 : zCall c k_Rd_seen 126 129 [some (zR a0), w1, w2, w3] [] 0 k_Rd_fail [zR a0, zI 7] (n, K, mr, mi) Q) : zX c k_Rd_seen 123 [some (zR a0), w1, w2, w3] [] (n, K, mr, mi) Q := 
  zX.n rfl (zX.n rfl (zX.callQ rfl (congrArg Prod.fst h_1) trivial k_2))
theorem s_Rd_seen_129 {w0 : Option zV} {w1 : Option zV} {w2 : Option zV} {w3 : Option zV} {sa0 : Nat} (p_1 : Q (.inr sa0) (n, K, mr, mi)) (h_2 : (K sa0).1 = 4) (h_3 : 64 ≤ sa0) : zX c k_Rd_seen 129 [w0, w1, w2, w3] [zR sa0] (n, K, mr, mi) Q := 
  zX.thr rfl ⟨⟨h_3, fun e9 => absurd (h_2.symm.trans e9) (by decide)⟩, Nat.lt_of_le_of_lt (Nat.le_of_eq h_2) (by decide)⟩ rfl p_1
theorem s_Rd_seen_130 {a0 : Nat} {a1 : Nat} {x2 : Int} {x3 : Int} {A2 : Nat} (h_1 : K a1 = (20, 2)) (h_3 : mr a1 0 = A2) (p_4 : ¬ x3 = (25 : Int) → zX c k_Rd_seen 146 [some (zR a0), some (zR a1), some (zI x2), some (zI x3)] [zI x2, zR A2] (n, K, mr, mi) Q) (p_5 : x3 = (25 : Int) → zX c k_Rd_seen 141 [some (zR a0), some (zR a1), some (zI x2), some (zI x3)] [zI x2, zR A2] (n, K, mr, mi) Q) : zX c k_Rd_seen 130 [some (zR a0), some (zR a1), some (zI x2), some (zI x3)] [] (n, K, mr, mi) Q := by
  subst h_3
  exact zX.n rfl (zX.g rfl h_1 (zX.n rfl (zX.n rfl (zX.n rfl (zX.n rfl (zX.itn p_4 p_5))))))
theorem s_Rd_seen_141 {a0 : Nat} {a1 : Nat} {x2 : Int} {w3 : Option zV} {sa0 : Nat} {sx1 : Int} (p_1 : zX c k_Rd_seen 147 [some (zR a0), some (zR a1), some (zI x2), w3] [zI ((-2)), zI sx1, zR sa0] (n, K, mr, mi) Q) : zX c k_Rd_seen 141 [some (zR a0), some (zR a1), some (zI x2), w3] [zI sx1, zR sa0] (n, K, mr, mi) Q := 
  zX.n rfl (zX.n rfl p_1)
theorem s_Rd_seen_146 {a0 : Nat} {a1 : Nat} {x2 : Int} {x3 : Int} {sa0 : Nat} {sx1 : Int} (p_1 : zX c k_Rd_seen 147 [some (zR a0), some (zR a1), some (zI x2), some (zI x3)] [zI x3, zI sx1, zR sa0] (n, K, mr, mi) Q) : zX c k_Rd_seen 146 [some (zR a0), some (zR a1), some (zI x2), some (zI x3)] [zI sx1, zR sa0] (n, K, mr, mi) Q := 
  zX.n rfl p_1
theorem s_Rd_seen_147 {a0 : Nat} {a1 : Nat} {x2 : Int} {w3 : Option zV} {sa0 : Nat} {sx1 : Int} {sx2 : Int} {N1 : Nat} {j5 : Nat} (h_2 : K sa0 = (100, N1)) (h_3 : 0 ≤ sx1) (h_4 : sx1 < (N1 : Int)) (h_6 : Int.toNat sx1 = j5) (h_7 : 64 ≤ sa0) (p_8 : zX c k_Rd_seen 77 [some (zR a0), some (zR a1), some (zI (zw (x2 + 1))), w3] [] (n, K, mr, zst mi sa0 j5 sx2) Q) : zX c k_Rd_seen 147 [some (zR a0), some (zR a1), some (zI x2), w3] [zI sx2, zI sx1, zR sa0] (n, K, mr, mi) Q := by
  subst h_6
  exact zX.g rfl ⟨N1, h_7, h_2, h_3, h_4⟩ (zX.n rfl (zX.n rfl p_8))
theorem s_Rd_seen_154 {a0 : Nat} {a1 : Nat} {w2 : Option zV} {w3 : Option zV} (h_1 : K a0 = (3, 10)) (k_2 : zCall c k_Rd_seen 155 158 [some (zR a0), some (zR a1), w2, w3] [] 0 k_Rd_next [zR a0] (n, K, mr, mi) Q) : zX c k_Rd_seen 154 [some (zR a0), some (zR a1), w2, w3] [] (n, K, mr, mi) Q := 
  zX.n rfl (zX.callQ rfl (congrArg Prod.fst h_1) trivial k_2)
theorem s_Rd_seen_158 {a0 : Nat} {a1 : Nat} {w2 : Option zV} {w3 : Option zV} {A2 : Nat} {A5 : Nat} {N7 : Nat} {j11 : Nat} {A16 : Nat} (h_1 : K a0 = (3, 10)) (h_3 : mr a0 9 = A2) (h_4 : K A2 = (18, 12)) (h_6 : mr A2 2 = A5) (h_8 : K A5 = (111, N7)) (h_9 : 0 ≤ (mi A2 10)) (h_10 : (mi A2 10) < (N7 : Int)) (h_12 : Int.toNat (mi A2 10) = j11) (h_13 : 64 ≤ A5) (h_14 : (K a1).1 = 20) (h_15 : 64 ≤ a1) (h_17 : (zst mr A5 j11 a1) a0 9 = A16) (h_18 : K A16 = (18, 12)) (h_19 : 64 ≤ A16) (p_20 : Q (.inl none) (n, K, zst mr A5 j11 a1, zst mi A16 10 (zw ((mi A16 10) + 1)))) : zX c k_Rd_seen 158 [some (zR a0), some (zR a1), w2, w3] [] (n, K, mr, mi) Q := by
  subst h_3
  subst h_6
  subst h_12
  subst h_17
  exact zX.n rfl (zX.g rfl h_1 (zX.g rfl h_4 (zX.n rfl (zX.g rfl h_1 (zX.g rfl h_4 (zX.n rfl (zX.g rfl ⟨N7, h_13, h_8, ⟨h_9, h_10⟩, h_14, h_15⟩ (zX.n rfl (zX.g rfl h_1 (zX.n rfl (zX.g rfl h_18 (zX.n rfl (zX.n rfl (zX.g rfl ⟨h_19, h_18⟩ (zX.ret rfl trivial p_20)))))))))))))))
theorem s_Rd_person_0 {a0 : Nat} {w1 : Option zV} (h_1 : K a0 = (3, 10)) (k_2 : zCall c k_Rd_person 1 4 [some (zR a0), w1] [] 0 k_Rd_personHere [zR a0] (n, K, mr, mi) Q) : zX c k_Rd_person 0 [some (zR a0), w1] [] (n, K, mr, mi) Q := 
  zX.n rfl (zX.callQ rfl (congrArg Prod.fst h_1) trivial k_2)
theorem s_Rd_person_4 {a0 : Nat} {w1 : Option zV} {sa0 : Nat} (h_1 : K a0 = (3, 10)) (k_2 : zCall c k_Rd_person 6 9 [some (zR a0), some (zR sa0)] [] 0 k_Rd_next [zR a0] (n, K, mr, mi) Q) : zX c k_Rd_person 4 [some (zR a0), w1] [zR sa0] (n, K, mr, mi) Q := 
  zX.n rfl (zX.n rfl (zX.callQ rfl (congrArg Prod.fst h_1) trivial k_2))
theorem s_Rd_person_9 {w0 : Option zV} {a1 : Nat} (p_1 : Q (.inl (some (zR a1))) (n, K, mr, mi)) : zX c k_Rd_person 9 [w0, some (zR a1)] [] (n, K, mr, mi) Q := 
  zX.n rfl (zX.ret rfl trivial p_1)
theorem s_Rd_says_0 {a0 : Nat} {w1 : Option zV} {A2 : Nat} (h_1 : K a0 = (3, 10)) (h_3 : mr a0 9 = A2) (h_4 : K A2 = (18, 12)) (p_5 : (8 : Int) ≤ (mi A2 11) → zX c k_Rd_says 17 [some (zR a0), w1] [zR a0] (n, K, mr, mi) Q) (p_6 : ¬ (8 : Int) ≤ (mi A2 11) → zX c k_Rd_says 13 [some (zR a0), w1] [zR a0] (n, K, mr, mi) Q) : zX c k_Rd_says 0 [some (zR a0), w1] [] (n, K, mr, mi) Q := by
  subst h_3
  exact zX.n rfl (zX.n rfl (zX.g rfl h_1 (zX.g rfl h_4 (zX.n rfl (zX.n rfl (zX.ite p_5 p_6))))))
theorem s_Rd_says_13 {a0 : Nat} {w1 : Option zV} {sa0 : Nat} (p_1 : zX c k_Rd_says 18 [some (zR a0), w1] [zI 1, zR sa0] (n, K, mr, mi) Q) : zX c k_Rd_says 13 [some (zR a0), w1] [zR sa0] (n, K, mr, mi) Q := 
  zX.n rfl (zX.n rfl p_1)
theorem s_Rd_says_17 {a0 : Nat} {w1 : Option zV} {sa0 : Nat} (p_1 : zX c k_Rd_says 18 [some (zR a0), w1] [zI 0, zR sa0] (n, K, mr, mi) Q) : zX c k_Rd_says 17 [some (zR a0), w1] [zR sa0] (n, K, mr, mi) Q := 
  zX.n rfl p_1
theorem s_Rd_says_18 {a0 : Nat} {w1 : Option zV} {sa0 : Nat} {sx1 : Int} (h_1 : K sa0 = (3, 10)) (k_2 : zCall c k_Rd_says 18 21 [some (zR a0), w1] [] 0 k_Rd_begins [zR sa0, zI sx1] (n, K, mr, mi) Q) : zX c k_Rd_says 18 [some (zR a0), w1] [zI sx1, zR sa0] (n, K, mr, mi) Q := 
  zX.callQ rfl (congrArg Prod.fst h_1) trivial k_2
theorem s_Rd_says_21 {a0 : Nat} {w1 : Option zV} (h_1 : 64 ≤ n) (h_2 : ((zup K n (21, 3)) n).1 ≠ 0) (k_3 : zCall c k_Rd_says 25 28 [some (zR a0), w1] [zR n] 0 k_Sa_init [zR n] (n + 1, zup K n (21, 3), zup mr n (fun _ => 0), zup mi n (fun _ => 0)) Q) : zX c k_Rd_says 21 [some (zR a0), w1] [] (n, K, mr, mi) Q := 
  zX.n rfl (zX.n rfl (zX.callQ rfl ⟨h_1, h_2⟩ trivial k_3))
theorem s_Rd_says_28 {a0 : Nat} {w1 : Option zV} {sa0 : Nat} (h_1 : K a0 = (3, 10)) (k_2 : zCall c k_Rd_says 31 34 [some (zR a0), some (zR sa0)] [zR sa0] 0 k_Rd_person [zR a0] (n, K, mr, mi) Q) : zX c k_Rd_says 28 [some (zR a0), w1] [zR sa0] (n, K, mr, mi) Q := 
  zX.n rfl (zX.n rfl (zX.n rfl (zX.callQ rfl (congrArg Prod.fst h_1) trivial k_2)))
theorem s_Rd_says_34 {a0 : Nat} {a1 : Nat} {sa0 : Nat} {sa1 : Nat} (h_1 : K sa1 = (19, 12)) (h_2 : K sa0 = (21, 3)) (h_3 : 64 ≤ sa0) (h_4 : K a0 = (3, 10)) (k_5 : zCall c k_Rd_says 42 45 [some (zR a0), some (zR a1)] [zR a1] 0 k_Rd_day [zR a0] (n, K, mr, zst mi sa0 0 (mi sa1 1)) Q) : zX c k_Rd_says 34 [some (zR a0), some (zR a1)] [zR sa1, zR sa0] (n, K, mr, mi) Q := 
  zX.g rfl h_1 (zX.g rfl ⟨h_3, h_2⟩ (zX.n rfl (zX.n rfl (zX.callQ rfl (congrArg Prod.fst h_4) trivial k_5))))
theorem s_Rd_says_45 {a0 : Nat} {a1 : Nat} {sa0 : Nat} {sx1 : Int} {A4 : Nat} (h_1 : K sa0 = (21, 3)) (h_2 : 64 ≤ sa0) (h_3 : K a0 = (3, 10)) (h_5 : mr a0 9 = A4) (h_6 : K A4 = (18, 12)) (k_7 : zCall c k_Rd_says 60 63 [some (zR a0), some (zR a1)] [zR a1] 0 k_Rd_number [zR a0, zI 0, zI (zw (((zst mi sa0 1 sx1) A4 5) - 1))] (n, K, mr, zst mi sa0 1 sx1) Q) : zX c k_Rd_says 45 [some (zR a0), some (zR a1)] [zI sx1, zR sa0] (n, K, mr, mi) Q := by
  subst h_5
  exact zX.g rfl ⟨h_2, h_1⟩ (zX.n rfl (zX.n rfl (zX.n rfl (zX.n rfl (zX.g rfl h_3 (zX.g rfl h_6 (zX.n rfl (zX.n rfl (zX.callQ rfl (congrArg Prod.fst h_3) trivial k_7)))))))))
theorem s_Rd_says_63 {a0 : Nat} {a1 : Nat} {sa0 : Nat} {sx1 : Int} {A4 : Nat} {A7 : Nat} {N9 : Nat} {j13 : Nat} {A18 : Nat} (h_1 : K sa0 = (21, 3)) (h_2 : 64 ≤ sa0) (h_3 : K a0 = (3, 10)) (h_5 : mr a0 9 = A4) (h_6 : K A4 = (18, 12)) (h_8 : mr A4 3 = A7) (h_10 : K A7 = (112, N9)) (h_11 : 0 ≤ ((zst mi sa0 2 sx1) A4 11)) (h_12 : ((zst mi sa0 2 sx1) A4 11) < (N9 : Int)) (h_14 : Int.toNat ((zst mi sa0 2 sx1) A4 11) = j13) (h_15 : 64 ≤ A7) (h_16 : (K a1).1 = 21) (h_17 : 64 ≤ a1) (h_19 : (zst mr A7 j13 a1) a0 9 = A18) (h_20 : K A18 = (18, 12)) (h_21 : 64 ≤ A18) (p_22 : Q (.inl none) (n, K, zst mr A7 j13 a1, zst (zst mi sa0 2 sx1) A18 11 (zw (((zst mi sa0 2 sx1) A18 11) + 1)))) : zX c k_Rd_says 63 [some (zR a0), some (zR a1)] [zI sx1, zR sa0] (n, K, mr, mi) Q := by
  subst h_5
  subst h_8
  subst h_14
  subst h_19
  exact zX.g rfl ⟨h_2, h_1⟩ (zX.n rfl (zX.g rfl h_3 (zX.g rfl h_6 (zX.n rfl (zX.g rfl h_3 (zX.g rfl h_6 (zX.n rfl (zX.g rfl ⟨N9, h_15, h_10, ⟨h_11, h_12⟩, h_16, h_17⟩ (zX.n rfl (zX.g rfl h_3 (zX.n rfl (zX.g rfl h_20 (zX.n rfl (zX.n rfl (zX.g rfl ⟨h_21, h_20⟩ (zX.ret rfl trivial p_22))))))))))))))))
theorem s_Rd_line_0 {a0 : Nat} {w1 : Option zV} {w2 : Option zV} (h_1 : K a0 = (3, 10)) (p_2 : (mi a0 5) = (2 : Int) → zX c k_Rd_line 14 [some (zR a0), w1, w2] [] (n, K, mr, mi) Q) (p_3 : ¬ (mi a0 5) = (2 : Int) → zX c k_Rd_line 8 [some (zR a0), w1, w2] [] (n, K, mr, mi) Q) : zX c k_Rd_line 0 [some (zR a0), w1, w2] [] (n, K, mr, mi) Q := 
  zX.n rfl (zX.g rfl h_1 (zX.n rfl (zX.n rfl (zX.ite p_2 p_3))))
theorem s_Rd_line_8 {a0 : Nat} {w1 : Option zV} {w2 : Option zV} (h_1 : K a0 = (3, 10)) (k_2 : zCall c k_Rd_line 10 13 [some (zR a0), w1, w2] [] 0 k_Rd_fail [zR a0, zI 1] (n, K, mr, mi) Q) : zX c k_Rd_line 8 [some (zR a0), w1, w2] [] (n, K, mr, mi) Q := 
  zX.n rfl (zX.n rfl (zX.callQ rfl (congrArg Prod.fst h_1) trivial k_2))
theorem s_Rd_line_13 {w0 : Option zV} {w1 : Option zV} {w2 : Option zV} {sa0 : Nat} (p_1 : Q (.inr sa0) (n, K, mr, mi)) (h_2 : (K sa0).1 = 4) (h_3 : 64 ≤ sa0) : zX c k_Rd_line 13 [w0, w1, w2] [zR sa0] (n, K, mr, mi) Q := 
  zX.thr rfl ⟨⟨h_3, fun e9 => absurd (h_2.symm.trans e9) (by decide)⟩, Nat.lt_of_le_of_lt (Nat.le_of_eq h_2) (by decide)⟩ rfl p_1
theorem s_Rd_line_14 {a0 : Nat} {w1 : Option zV} {w2 : Option zV} {A2 : Nat} (h_1 : K a0 = (3, 10)) (h_3 : mr a0 8 = A2) (h_4 : K A2 = (23, 4)) (k_5 : zCall c k_Rd_line 22 25 [some (zR a0), some (zR A2), some (zI ((-1)))] [] 0 k_JStr_hashCode [zR A2] (n, K, mr, mi) Q) : zX c k_Rd_line 14 [some (zR a0), w1, w2] [] (n, K, mr, mi) Q := by
  subst h_3
  exact zX.n rfl (zX.g rfl h_1 (zX.n rfl (zX.n rfl (zX.n rfl (zX.n rfl (zX.callQ rfl (congrArg Prod.fst h_4) trivial k_5))))))
theorem s_Rd_line_25 {a0 : Nat} {a1 : Nat} {x2 : Int} {sx0 : Int} (p_1 : sx0 = (-991716523) → zX c k_Rd_line 98 [some (zR a0), some (zR a1), some (zI x2)] [] (n, K, mr, mi) Q) (p_2 : sx0 = 3523048 → zX c k_Rd_line 154 [some (zR a0), some (zR a1), some (zI x2)] [] (n, K, mr, mi) Q) (p_3 : sx0 = 3526267 → zX c k_Rd_line 140 [some (zR a0), some (zR a1), some (zI x2)] [] (n, K, mr, mi) Q) (p_4 : sx0 = 3540569 → zX c k_Rd_line 112 [some (zR a0), some (zR a1), some (zI x2)] [] (n, K, mr, mi) Q) (p_5 : sx0 = 98436988 → zX c k_Rd_line 84 [some (zR a0), some (zR a1), some (zI x2)] [] (n, K, mr, mi) Q) (p_6 : sx0 = 104087234 → zX c k_Rd_line 126 [some (zR a0), some (zR a1), some (zI x2)] [] (n, K, mr, mi) Q) (p_7 : ¬ sx0 = (-991716523) → ¬ sx0 = 3523048 → ¬ sx0 = 3526267 → ¬ sx0 = 3540569 → ¬ sx0 = 98436988 → ¬ sx0 = 104087234 → zX c k_Rd_line 165 [some (zR a0), some (zR a1), some (zI x2)] [] (n, K, mr, mi) Q) : zX c k_Rd_line 25 [some (zR a0), some (zR a1), some (zI x2)] [zI sx0] (n, K, mr, mi) Q := 
  zX.n rfl (zX.lsw p_1 (fun q0 => (zX.lsw p_2 (fun q1 => (zX.lsw p_3 (fun q2 => (zX.lsw p_4 (fun q3 => (zX.lsw p_5 (fun q4 => (zX.lsw p_6 (fun q5 => (p_7 q0 q1 q2 q3 q4 q5)))))))))))))
theorem s_Rd_line_84 {a0 : Nat} {a1 : Nat} {x2 : Int} (h_1 : K a1 = (23, 4)) (k_2 : zCall c k_Rd_line 87 90 [some (zR a0), some (zR a1), some (zI x2)] [] 0 k_JStr_equals [zR a1, zR 14] (n, K, mr, mi) Q) : zX c k_Rd_line 84 [some (zR a0), some (zR a1), some (zI x2)] [] (n, K, mr, mi) Q := 
  zX.n rfl (zX.n rfl (zX.callQ rfl (congrArg Prod.fst h_1) trivial k_2))
theorem s_Rd_line_90 {a0 : Nat} {w1 : Option zV} {x2 : Int} {sx0 : Int} (p_1 : sx0 = 0 → zX c k_Rd_line 165 [some (zR a0), w1, some (zI x2)] [] (n, K, mr, mi) Q) (p_2 : ¬ sx0 = 0 → zX c k_Rd_line 93 [some (zR a0), w1, some (zI x2)] [] (n, K, mr, mi) Q) : zX c k_Rd_line 90 [some (zR a0), w1, some (zI x2)] [zI sx0] (n, K, mr, mi) Q := 
  zX.n rfl (zX.ite p_1 p_2)
theorem s_Rd_line_93 {a0 : Nat} {w1 : Option zV} {w2 : Option zV} (p_1 : zX c k_Rd_line 165 [some (zR a0), (zkill w1), some (zI 0)] [] (n, K, mr, mi) Q) : zX c k_Rd_line 93 [some (zR a0), w1, w2] [] (n, K, mr, mi) Q := 
  zX.n rfl (zX.n rfl (zX.n rfl p_1))
theorem s_Rd_line_98 {a0 : Nat} {a1 : Nat} {x2 : Int} (h_1 : K a1 = (23, 4)) (k_2 : zCall c k_Rd_line 101 104 [some (zR a0), some (zR a1), some (zI x2)] [] 0 k_JStr_equals [zR a1, zR 26] (n, K, mr, mi) Q) : zX c k_Rd_line 98 [some (zR a0), some (zR a1), some (zI x2)] [] (n, K, mr, mi) Q := 
  zX.n rfl (zX.n rfl (zX.callQ rfl (congrArg Prod.fst h_1) trivial k_2))
theorem s_Rd_line_104 {a0 : Nat} {w1 : Option zV} {x2 : Int} {sx0 : Int} (p_1 : sx0 = 0 → zX c k_Rd_line 165 [some (zR a0), w1, some (zI x2)] [] (n, K, mr, mi) Q) (p_2 : ¬ sx0 = 0 → zX c k_Rd_line 107 [some (zR a0), w1, some (zI x2)] [] (n, K, mr, mi) Q) : zX c k_Rd_line 104 [some (zR a0), w1, some (zI x2)] [zI sx0] (n, K, mr, mi) Q := 
  zX.n rfl (zX.ite p_1 p_2)
theorem s_Rd_line_107 {a0 : Nat} {w1 : Option zV} {w2 : Option zV} (p_1 : zX c k_Rd_line 165 [some (zR a0), (zkill w1), some (zI 1)] [] (n, K, mr, mi) Q) : zX c k_Rd_line 107 [some (zR a0), w1, w2] [] (n, K, mr, mi) Q := 
  zX.n rfl (zX.n rfl (zX.n rfl p_1))
theorem s_Rd_line_112 {a0 : Nat} {a1 : Nat} {x2 : Int} (h_1 : K a1 = (23, 4)) (k_2 : zCall c k_Rd_line 115 118 [some (zR a0), some (zR a1), some (zI x2)] [] 0 k_JStr_equals [zR a1, zR 40] (n, K, mr, mi) Q) : zX c k_Rd_line 112 [some (zR a0), some (zR a1), some (zI x2)] [] (n, K, mr, mi) Q := 
  zX.n rfl (zX.n rfl (zX.callQ rfl (congrArg Prod.fst h_1) trivial k_2))
theorem s_Rd_line_118 {a0 : Nat} {w1 : Option zV} {x2 : Int} {sx0 : Int} (p_1 : sx0 = 0 → zX c k_Rd_line 165 [some (zR a0), w1, some (zI x2)] [] (n, K, mr, mi) Q) (p_2 : ¬ sx0 = 0 → zX c k_Rd_line 121 [some (zR a0), w1, some (zI x2)] [] (n, K, mr, mi) Q) : zX c k_Rd_line 118 [some (zR a0), w1, some (zI x2)] [zI sx0] (n, K, mr, mi) Q := 
  zX.n rfl (zX.ite p_1 p_2)
theorem s_Rd_line_121 {a0 : Nat} {w1 : Option zV} {w2 : Option zV} (p_1 : zX c k_Rd_line 165 [some (zR a0), (zkill w1), some (zI 2)] [] (n, K, mr, mi) Q) : zX c k_Rd_line 121 [some (zR a0), w1, w2] [] (n, K, mr, mi) Q := 
  zX.n rfl (zX.n rfl (zX.n rfl p_1))
theorem s_Rd_line_126 {a0 : Nat} {a1 : Nat} {x2 : Int} (h_1 : K a1 = (23, 4)) (k_2 : zCall c k_Rd_line 129 132 [some (zR a0), some (zR a1), some (zI x2)] [] 0 k_JStr_equals [zR a1, zR 22] (n, K, mr, mi) Q) : zX c k_Rd_line 126 [some (zR a0), some (zR a1), some (zI x2)] [] (n, K, mr, mi) Q := 
  zX.n rfl (zX.n rfl (zX.callQ rfl (congrArg Prod.fst h_1) trivial k_2))
theorem s_Rd_line_132 {a0 : Nat} {w1 : Option zV} {x2 : Int} {sx0 : Int} (p_1 : sx0 = 0 → zX c k_Rd_line 165 [some (zR a0), w1, some (zI x2)] [] (n, K, mr, mi) Q) (p_2 : ¬ sx0 = 0 → zX c k_Rd_line 135 [some (zR a0), w1, some (zI x2)] [] (n, K, mr, mi) Q) : zX c k_Rd_line 132 [some (zR a0), w1, some (zI x2)] [zI sx0] (n, K, mr, mi) Q := 
  zX.n rfl (zX.ite p_1 p_2)
theorem s_Rd_line_135 {a0 : Nat} {w1 : Option zV} {w2 : Option zV} (p_1 : zX c k_Rd_line 165 [some (zR a0), (zkill w1), some (zI 3)] [] (n, K, mr, mi) Q) : zX c k_Rd_line 135 [some (zR a0), w1, w2] [] (n, K, mr, mi) Q := 
  zX.n rfl (zX.n rfl (zX.n rfl p_1))
theorem s_Rd_line_140 {a0 : Nat} {a1 : Nat} {x2 : Int} (h_1 : K a1 = (23, 4)) (k_2 : zCall c k_Rd_line 143 146 [some (zR a0), some (zR a1), some (zI x2)] [] 0 k_JStr_equals [zR a1, zR 38] (n, K, mr, mi) Q) : zX c k_Rd_line 140 [some (zR a0), some (zR a1), some (zI x2)] [] (n, K, mr, mi) Q := 
  zX.n rfl (zX.n rfl (zX.callQ rfl (congrArg Prod.fst h_1) trivial k_2))
theorem s_Rd_line_146 {a0 : Nat} {w1 : Option zV} {x2 : Int} {sx0 : Int} (p_1 : sx0 = 0 → zX c k_Rd_line 165 [some (zR a0), w1, some (zI x2)] [] (n, K, mr, mi) Q) (p_2 : ¬ sx0 = 0 → zX c k_Rd_line 149 [some (zR a0), w1, some (zI x2)] [] (n, K, mr, mi) Q) : zX c k_Rd_line 146 [some (zR a0), w1, some (zI x2)] [zI sx0] (n, K, mr, mi) Q := 
  zX.n rfl (zX.ite p_1 p_2)
theorem s_Rd_line_149 {a0 : Nat} {w1 : Option zV} {w2 : Option zV} (p_1 : zX c k_Rd_line 165 [some (zR a0), (zkill w1), some (zI 4)] [] (n, K, mr, mi) Q) : zX c k_Rd_line 149 [some (zR a0), w1, w2] [] (n, K, mr, mi) Q := 
  zX.n rfl (zX.n rfl (zX.n rfl p_1))
theorem s_Rd_line_154 {a0 : Nat} {a1 : Nat} {x2 : Int} (h_1 : K a1 = (23, 4)) (k_2 : zCall c k_Rd_line 157 160 [some (zR a0), some (zR a1), some (zI x2)] [] 0 k_JStr_equals [zR a1, zR 36] (n, K, mr, mi) Q) : zX c k_Rd_line 154 [some (zR a0), some (zR a1), some (zI x2)] [] (n, K, mr, mi) Q := 
  zX.n rfl (zX.n rfl (zX.callQ rfl (congrArg Prod.fst h_1) trivial k_2))
theorem s_Rd_line_160 {a0 : Nat} {w1 : Option zV} {x2 : Int} {sx0 : Int} (p_1 : sx0 = 0 → zX c k_Rd_line 165 [some (zR a0), w1, some (zI x2)] [] (n, K, mr, mi) Q) (p_2 : ¬ sx0 = 0 → zX c k_Rd_line 163 [some (zR a0), w1, some (zI x2)] [] (n, K, mr, mi) Q) : zX c k_Rd_line 160 [some (zR a0), w1, some (zI x2)] [zI sx0] (n, K, mr, mi) Q := 
  zX.n rfl (zX.ite p_1 p_2)
theorem s_Rd_line_163 {a0 : Nat} {w1 : Option zV} {w2 : Option zV} (p_1 : zX c k_Rd_line 165 [some (zR a0), (zkill w1), some (zI 5)] [] (n, K, mr, mi) Q) : zX c k_Rd_line 163 [some (zR a0), w1, w2] [] (n, K, mr, mi) Q := 
  zX.n rfl (zX.n rfl p_1)
theorem s_Rd_line_165 {a0 : Nat} {w1 : Option zV} {x2 : Int} (p_1 : x2 = 0 → zX c k_Rd_line 204 [some (zR a0), w1, some (zI x2)] [] (n, K, mr, mi) Q) (p_2 : x2 = 1 → zX c k_Rd_line 211 [some (zR a0), w1, some (zI x2)] [] (n, K, mr, mi) Q) (p_3 : x2 = 2 → zX c k_Rd_line 218 [some (zR a0), w1, some (zI x2)] [] (n, K, mr, mi) Q) (p_4 : x2 = 3 → zX c k_Rd_line 225 [some (zR a0), w1, some (zI x2)] [] (n, K, mr, mi) Q) (p_5 : x2 = 4 → zX c k_Rd_line 232 [some (zR a0), w1, some (zI x2)] [] (n, K, mr, mi) Q) (p_6 : x2 = 5 → zX c k_Rd_line 239 [some (zR a0), w1, some (zI x2)] [] (n, K, mr, mi) Q) (p_7 : x2 < 0 ∨ 5 < x2 → zX c k_Rd_line 246 [some (zR a0), w1, some (zI x2)] [] (n, K, mr, mi) Q) : zX c k_Rd_line 165 [some (zR a0), w1, some (zI x2)] [] (n, K, mr, mi) Q := 
  zX.n rfl (zX.n rfl (zX.tsw (fun k hk hx => match k, hk, hx with | 0, _, hx => p_1 hx | 1, _, hx => p_2 hx | 2, _, hx => p_3 hx | 3, _, hx => p_4 hx | 4, _, hx => p_5 hx | 5, _, hx => p_6 hx | k + 6, hk, _ => absurd hk (by omega)) p_7))
theorem s_Rd_line_204 {a0 : Nat} {w1 : Option zV} {w2 : Option zV} (h_1 : K a0 = (3, 10)) (k_2 : zCall c k_Rd_line 205 208 [some (zR a0), w1, w2] [] 0 k_Rd_glassLine [zR a0] (n, K, mr, mi) Q) : zX c k_Rd_line 204 [some (zR a0), w1, w2] [] (n, K, mr, mi) Q := 
  zX.n rfl (zX.callQ rfl (congrArg Prod.fst h_1) trivial k_2)
theorem s_Rd_line_208 {w0 : Option zV} {w1 : Option zV} {w2 : Option zV} (p_1 : zX c k_Rd_line 252 [w0, w1, w2] [] (n, K, mr, mi) Q) : zX c k_Rd_line 208 [w0, w1, w2] [] (n, K, mr, mi) Q := 
  zX.n rfl p_1
theorem s_Rd_line_211 {a0 : Nat} {w1 : Option zV} {w2 : Option zV} (h_1 : K a0 = (3, 10)) (k_2 : zCall c k_Rd_line 212 215 [some (zR a0), w1, w2] [] 0 k_Rd_personLine [zR a0] (n, K, mr, mi) Q) : zX c k_Rd_line 211 [some (zR a0), w1, w2] [] (n, K, mr, mi) Q := 
  zX.n rfl (zX.callQ rfl (congrArg Prod.fst h_1) trivial k_2)
theorem s_Rd_line_215 {w0 : Option zV} {w1 : Option zV} {w2 : Option zV} (p_1 : zX c k_Rd_line 252 [w0, w1, w2] [] (n, K, mr, mi) Q) : zX c k_Rd_line 215 [w0, w1, w2] [] (n, K, mr, mi) Q := 
  zX.n rfl p_1
theorem s_Rd_line_218 {a0 : Nat} {w1 : Option zV} {w2 : Option zV} (h_1 : K a0 = (3, 10)) (k_2 : zCall c k_Rd_line 219 222 [some (zR a0), w1, w2] [] 0 k_Rd_stay [zR a0] (n, K, mr, mi) Q) : zX c k_Rd_line 218 [some (zR a0), w1, w2] [] (n, K, mr, mi) Q := 
  zX.n rfl (zX.callQ rfl (congrArg Prod.fst h_1) trivial k_2)
theorem s_Rd_line_222 {w0 : Option zV} {w1 : Option zV} {w2 : Option zV} (p_1 : zX c k_Rd_line 252 [w0, w1, w2] [] (n, K, mr, mi) Q) : zX c k_Rd_line 222 [w0, w1, w2] [] (n, K, mr, mi) Q := 
  zX.n rfl p_1
theorem s_Rd_line_225 {a0 : Nat} {w1 : Option zV} {w2 : Option zV} (h_1 : K a0 = (3, 10)) (k_2 : zCall c k_Rd_line 226 229 [some (zR a0), w1, w2] [] 0 k_Rd_moves [zR a0] (n, K, mr, mi) Q) : zX c k_Rd_line 225 [some (zR a0), w1, w2] [] (n, K, mr, mi) Q := 
  zX.n rfl (zX.callQ rfl (congrArg Prod.fst h_1) trivial k_2)
theorem s_Rd_line_229 {w0 : Option zV} {w1 : Option zV} {w2 : Option zV} (p_1 : zX c k_Rd_line 252 [w0, w1, w2] [] (n, K, mr, mi) Q) : zX c k_Rd_line 229 [w0, w1, w2] [] (n, K, mr, mi) Q := 
  zX.n rfl p_1
theorem s_Rd_line_232 {a0 : Nat} {w1 : Option zV} {w2 : Option zV} (h_1 : K a0 = (3, 10)) (k_2 : zCall c k_Rd_line 233 236 [some (zR a0), w1, w2] [] 0 k_Rd_seen [zR a0] (n, K, mr, mi) Q) : zX c k_Rd_line 232 [some (zR a0), w1, w2] [] (n, K, mr, mi) Q := 
  zX.n rfl (zX.callQ rfl (congrArg Prod.fst h_1) trivial k_2)
theorem s_Rd_line_236 {w0 : Option zV} {w1 : Option zV} {w2 : Option zV} (p_1 : zX c k_Rd_line 252 [w0, w1, w2] [] (n, K, mr, mi) Q) : zX c k_Rd_line 236 [w0, w1, w2] [] (n, K, mr, mi) Q := 
  zX.n rfl p_1
theorem s_Rd_line_239 {a0 : Nat} {w1 : Option zV} {w2 : Option zV} (h_1 : K a0 = (3, 10)) (k_2 : zCall c k_Rd_line 240 243 [some (zR a0), w1, w2] [] 0 k_Rd_says [zR a0] (n, K, mr, mi) Q) : zX c k_Rd_line 239 [some (zR a0), w1, w2] [] (n, K, mr, mi) Q := 
  zX.n rfl (zX.callQ rfl (congrArg Prod.fst h_1) trivial k_2)
theorem s_Rd_line_243 {w0 : Option zV} {w1 : Option zV} {w2 : Option zV} (p_1 : zX c k_Rd_line 252 [w0, w1, w2] [] (n, K, mr, mi) Q) : zX c k_Rd_line 243 [w0, w1, w2] [] (n, K, mr, mi) Q := 
  zX.n rfl p_1
theorem s_Rd_line_246 {a0 : Nat} {w1 : Option zV} {w2 : Option zV} (h_1 : K a0 = (3, 10)) (k_2 : zCall c k_Rd_line 248 251 [some (zR a0), w1, w2] [] 0 k_Rd_fail [zR a0, zI 1] (n, K, mr, mi) Q) : zX c k_Rd_line 246 [some (zR a0), w1, w2] [] (n, K, mr, mi) Q := 
  zX.n rfl (zX.n rfl (zX.callQ rfl (congrArg Prod.fst h_1) trivial k_2))
theorem s_Rd_line_251 {w0 : Option zV} {w1 : Option zV} {w2 : Option zV} {sa0 : Nat} (p_1 : Q (.inr sa0) (n, K, mr, mi)) (h_2 : (K sa0).1 = 4) (h_3 : 64 ≤ sa0) : zX c k_Rd_line 251 [w0, w1, w2] [zR sa0] (n, K, mr, mi) Q := 
  zX.thr rfl ⟨⟨h_3, fun e9 => absurd (h_2.symm.trans e9) (by decide)⟩, Nat.lt_of_le_of_lt (Nat.le_of_eq h_2) (by decide)⟩ rfl p_1
theorem s_Rd_line_252 {w0 : Option zV} {w1 : Option zV} {w2 : Option zV} (p_1 : Q (.inl none) (n, K, mr, mi)) : zX c k_Rd_line 252 [w0, w1, w2] [] (n, K, mr, mi) Q := 
  zX.ret rfl trivial p_1
theorem s_Rd_read_0 {a0 : Nat} {x1 : Int} (h_1 : K a0 = (3, 10)) (h_2 : 64 ≤ a0) (h_3 : 64 ≤ n) (h_4 : ((zup K n (18, 12)) n).1 ≠ 0) (k_5 : zCall c k_Rd_read 15 18 [some (zR a0), some (zI x1)] [zR n, zR a0] 0 k_G_init [zR n] (n + 1, zup K n (18, 12), zup mr n (fun _ => 0), zup (zst (zst mi a0 3 x1) a0 4 0) n (fun _ => 0)) Q) : zX c k_Rd_read 0 [some (zR a0), some (zI x1)] [] (n, K, mr, mi) Q := 
  zX.n rfl (zX.n rfl (zX.g rfl ⟨h_2, h_1⟩ (zX.n rfl (zX.n rfl (zX.g rfl ⟨h_2, h_1⟩ (zX.n rfl (zX.n rfl (zX.n rfl (zX.callQ rfl ⟨h_3, h_4⟩ trivial k_5)))))))))
theorem s_Rd_read_18 {a0 : Nat} {w1 : Option zV} {sa0 : Nat} {sa1 : Nat} (h_1 : K sa0 = (3, 10)) (h_2 : 64 ≤ sa0) (h_3 : K a0 = (3, 10)) (k_4 : zCall c k_Rd_read 22 25 [some (zR a0), w1] [] 0 k_Rd_next [zR a0] (n, K, zst mr sa0 9 sa1, mi) Q) : zX c k_Rd_read 18 [some (zR a0), w1] [zR sa1, zR sa0] (n, K, mr, mi) Q := 
  zX.g rfl ⟨h_2, h_1⟩ (zX.n rfl (zX.callQ rfl (congrArg Prod.fst h_3) trivial k_4))
theorem s_Rd_read_25 {a0 : Nat} {w1 : Option zV} (h_1 : K a0 = (3, 10)) (k_2 : zCall c k_Rd_read 26 29 [some (zR a0), w1] [] 0 k_Rd_line [zR a0] (n, K, mr, mi) Q) : zX c k_Rd_read 25 [some (zR a0), w1] [] (n, K, mr, mi) Q := 
  zX.n rfl (zX.callQ rfl (congrArg Prod.fst h_1) trivial k_2)
theorem s_Rd_read_29 {a0 : Nat} {w1 : Option zV} (h_1 : K a0 = (3, 10)) (p_2 : ¬ (mi a0 5) = (59 : Int) → zX c k_Rd_read 49 [some (zR a0), w1] [] (n, K, mr, mi) Q) (p_3 : (mi a0 5) = (59 : Int) → zX c k_Rd_read 38 [some (zR a0), w1] [] (n, K, mr, mi) Q) : zX c k_Rd_read 29 [some (zR a0), w1] [] (n, K, mr, mi) Q := 
  zX.n rfl (zX.g rfl h_1 (zX.n rfl (zX.n rfl (zX.itn p_2 p_3))))
theorem s_Rd_read_38 {a0 : Nat} {w1 : Option zV} (h_1 : K a0 = (3, 10)) (k_2 : zCall c k_Rd_read 39 42 [some (zR a0), w1] [] 0 k_Rd_next [zR a0] (n, K, mr, mi) Q) : zX c k_Rd_read 38 [some (zR a0), w1] [] (n, K, mr, mi) Q := 
  zX.n rfl (zX.callQ rfl (congrArg Prod.fst h_1) trivial k_2)
theorem s_Rd_read_42 {a0 : Nat} {w1 : Option zV} (h_1 : K a0 = (3, 10)) (k_2 : zCall c k_Rd_read 43 46 [some (zR a0), w1] [] 0 k_Rd_line [zR a0] (n, K, mr, mi) Q) : zX c k_Rd_read 42 [some (zR a0), w1] [] (n, K, mr, mi) Q := 
  zX.n rfl (zX.callQ rfl (congrArg Prod.fst h_1) trivial k_2)
theorem s_Rd_read_46 {a0 : Nat} {w1 : Option zV} (p_1 : zX c k_Rd_read 29 [some (zR a0), w1] [] (n, K, mr, mi) Q) : zX c k_Rd_read 46 [some (zR a0), w1] [] (n, K, mr, mi) Q := 
  zX.n rfl p_1
theorem s_Rd_read_49 {a0 : Nat} {w1 : Option zV} (h_1 : K a0 = (3, 10)) (p_2 : (mi a0 5) = 0 → zX c k_Rd_read 62 [some (zR a0), w1] [] (n, K, mr, mi) Q) (p_3 : ¬ (mi a0 5) = 0 → zX c k_Rd_read 56 [some (zR a0), w1] [] (n, K, mr, mi) Q) : zX c k_Rd_read 49 [some (zR a0), w1] [] (n, K, mr, mi) Q := 
  zX.n rfl (zX.g rfl h_1 (zX.n rfl (zX.ite p_2 p_3)))
theorem s_Rd_read_56 {a0 : Nat} {w1 : Option zV} (h_1 : K a0 = (3, 10)) (k_2 : zCall c k_Rd_read 58 61 [some (zR a0), w1] [] 0 k_Rd_fail [zR a0, zI 1] (n, K, mr, mi) Q) : zX c k_Rd_read 56 [some (zR a0), w1] [] (n, K, mr, mi) Q := 
  zX.n rfl (zX.n rfl (zX.callQ rfl (congrArg Prod.fst h_1) trivial k_2))
theorem s_Rd_read_61 {w0 : Option zV} {w1 : Option zV} {sa0 : Nat} (p_1 : Q (.inr sa0) (n, K, mr, mi)) (h_2 : (K sa0).1 = 4) (h_3 : 64 ≤ sa0) : zX c k_Rd_read 61 [w0, w1] [zR sa0] (n, K, mr, mi) Q := 
  zX.thr rfl ⟨⟨h_3, fun e9 => absurd (h_2.symm.trans e9) (by decide)⟩, Nat.lt_of_le_of_lt (Nat.le_of_eq h_2) (by decide)⟩ rfl p_1
theorem s_Rd_read_62 {a0 : Nat} {w1 : Option zV} {A2 : Nat} (h_1 : K a0 = (3, 10)) (h_3 : mr a0 9 = A2) (h_4 : K A2 = (18, 12)) (p_5 : (mi A2 4) = 0 → zX c k_Rd_read 82 [some (zR a0), w1] [] (n, K, mr, mi) Q) (p_6 : ¬ (mi A2 4) = 0 → zX c k_Rd_read 72 [some (zR a0), w1] [] (n, K, mr, mi) Q) : zX c k_Rd_read 62 [some (zR a0), w1] [] (n, K, mr, mi) Q := by
  subst h_3
  exact zX.n rfl (zX.g rfl h_1 (zX.g rfl h_4 (zX.n rfl (zX.ite p_5 p_6))))
theorem s_Rd_read_72 {a0 : Nat} {w1 : Option zV} {A2 : Nat} (h_1 : K a0 = (3, 10)) (h_3 : mr a0 9 = A2) (h_4 : K A2 = (18, 12)) (p_5 : ¬ (mi A2 8) = 0 → zX c k_Rd_read 89 [some (zR a0), w1] [] (n, K, mr, mi) Q) (p_6 : (mi A2 8) = 0 → zX c k_Rd_read 82 [some (zR a0), w1] [] (n, K, mr, mi) Q) : zX c k_Rd_read 72 [some (zR a0), w1] [] (n, K, mr, mi) Q := by
  subst h_3
  exact zX.n rfl (zX.g rfl h_1 (zX.g rfl h_4 (zX.n rfl (zX.itn p_5 p_6))))
theorem s_Rd_read_82 {a0 : Nat} {w1 : Option zV} (h_1 : K a0 = (3, 10)) (k_2 : zCall c k_Rd_read 85 88 [some (zR a0), w1] [] 0 k_Rd_fail [zR a0, zI 6] (n, K, mr, mi) Q) : zX c k_Rd_read 82 [some (zR a0), w1] [] (n, K, mr, mi) Q := 
  zX.n rfl (zX.n rfl (zX.callQ rfl (congrArg Prod.fst h_1) trivial k_2))
theorem s_Rd_read_88 {w0 : Option zV} {w1 : Option zV} {sa0 : Nat} (p_1 : Q (.inr sa0) (n, K, mr, mi)) (h_2 : (K sa0).1 = 4) (h_3 : 64 ≤ sa0) : zX c k_Rd_read 88 [w0, w1] [zR sa0] (n, K, mr, mi) Q := 
  zX.thr rfl ⟨⟨h_3, fun e9 => absurd (h_2.symm.trans e9) (by decide)⟩, Nat.lt_of_le_of_lt (Nat.le_of_eq h_2) (by decide)⟩ rfl p_1
theorem s_Rd_read_89 {a0 : Nat} {w1 : Option zV} {A2 : Nat} (h_1 : K a0 = (3, 10)) (h_3 : mr a0 9 = A2) (p_4 : Q (.inl (some (zR A2))) (n, K, mr, mi)) : zX c k_Rd_read 89 [some (zR a0), w1] [] (n, K, mr, mi) Q := by
  subst h_3
  exact zX.n rfl (zX.g rfl h_1 (zX.ret rfl trivial p_4))
theorem s_Law_led_0 {a0 : Nat} {x1 : Int} {a2 : Nat} {w3 : Option zV} (h_1 : K a0 = (2, 21)) (k_2 : zCall c k_Law_led 4 7 [some (zR a0), some (zI x1), some (zR a2), w3] [zI 0, zR a2] 0 k_B_led [zR a0, zI x1] (n, K, mr, mi) Q) : zX c k_Law_led 0 [some (zR a0), some (zI x1), some (zR a2), w3] [] (n, K, mr, mi) Q := 
  zX.n rfl (zX.n rfl (zX.n rfl (zX.n rfl (zX.callQ rfl (congrArg Prod.fst h_1) trivial k_2))))
theorem s_Law_led_7 {w0 : Option zV} {w1 : Option zV} {w2 : Option zV} {w3 : Option zV} {sa0 : Nat} {sx1 : Int} {sx2 : Int} {N1 : Nat} {j5 : Nat} (h_2 : K sa0 = (104, N1)) (h_3 : 0 ≤ sx1) (h_4 : sx1 < (N1 : Int)) (h_6 : Int.toNat sx1 = j5) (h_7 : 64 ≤ sa0) (p_8 : Q (.inl (some (zI 0))) (n, K, mr, zst mi sa0 j5 sx2)) : zX c k_Law_led 7 [w0, w1, w2, w3] [zI sx2, zI sx1, zR sa0] (n, K, mr, mi) Q := by
  subst h_6
  exact zX.n rfl (zX.g rfl ⟨N1, h_7, h_2, h_3, h_4⟩ (zX.n rfl (zX.n rfl (zX.ret rfl trivial p_8))))
theorem s_Law_led_12 {w0 : Option zV} {w1 : Option zV} {w2 : Option zV} {w3 : Option zV} {sa0 : Nat} (p_1 : Q (.inl (some (zI 1))) (n, K, mr, mi)) : zX c k_Law_led 12 [w0, w1, w2, w3] [zR sa0] (n, K, mr, mi) Q := 
  zX.n rfl (zX.n rfl (zX.ret rfl trivial p_1))
