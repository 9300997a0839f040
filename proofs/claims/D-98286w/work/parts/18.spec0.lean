/-! SPECS 0: numbers; small methods -/
theorem zw_in {x : Int} (h1 : -2147483648 ≤ x) (h2 : x < 2147483648) : zw x = x := by
  unfold zw
  rw [Int.bmod_def]
  split <;> omega
section SP0
variable {n : Nat} {K : Nat → Nat × Nat} {mr : Nat → Nat → Nat} {mi : Nat → Nat → Int} {c : Nat}
theorem e_B_in (v lo hi : Int) : zE c k_B_in [zI v, zI lo, zI hi] (n, K, mr, mi) (.inl (some (zI (if lo ≤ v ∧ v ≤ hi then 1 else 0)))) (n, K, mr, mi) := by
  show zX c k_B_in 0 [some (zI v), some (zI lo), some (zI hi)] [] (n, K, mr, mi) _
  refine s_B_in_0 ?_ ?_
  · intro c1
    refine s_B_in_14 ?_
    refine s_B_in_15 (by first | assumption | omega) ?_
    exact ⟨by simp only [Sum.inl.injEq, Option.some.injEq]; split <;> omega, rfl⟩
  · intro c2
    refine s_B_in_5 ?_ ?_
    · intro c3
      refine s_B_in_14 ?_
      refine s_B_in_15 (by first | assumption | omega) ?_
      exact ⟨by simp only [Sum.inl.injEq, Option.some.injEq]; split <;> omega, rfl⟩
    · intro c4
      refine s_B_in_10 ?_
      refine s_B_in_15 (by first | assumption | omega) ?_
      exact ⟨by simp only [Sum.inl.injEq, Option.some.injEq]; split <;> omega, rfl⟩
theorem e_B_isPlace {x g : Nat} {p : Int} (h1 : K x = (2, 21)) (h2 : mr x 3 = g) (h3 : g = 0 ∨ K g = (18, 12)) (h4 : -2147483648 ≤ mi g 5 - 1) (h5 : mi g 5 < 2147483648) : zE c k_B_isPlace [zR x, zI p] (n, K, mr, mi) (.inl (some (zI (if g ≠ 0 ∧ 0 ≤ p ∧ p < mi g 5 then 1 else 0)))) (n, K, mr, mi) := by
  show zX c k_B_isPlace 0 [some (zR x), some (zI p)] [] (n, K, mr, mi) _
  have h6 : zw (mi g 5 - 1) = mi g 5 - 1 := zw_in (by omega) (by omega)
  have h7 : g = 0 ∨ (K g).1 ≠ 0 := h3.imp id (fun h => by rw [h]; decide)
  refine s_B_isPlace_0 (by first | assumption | omega) (by first | assumption | omega) (by first | assumption | omega) ?_ ?_
  · intro c1
    refine s_B_isPlace_28 ?_
    refine s_B_isPlace_29 (by first | assumption | omega) ?_
    exact ⟨by simp only [Sum.inl.injEq, Option.some.injEq]; simp_all; try omega, rfl⟩
  · intro c2
    refine s_B_isPlace_7 (by first | assumption | omega) (by first | assumption | omega) (h3.resolve_left (by assumption)) ?_
    refine zCall.v (e_B_in _ _ _) ?_
    refine s_B_isPlace_21 ?_ ?_
    · intro c3
      refine s_B_isPlace_28 ?_
      refine s_B_isPlace_29 (by first | assumption | omega) ?_
      exact ⟨by simp only [Sum.inl.injEq, Option.some.injEq]; simp_all; try omega, rfl⟩
    · intro c4
      refine s_B_isPlace_24 ?_
      refine s_B_isPlace_29 (by first | assumption | omega) ?_
      exact ⟨by simp only [Sum.inl.injEq, Option.some.injEq]; simp_all; try omega, rfl⟩
end SP0
