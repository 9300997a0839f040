/-! SOUNDNESS 16: the law's run, of the abstract machine's -/
def zh0 (L : Nat) (xs : Nat → Int32) : zH := (64, zK0 L, zr0, zi0 xs)
theorem zsl_le (i : Nat) : zsl i ≤ 7 := by
  have h : ∀ i, i < 26 → zsl i ≤ 7 := by decide +kernel
  rcases Nat.lt_or_ge i 26 with h1 | h1
  · exact h i h1
  · unfold zsl
    rw [List.getD_eq_getElem?_getD, List.getElem?_eq_none h1]
    exact Nat.zero_le _
theorem zsb_in (i j : Nat) : 0 ≤ zsb i j ∧ zsb i j ≤ 127 := by
  have h : ∀ l ∈ zsbs, ∀ x ∈ l, (0 : Int) ≤ x ∧ x ≤ 127 := by decide +kernel
  unfold zsb
  rw [List.getD_eq_getElem?_getD]
  cases e : (zsbs.getD i [])[j]? with
  | none => exact ⟨Int.le_refl _, by decide⟩
  | some x =>
    rw [List.getD_eq_getElem?_getD] at e
    cases e2 : zsbs[i]? with
    | none => rw [e2] at e; cases e
    | some l =>
      rw [e2] at e
      exact h l (List.mem_of_getElem? e2) x (List.mem_of_getElem? e)
theorem zi0_in (xs : Nat → Int32) (a j : Nat) : zC32 (zi0 xs a j) := by
  unfold zi0
  split
  · exact zi_c (xs j)
  · split
    · have := zsb_in ((a - 3) / 2) j
      exact (show (-2147483648 : Int) ≤ zsb ((a - 3) / 2) j ∧ zsb ((a - 3) / 2) j < 2147483648 from ⟨by omega, by omega⟩)
    · exact (show (-2147483648 : Int) ≤ 0 ∧ (0 : Int) < 2147483648 by decide)
theorem zinv0 {α : zAd} (h0 : α 0 = none) {L : Nat} (hL : L ≤ 384) (xs : Nat → Int32) : zInv α (zh0 L xs) := by
  refine ⟨Nat.le_refl _, h0, fun a ha => ?_, rfl, fun a ha hb => ?_, fun a ha => ?_, fun a j => ?_, fun a j => ⟨fun _ _ => zi0_in xs a j, fun _ _ => zi0_in xs a j⟩, fun a j => ?_⟩
  · have ha' : 64 ≤ a := ha
    show (zK0 L a).1 = 0
    unfold zK0
    rw [if_neg (by omega), if_neg (by omega)]
  · have ha' : (zK0 L a).1 ≠ 0 := ha
    have hb' : (zK0 L a).1 < 100 := hb
    show ∃ q, zcl[(zK0 L a).1]? = some q ∧ (zK0 L a).2 = q.2.2
    unfold zK0 at ha' hb' ⊢
    by_cases h1 : a = 1
    · rw [if_pos h1] at hb'; exact absurd (show 100 < 100 from hb') (by decide)
    · rw [if_neg h1] at ha' hb' ⊢
      by_cases h2 : 2 ≤ a ∧ a < 54
      · rw [if_pos h2] at ha' hb' ⊢
        by_cases h3 : a % 2 = 0
        · rw [if_pos h3]; exact ⟨_, rfl, rfl⟩
        · rw [if_neg h3] at hb'; exact absurd hb' (by simp)
      · rw [if_neg h2] at ha'; exact absurd rfl ha'
  · have ha' : 100 ≤ (zK0 L a).1 := ha
    show (zK0 L a).1 < 113 ∧ (zK0 L a).2 ≤ 1000000
    unfold zK0 at ha' ⊢
    by_cases h1 : a = 1
    · rw [if_pos h1]; exact (show 100 < 113 ∧ L ≤ 1000000 from ⟨by decide, by omega⟩)
    · rw [if_neg h1] at ha' ⊢
      by_cases h2 : 2 ≤ a ∧ a < 54
      · rw [if_pos h2] at ha' ⊢
        by_cases h3 : a % 2 = 0
        · rw [if_pos h3] at ha'; exact absurd ha' (by decide)
        · rw [if_neg h3]
          have := zsl_le ((a - 3) / 2)
          exact (show 101 < 113 ∧ zsl ((a - 3) / 2) ≤ 1000000 from ⟨by decide, by omega⟩)
      · rw [if_neg h2] at ha'; exact absurd ha' (by decide)
  · have := zi0_in xs a j
    exact ⟨by have := this.1; show -9223372036854775808 ≤ zi0 xs a j; omega, by have := this.2; show zi0 xs a j < 9223372036854775808; omega⟩
  · show zr0 a j < 64
    unfold zr0
    by_cases h1 : (2 ≤ a ∧ a < 54) ∧ a % 2 = 0
    · rw [if_pos h1]
      show (if j = 0 then a + 1 else 0) < 64
      split <;> omega
    · rw [if_neg h1]
      exact (show 0 < 64 by decide)
/-- where the constants lie -/
def zal (b : Nat) (ad : Nat → Nat × Nat) (r1 r2 r3 : Option Nat) : zAd := fun a => if a = 1 then some b else if 2 ≤ a ∧ a < 54 then (if a % 2 = 0 then some (ad ((a - 2) / 2)).1 else some (ad ((a - 3) / 2)).2) else if a = 61 then r1 else if a = 62 then r2 else if a = 63 then r3 else none
theorem zctx0 {p : Program} {s : State} {m : MethodId} {meth : Method} {c : Code} {b L : Nat} {xs : Nat → Int32} (C0 : lw_At p s m meth c b L xs) : ∃ (D : va_G) (dA : Nat → ClassId) (α : zAd), α 0 = none ∧ α 1 = some b ∧ zCtx s.heap.size D dA α L xs s s.heap := by
  obtain ⟨-, -, -, -, -, ht, hX, hb, -, hg⟩ := C0
  have hs : ∀ w ∈ zfl, w.before #[Value.ref b] s = true := flat_of_before _ hg
  have hA : ∀ a : Nat, a < s.heap.size → ¬ zA s.heap.size a := fun a ha h => Nat.lt_irrefl _ (Nat.lt_of_lt_of_le ha h)
  have hall : ∀ w ∈ lw_all, w.before #[Value.ref b] s = true := fun w hw => ht w (lw_all_tbl hw)
  have hD : ∀ k : Nat, ∃ x : ClassId × (Nat → Nat), ∀ q : vw_C, zcl[k]? = some q → u_Kn s q.1 q.2.1 q.2.2 x.1 x.2 := by
    intro k
    cases hk : zcl[k]? with
    | none => exact ⟨(default, fun _ => 0), fun q h => by cases h⟩
    | some q =>
      obtain ⟨h1, -, -, ⟨n, h4⟩, -⟩ := zcl_ok q (List.mem_of_getElem? hk)
      obtain ⟨cC, iS, h⟩ := u_known hall h1 (hall _ h4)
      exact ⟨(cC, iS), fun q9 h9 => by cases h9; exact h⟩
  obtain ⟨fD, hfD⟩ := Classical.axiomOfChoice hD
  obtain ⟨dA, hdA⟩ := Classical.axiomOfChoice (zarrs (s := s) ht)
  obtain ⟨ad, had⟩ := Classical.axiomOfChoice (zst_all (s := s) hs ht hA)
  obtain ⟨r1, r2, r3, g1, g2, g3, g4, g5, g6⟩ := zstats (s := s) hs ht hA
  refine ⟨(fun k => (fD k).1, fun k => (fD k).2), dA, zal b ad r1 r2 r3, rfl, rfl, ⟨fun k q hq => hfD k q hq, fun k q hq => ?_⟩, fun w hw => ?_, zaos ht, fun i hi => ?_, fun x hx => ?_, ⟨g1, g2, g3, g4, g5, g6⟩, b, rfl, hA b hb, hb, hX⟩
  · unfold ztys at hq
    rw [List.getElem?_map] at hq
    cases hr : (List.range 13)[k]? with
    | none => rw [hr] at hq; cases hq
    | some t =>
      rw [hr] at hq
      cases hq
      have := List.mem_of_getElem? hr
      exact hdA t (List.mem_range.mp this)
  · have h1 := ht w (znw_tbl w hw)
    rcases znw_k w hw with ⟨a, i, x, g, rfl⟩ | ⟨a, i, b, n, d, g, rfl⟩ | ⟨a, b, rfl⟩ | ⟨x, rfl⟩
    · exact va_tabs rfl rfl h1
    · exact va_tabs rfl rfl h1
    · exact va_tabs rfl rfl h1
    · exact va_tabs rfl rfl h1
  · refine ⟨(ad i).1, (ad i).2, ?_, ?_, ((had i hi).1)⟩
    · show (if 2 + 2 * i = 1 then some b else if 2 ≤ 2 + 2 * i ∧ 2 + 2 * i < 54 then (if (2 + 2 * i) % 2 = 0 then some (ad ((2 + 2 * i - 2) / 2)).1 else some (ad ((2 + 2 * i - 3) / 2)).2) else _) = _
      rw [if_neg (by omega), if_pos (by omega), if_pos (by omega), show (2 + 2 * i - 2) / 2 = i by omega]
    · show (if 3 + 2 * i = 1 then some b else if 2 ≤ 3 + 2 * i ∧ 3 + 2 * i < 54 then (if (3 + 2 * i) % 2 = 0 then some (ad ((3 + 2 * i - 2) / 2)).1 else some (ad ((3 + 2 * i - 3) / 2)).2) else _) = _
      rw [if_neg (by omega), if_pos (by omega), if_neg (by omega), show (3 + 2 * i - 3) / 2 = i by omega]
  · have hi := zstrs_lt x hx
    refine ⟨(ad x.2.2.2).1, ?_, (had _ hi).2 x hx rfl⟩
    show (if 2 + 2 * x.2.2.2 = 1 then some b else if 2 ≤ 2 + 2 * x.2.2.2 ∧ 2 + 2 * x.2.2.2 < 54 then (if (2 + 2 * x.2.2.2) % 2 = 0 then some (ad ((2 + 2 * x.2.2.2 - 2) / 2)).1 else some (ad ((2 + 2 * x.2.2.2 - 3) / 2)).2) else _) = _
    rw [if_neg (by omega), if_pos (by omega), if_pos (by omega), show (2 + 2 * x.2.2.2 - 2) / 2 = x.2.2.2 by omega]
theorem zforget {s t : State} {o : Outcome} {L : List Loc} {k n k' n' : Nat} (h : FrameEnd s o t L k n) (hL : ∀ q ∈ L, s.heap.size ≤ q.base) (hk : k ≤ k') (hn : n ≤ n') : Framed s o t [] k' n' := by
  obtain ⟨h1, h2, e2, q2, q3, q4, q5, q6⟩ := h
  refine ⟨h1, h2, e2, q2, Nat.le_trans q3 (Nat.add_le_add_left hk _), q4, Nat.le_trans q5 hn, fun a c hc => ?_⟩
  obtain ⟨c', f1, f2, f3, f4⟩ := q6 a c hc
  refine ⟨c', f1, f2, f3, fun i _ => f4 i (fun hm => ?_)⟩
  have h9 := hL _ hm
  have h8 : a < s.heap.size := (Array.getElem?_eq_some_iff.mp hc).1
  exact absurd h8 (Nat.not_lt.mpr h9)
/-- the law's body, out of its run by the abstract machine -/
theorem zwhole {p : Program} {e : Env} {s : State} {m : MethodId} {below : List Frame} {meth : Method} {c : Code} (l : Launch) (hflags : l.flags = flags0) {b L : Nat} {xs : Nat → Int32} (hL : L ≤ 384) (C0 : lw_At p s m meth c b L xs)
    (hrun : ∃ h', zE 0 k_L_law [zR 1] (zh0 L xs) (.inl (some (zI 1))) h' ∧ h'.1 ≤ 80000) : W p l e room_1 s m #[Value.ref b] below meth c s.heap [] 0 0 (lw_Z below #[Value.ref b] s) (entryFrame m ([Value.ref b] : List Value).toArray 7) := by
  obtain ⟨h', ⟨n, hn⟩, hle⟩ := hrun
  obtain ⟨D, dA, α, hα0, hα1, hX⟩ := zctx0 C0
  obtain ⟨c1, c2, c3, c4, c5, ht, c7, c8, c9, -⟩ := C0
  have hl : l.stackTraces = false := by
    unfold Launch.stackTraces
    rw [hflags]
    decide +kernel
  have hall : ∀ w ∈ lw_all, w.before #[Value.ref b] s = true := fun w hw => ht w (lw_all_tbl hw)
  have B : zFr p l room_1 s.heap.size D dA α L xs s m #[Value.ref b] meth c k_L_law := ⟨c1, c2, c3, c9, c4, c5, hall, fun h => absurd h (by decide +kernel), hl, hX, Nat.le_refl _, by decide, by decide⟩
  have hargs : (([zR 1] : List zV).map (zcv α)) = [Value.ref b] := by
    show [va_rf (α 1)] = _
    rw [hα1]
    rfl
  obtain ⟨ls, e1, e2⟩ := zent_lc (α := α) (M := k_L_law) (as := [zR 1]) (by decide +kernel) m
  rw [hargs] at e1
  have hrel : zRel s.heap.size D dA α (zh0 L xs) s.heap := by
    have hno : ∀ a, ¬ zown (zh0 L xs) a := fun a ha => by
      have h1 : 64 ≤ a := ha.1
      have h2 : (zK0 L a).1 ≠ 0 := ha.2
      unfold zK0 at h2
      rw [if_neg (by omega), if_neg (by omega)] at h2
      exact h2 rfl
    exact ⟨zinv0 hα0 hL xs, fun a ha => absurd ha (hno a), fun a b ha => absurd ha (hno a)⟩
  have S : zSt s.heap.size D dA L xs k_L_law s α (zh0 L xs) s.heap [] ls (zent k_L_law [zR 1]) [] :=
    ⟨hrel, va_S.rf, fun a _ => ⟨rfl, rfl, rfl⟩, e2, fun v hv => absurd hv List.not_mem_nil, fun k v hk => by
      have := zlay_mem _ _ _ (zpad_at _ _ _ _ hk)
      cases List.mem_singleton.mp this
      show 1 < 64
      decide⟩
  have key := zP_all zTab_ok hl n 0 k_L_law 0 _ [] (zh0 L xs) _ h' hn p e room_1 s m #[Value.ref b] below meth c α (zh0 L xs) α s.heap [] 0 0 ls 1200128 5501098 B S (Nat.le_refl _) (Nat.le_refl _) (fun _ _ => rfl)
    (fun h => by rcases h with h | ⟨a, h⟩
                 · exact absurd rfl h
                 · cases h) (by decide +kernel) (by decide +kernel) (Nat.le_refl _) (Nat.le_refl _)
    (by show 0 + (h'.1 - 64) ≤ 1200128; omega) (by show 0 + 64 * (h'.1 - 64) ≤ 5501098; omega)
  rw [show entryFrame m ([Value.ref b] : List Value).toArray 7 = F0 m 0 ls [] from e1]
  intro T hT X
  obtain ⟨t, a1, o, a2, a3, a4⟩ := key T hT X
  refine ⟨t, a1, o, a2, a3, ?_⟩
  rcases a4 with ⟨⟨α', -, ho, -⟩, L9, hF, hfree⟩ | ⟨q, -, E, ce, L9, hx, -⟩
  · exact ⟨ho, zforget hF hfree (Nat.le_refl _) (Nat.le_refl _)⟩
  · exact hx.elim
