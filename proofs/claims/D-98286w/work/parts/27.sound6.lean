/-! SOUNDNESS 6: reading and writing arrays, casts, tests, copies; -/
section ZARR
variable {p : Program} {l : Launch} {e : Env} {R : Room} {s : State} {m : MethodId} {args : Array Value} {below : List Frame} {meth : Method} {c : Code} {QQ : State → Prop} {b0 : Nat} {D : va_G} {dA : Nat → ClassId} {L : Nat} {xs : Nat → Int32} {M : Nat} {α : zAd} {h : zH} {H : Heap} {locs : List Loc} {cells slots : Nat} {ls : Array Slot} {labs : List (Option zV)} {pc : Nat} {t : List zV}
theorem zb100 (k : Nat) : Nat.ble 100 (100 + k) = true := Nat.ble_eq_true_of_le (by omega)
theorem zSt.i7 {st : List zV} (S : zSt b0 D dA L xs M s α h H locs ls labs st) (a j : Nat) : zC64 (h.2.2.2 a j) := S.1.1.2.2.2.2.2.2.1 a j
theorem zSt.i8 {st : List zV} (S : zSt b0 D dA L xs M s α h H locs ls labs st) (a j : Nat) : zcan (h.2.1 a).1 j (h.2.2.2 a j) := S.1.1.2.2.2.2.2.2.2.1 a j
theorem zSt.i9 {st : List zV} (S : zSt b0 D dA L xs M s α h H locs ls labs st) (a j : Nat) : h.2.2.1 a j < h.1 := S.1.1.2.2.2.2.2.2.2.2 a j
theorem zSt.i6 {st : List zV} (S : zSt b0 D dA L xs M s α h H locs ls labs st) (a : Nat) (ha : 100 ≤ (h.2.1 a).1) : (h.2.1 a).1 < 113 ∧ (h.2.1 a).2 ≤ 1000000 := S.1.1.2.2.2.2.2.1 a ha
/-- a constant cell that is an array -/
theorem zcarr (B : zFr p l R b0 D dA α L xs s m args meth c M) {st : List zV} (S : zSt b0 D dA L xs M s α h H locs ls labs st) {a k N : Nat} (h64 : a < 64) (hK : h.2.1 a = (k, N)) (hk : 100 ≤ k) :
    (a = 1 ∧ k = 100 ∧ N = L ∧ ∃ b, α a = some b ∧ ¬ zA b0 b ∧ b < s.heap.size ∧ va_X b L xs s s.heap) ∨ (∃ i, i < 26 ∧ a = 3 + 2 * i ∧ k = 101 ∧ N = zsl i ∧ ∃ av, α a = some av ∧ va_T .byte av (zsl i) (fun j => .int (Int32.ofInt (zsb i j))) (zA b0) s s.heap) := by
  have z1 := (S.2.2.1 a h64).1
  rw [hK] at z1
  unfold zK0 at z1
  split at z1
  · next a1 =>
    cases z1
    obtain ⟨b, f1, f2, f3, f4⟩ := B.ctx.2.2.2.2.2.2
    exact Or.inl ⟨a1, rfl, rfl, b, by rw [a1]; exact f1, f2, f3, f4⟩
  · split at z1
    · split at z1
      · cases z1; omega
      · next a1 a2 a3 =>
        cases z1
        obtain ⟨ak, av, e1, e2, -, -, -, e6⟩ := B.ctx.2.2.2.1 ((a - 3) / 2) (by omega)
        exact Or.inr ⟨(a - 3) / 2, by omega, by omega, rfl, rfl, av, by rw [← e2]; congr 1; omega, e6⟩
    · cases z1; omega
theorem zo_alen (B : zFr p l R b0 D dA α L xs s m args meth c M) {a : Nat} (hk : 100 ≤ (h.2.1 a).1) (S : zSt b0 D dA L xs M s α h H locs ls labs (.inr (.inr a) :: t)) (hd : decode (zby M) pc = .ok (.arraylength, 1))
    (k : zKont p l e R s m args below meth c QQ b0 D dA L xs M α h cells slots (pc + 1) labs (.inl ((h.2.1 a).2 : Int) :: t) h) : W p l e R s m args below meth c H locs cells slots QQ (F0 m pc ls ((.inr (.inr a) :: t).map (zcv α))) := by
  obtain ⟨k6, l6⟩ := S.i6 a hk
  have kk := zK_st S k (zok_cons (show zC32 _ by unfold zC32; omega) S.tl.2.2.2.2.1)
  simp only [List.map_cons, zcv, zi_n] at kk
  show W p l e R s m args below meth c H locs cells slots QQ (F0 m pc ls (va_rf (α a) :: t.map (zcv α)))
  by_cases h64 : 64 ≤ a
  · obtain ⟨q, k0, hq, hk0⟩ := S.obj h64 (by omega)
    rw [zen_arr (k := (h.2.1 a).1) (N := (h.2.1 a).2) rfl hk] at hk0
    rw [hq]
    exact va_alen B.1 B.2.1 B.K (zws_P S.1) k0 ((h.2.1 a).1 - 100) hk0 (ztys_at (by omega)) rfl hd kk
  · rcases zcarr B S (by omega) (k := (h.2.1 a).1) (N := (h.2.1 a).2) rfl hk with ⟨-, -, e2, b, e3, e4, e5, e6⟩ | ⟨i, -, -, -, e2, av, e3, e4⟩
    · rw [e3]
      rw [e2] at kk
      exact va_slen B.1 B.2.1 e6 e5 e4 S.2.1 hd kk
    · rw [e3]
      rw [e2] at kk
      exact va_tlen B.1 B.2.1 e4 S.2.1 rfl hd kk
theorem zo_iald (B : zFr p l R b0 D dA α L xs s m args meth c M) {a N : Nat} {i : Int} (hK : h.2.1 a = (100, N)) (h0 : 0 ≤ i) (h1 : i < (N : Int)) (S : zSt b0 D dA L xs M s α h H locs ls labs (.inl i :: .inr (.inr a) :: t)) (hd : decode (zby M) pc = .ok (.iaload, 1))
    (k : zKont p l e R s m args below meth c QQ b0 D dA L xs M α h cells slots (pc + 1) labs (.inl (h.2.2.2 a i.toNat) :: t) h) : W p l e R s m args below meth c H locs cells slots QQ (F0 m pc ls ((.inl i :: .inr (.inr a) :: t).map (zcv α))) := by
  have hin := zi_in S.hd h0 h1
  have hcl := zi_clamp S.hd h0
  have hv : zVok h.1 (.inl (h.2.2.2 a i.toNat)) := by have q := (S.i8 a i.toNat).2; rw [hK] at q; exact q (by simp) (by simp)
  have kk := zK_st S k (zok_cons hv S.tl.tl.2.2.2.2.1)
  simp only [List.map_cons, zcv] at kk
  show W p l e R s m args below meth c H locs cells slots QQ (F0 m pc ls (.int (Int32.ofInt i) :: va_rf (α a) :: t.map (zcv α)))
  by_cases h64 : 64 ≤ a
  · obtain ⟨q, k0, hq, hk0⟩ := S.obj h64 (by rw [hK]; simp)
    rw [zen_arr hK (by decide)] at hk0
    rw [hq]
    refine va_iald B.1 B.2.1 B.K (zws_P S.1) k0 0 hk0 (ztys_at (by decide)) hin hd ?_
    rw [hcl]
    exact kk
  · rcases zcarr B S (by omega) hK (by decide) with ⟨a1, -, e2, b, e3, e4, e5, e6⟩ | ⟨i9, -, -, e1, -⟩
    · rw [e3]
      subst e2
      refine va_sld B.1 B.2.1 e6 e5 e4 S.2.1 hin hd ?_
      rw [hcl]
      rw [(S.2.2.1 a (by omega)).2.2, a1] at kk
      have e9 : zi0 xs 1 i.toNat = (xs i.toNat).toInt := rfl
      rw [e9, zi_of] at kk
      exact kk
    · cases e1
theorem zo_bald (B : zFr p l R b0 D dA α L xs s m args meth c M) {a N : Nat} {i : Int} (hK : h.2.1 a = (101, N)) (h0 : 0 ≤ i) (h1 : i < (N : Int)) (S : zSt b0 D dA L xs M s α h H locs ls labs (.inl i :: .inr (.inr a) :: t)) (hd : decode (zby M) pc = .ok (.baload, 1))
    (k : zKont p l e R s m args below meth c QQ b0 D dA L xs M α h cells slots (pc + 1) labs (.inl (h.2.2.2 a i.toNat) :: t) h) : W p l e R s m args below meth c H locs cells slots QQ (F0 m pc ls ((.inl i :: .inr (.inr a) :: t).map (zcv α))) := by
  have hin := zi_in S.hd h0 h1
  have hcl := zi_clamp S.hd h0
  have hv : zVok h.1 (.inl (h.2.2.2 a i.toNat)) := by have q := (S.i8 a i.toNat).2; rw [hK] at q; exact q (by simp) (by simp)
  have kk := zK_st S k (zok_cons hv S.tl.tl.2.2.2.2.1)
  simp only [List.map_cons, zcv] at kk
  show W p l e R s m args below meth c H locs cells slots QQ (F0 m pc ls (.int (Int32.ofInt i) :: va_rf (α a) :: t.map (zcv α)))
  by_cases h64 : 64 ≤ a
  · obtain ⟨q, k0, hq, hk0⟩ := S.obj h64 (by rw [hK]; simp)
    rw [zen_arr hK (by decide)] at hk0
    rw [hq]
    refine va_bald B.1 B.2.1 B.K (zws_P S.1) k0 1 hk0 (ztys_at (by decide)) hin hd ?_
    rw [hcl]
    exact kk
  · rcases zcarr B S (by omega) hK (by decide) with ⟨-, e1, -⟩ | ⟨i9, i8, a1, -, e2, av, e3, e4⟩
    · cases e1
    · rw [e3]
      subst e2
      refine va_tb B.1 B.2.1 e4 S.2.1 hin rfl hd ?_
      rw [hcl]
      rw [(S.2.2.1 a (by omega)).2.2] at kk
      have e9 : zi0 xs a i.toNat = zsb i9 i.toNat := by
        unfold zi0
        rw [if_neg (by omega), if_pos (by omega), show (a - 3) / 2 = i9 by omega]
      rw [e9] at kk
      exact kk
theorem zo_zald (B : zFr p l R b0 D dA α L xs s m args meth c M) {a N : Nat} {i : Int} (hK : h.2.1 a = (102, N)) (h0 : 0 ≤ i) (h1 : i < (N : Int)) (S : zSt b0 D dA L xs M s α h H locs ls labs (.inl i :: .inr (.inr a) :: t)) (hd : decode (zby M) pc = .ok (.baload, 1))
    (k : zKont p l e R s m args below meth c QQ b0 D dA L xs M α h cells slots (pc + 1) labs (.inl (h.2.2.2 a i.toNat) :: t) h) : W p l e R s m args below meth c H locs cells slots QQ (F0 m pc ls ((.inl i :: .inr (.inr a) :: t).map (zcv α))) := by
  have hin := zi_in S.hd h0 h1
  have hcl := zi_clamp S.hd h0
  have hv : zVok h.1 (.inl (h.2.2.2 a i.toNat)) := by have q := (S.i8 a i.toNat).2; rw [hK] at q; exact q (by simp) (by simp)
  have kk := zK_st S k (zok_cons hv S.tl.tl.2.2.2.2.1)
  simp only [List.map_cons, zcv] at kk
  show W p l e R s m args below meth c H locs cells slots QQ (F0 m pc ls (.int (Int32.ofInt i) :: va_rf (α a) :: t.map (zcv α)))
  by_cases h64 : 64 ≤ a
  · obtain ⟨q, k0, hq, hk0⟩ := S.obj h64 (by rw [hK]; simp)
    rw [zen_arr hK (by decide)] at hk0
    rw [hq]
    refine va_zald B.1 B.2.1 B.K (zws_P S.1) k0 2 hk0 (ztys_at (by decide)) hin hd ?_
    rw [hcl]
    exact kk
  · rcases zcarr B S (by omega) hK (by decide) with ⟨-, e1, -⟩ | ⟨i9, -, -, e1, -⟩ <;> cases e1
theorem zo_cald (B : zFr p l R b0 D dA α L xs s m args meth c M) {a N : Nat} {i : Int} (hK : h.2.1 a = (103, N)) (h0 : 0 ≤ i) (h1 : i < (N : Int)) (S : zSt b0 D dA L xs M s α h H locs ls labs (.inl i :: .inr (.inr a) :: t)) (hd : decode (zby M) pc = .ok (.caload, 1))
    (k : zKont p l e R s m args below meth c QQ b0 D dA L xs M α h cells slots (pc + 1) labs (.inl (h.2.2.2 a i.toNat) :: t) h) : W p l e R s m args below meth c H locs cells slots QQ (F0 m pc ls ((.inl i :: .inr (.inr a) :: t).map (zcv α))) := by
  have hin := zi_in S.hd h0 h1
  have hcl := zi_clamp S.hd h0
  have hv : zVok h.1 (.inl (h.2.2.2 a i.toNat)) := by have q := (S.i8 a i.toNat).2; rw [hK] at q; exact q (by simp) (by simp)
  have kk := zK_st S k (zok_cons hv S.tl.tl.2.2.2.2.1)
  simp only [List.map_cons, zcv] at kk
  show W p l e R s m args below meth c H locs cells slots QQ (F0 m pc ls (.int (Int32.ofInt i) :: va_rf (α a) :: t.map (zcv α)))
  by_cases h64 : 64 ≤ a
  · obtain ⟨q, k0, hq, hk0⟩ := S.obj h64 (by rw [hK]; simp)
    rw [zen_arr hK (by decide)] at hk0
    rw [hq]
    refine va_cald B.1 B.2.1 B.K (zws_P S.1) k0 3 hk0 (ztys_at (by decide)) hin hd ?_
    rw [hcl]
    exact kk
  · rcases zcarr B S (by omega) hK (by decide) with ⟨-, e1, -⟩ | ⟨i9, -, -, e1, -⟩ <;> cases e1
theorem zo_lald (B : zFr p l R b0 D dA α L xs s m args meth c M) {a N : Nat} {i : Int} (hK : h.2.1 a = (104, N)) (h0 : 0 ≤ i) (h1 : i < (N : Int)) (S : zSt b0 D dA L xs M s α h H locs ls labs (.inl i :: .inr (.inr a) :: t)) (hd : decode (zby M) pc = .ok (.laload, 1))
    (k : zKont p l e R s m args below meth c QQ b0 D dA L xs M α h cells slots (pc + 1) labs (.inr (.inl (h.2.2.2 a i.toNat)) :: t) h) : W p l e R s m args below meth c H locs cells slots QQ (F0 m pc ls ((.inl i :: .inr (.inr a) :: t).map (zcv α))) := by
  have hin := zi_in S.hd h0 h1
  have hcl := zi_clamp S.hd h0
  have hv : zVok h.1 (.inr (.inl (h.2.2.2 a i.toNat))) := S.i7 a i.toNat
  have kk := zK_st S k (zok_cons hv S.tl.tl.2.2.2.2.1)
  simp only [List.map_cons, zcv] at kk
  show W p l e R s m args below meth c H locs cells slots QQ (F0 m pc ls (.int (Int32.ofInt i) :: va_rf (α a) :: t.map (zcv α)))
  by_cases h64 : 64 ≤ a
  · obtain ⟨q, k0, hq, hk0⟩ := S.obj h64 (by rw [hK]; simp)
    rw [zen_arr hK (by decide)] at hk0
    rw [hq]
    refine va_lald B.1 B.2.1 B.K (zws_P S.1) k0 4 hk0 (ztys_at (by decide)) hin hd ?_
    rw [hcl]
    exact kk
  · rcases zcarr B S (by omega) hK (by decide) with ⟨-, e1, -⟩ | ⟨i9, -, -, e1, -⟩ <;> cases e1
theorem zarr_q {k : Nat} (hk : 105 ≤ k) (r : Nat → Nat) (i : Nat → Int) : zarr α k r i = .inr (.inr (.inr (.inr (fun j => α (r j))))) := by
  unfold zarr
  rw [show Nat.ble k 103 = false by cases e9 : Nat.ble k 103 with | false => rfl | true => exact absurd (Nat.le_of_ble_eq_true e9) (by omega), show Nat.ble k 104 = false by cases e9 : Nat.ble k 104 with | false => rfl | true => exact absurd (Nat.le_of_ble_eq_true e9) (by omega)]
theorem zft_q {u : Nat} {C : String} (hC : zcomps[u]? = some C) : zft (5 + u) = .object C := by
  rw [Nat.add_comm]
  show FieldType.object (zcomps.getD u "") = _
  rw [List.getD_eq_getElem?_getD, hC]; rfl
theorem zo_aald (B : zFr p l R b0 D dA α L xs s m args meth c M) {a N u : Nat} {i : Int} (hu : u < 8) (hK : h.2.1 a = (105 + u, N)) (h0 : 0 ≤ i) (h1 : i < (N : Int)) (S : zSt b0 D dA L xs M s α h H locs ls labs (.inl i :: .inr (.inr a) :: t)) (hd : decode (zby M) pc = .ok (.aaload, 1))
    (k : zKont p l e R s m args below meth c QQ b0 D dA L xs M α h cells slots (pc + 1) labs (.inr (.inr (h.2.2.1 a i.toNat)) :: t) h) : W p l e R s m args below meth c H locs cells slots QQ (F0 m pc ls ((.inl i :: .inr (.inr a) :: t).map (zcv α))) := by
  have hin := zi_in S.hd h0 h1
  have hcl := zi_clamp S.hd h0
  have kk := zK_st S k (zok_cons (S.i9 a i.toNat) S.tl.tl.2.2.2.2.1)
  simp only [List.map_cons, zcv] at kk
  show W p l e R s m args below meth c H locs cells slots QQ (F0 m pc ls (.int (Int32.ofInt i) :: va_rf (α a) :: t.map (zcv α)))
  by_cases h64 : 64 ≤ a
  · obtain ⟨q, k0, hq, hk0⟩ := S.obj h64 (by rw [hK]; show 105 + u ≠ 0; omega)
    rw [zen_arr hK (by omega), zarr_q (by omega), show 105 + u - 100 = 5 + u by omega] at hk0
    rw [hq]
    have hlt : u < zcomps.length := hu
    refine va_aldq (C := zcomps[u]) B.1 B.2.1 B.K (zws_P S.1) k0 (5 + u) hk0 (by rw [ztys_at (by omega), zft_q (List.getElem?_eq_getElem hlt)]) hin hd ?_
    rw [hcl]
    exact kk
  · rcases zcarr B S (by omega) hK (by omega) with ⟨-, e1, -⟩ | ⟨i9, -, -, e1, -⟩ <;> omega
theorem zo_iast (B : zFr p l R b0 D dA α L xs s m args meth c M) {a N : Nat} {i x : Int} (h64 : 64 ≤ a) (hK : h.2.1 a = (100, N)) (h0 : 0 ≤ i) (h1 : i < (N : Int))  (S : zSt b0 D dA L xs M s α h H locs ls labs (.inl x :: .inl i :: .inr (.inr a) :: t)) (hd : decode (zby M) pc = .ok (.iastore, 1))
    (k : zKont p l e R s m args below meth c QQ b0 D dA L xs M α h cells slots (pc + 1) labs t (h.1, h.2.1, h.2.2.1, zst h.2.2.2 a i.toNat (x))) : W p l e R s m args below meth c H locs cells slots QQ (F0 m pc ls ((.inl x :: .inl i :: .inr (.inr a) :: t).map (zcv α))) := by
  have hin := zi_in S.tl.hd h0 h1
  have hcl := zi_clamp S.tl.hd h0
  obtain ⟨q, k0, hq, hk0⟩ := S.obj h64 (by rw [hK]; simp)
  have hk1 := hk0
  rw [zen_arr hK (by decide)] at hk0
  show W p l e R s m args below meth c H locs cells slots QQ (F0 m pc ls (zcv α (.inl x) :: .int (Int32.ofInt i) :: va_rf (α a) :: t.map (zcv α)))
  rw [hq]
  refine va_iast B.1 B.2.1 B.K (zws_P S.1) (zws_D S.1) S.2.1 k0 0 hk0 (ztys_at (by decide)) hin hd (fun H1 locs1 hP _ hS1 => ?_)
  rw [hcl] at hP
  have hrel : zRel b0 D dA α (h.1, h.2.1, h.2.2.1, zst h.2.2.2 a i.toNat (x)) H1 := by
    refine zrel_upd S.1 ⟨h64, by rw [hK]; simp⟩ hq hk1 hP (zinv_i S.1.1 (zC_64 S.hd) ⟨fun q9 => ?_, fun _ q9 => S.hd⟩) rfl ?_ (fun b hb => zen_ne rfl rfl (zst_ne _ _ _ _ hb))
    · rw [hK] at q9; exact absurd q9 (by simp)
    · rw [zen_arr (h := (h.1, h.2.1, h.2.2.1, zst h.2.2.2 a i.toNat (x))) hK (by decide)]
      show (Sum.inl (_, N, Sum.inl (fun j => Int32.ofInt (zst h.2.2.2 a i.toNat (x) a j))) : va_E) = Sum.inl (_, N, Sum.inl (upd (fun j => Int32.ofInt (h.2.2.2 a j)) i.toNat _))
      congr 3
      congr 1
      funext j
      unfold upd
      simp only [zst_at, true_and]
      split
      · rfl
      · rfl
  exact k α H1 locs1 cells slots ls (fun _ _ => rfl) ⟨hrel, hS1, zcst_i S.2.2.1 h64, S.2.2.2.1, S.tl.tl.tl.2.2.2.2.1, S.2.2.2.2.2⟩ (by omega) (by omega) (Nat.le_refl _)
theorem zo_bast (B : zFr p l R b0 D dA α L xs s m args meth c M) {a N : Nat} {i x : Int} (h64 : 64 ≤ a) (hK : h.2.1 a = (101, N)) (h0 : 0 ≤ i) (h1 : i < (N : Int))  (S : zSt b0 D dA L xs M s α h H locs ls labs (.inl x :: .inl i :: .inr (.inr a) :: t)) (hd : decode (zby M) pc = .ok (.bastore, 1))
    (k : zKont p l e R s m args below meth c QQ b0 D dA L xs M α h cells slots (pc + 1) labs t (h.1, h.2.1, h.2.2.1, zst h.2.2.2 a i.toNat (zi2b x))) : W p l e R s m args below meth c H locs cells slots QQ (F0 m pc ls ((.inl x :: .inl i :: .inr (.inr a) :: t).map (zcv α))) := by
  have hin := zi_in S.tl.hd h0 h1
  have hcl := zi_clamp S.tl.hd h0
  obtain ⟨q, k0, hq, hk0⟩ := S.obj h64 (by rw [hK]; simp)
  have hk1 := hk0
  rw [zen_arr hK (by decide)] at hk0
  show W p l e R s m args below meth c H locs cells slots QQ (F0 m pc ls (zcv α (.inl x) :: .int (Int32.ofInt i) :: va_rf (α a) :: t.map (zcv α)))
  rw [hq]
  refine va_bast B.1 B.2.1 B.K (zws_P S.1) (zws_D S.1) S.2.1 k0 1 hk0 (ztys_at (by decide)) hin hd (fun H1 locs1 hP _ hS1 => ?_)
  rw [hcl] at hP
  have hrel : zRel b0 D dA α (h.1, h.2.1, h.2.2.1, zst h.2.2.2 a i.toNat (zi2b x)) H1 := by
    refine zrel_upd S.1 ⟨h64, by rw [hK]; simp⟩ hq hk1 hP (zinv_i S.1.1 (zC_64 (zi_c _)) ⟨fun q9 => ?_, fun _ q9 => zi_c _⟩) rfl ?_ (fun b hb => zen_ne rfl rfl (zst_ne _ _ _ _ hb))
    · rw [hK] at q9; exact absurd q9 (by simp)
    · rw [zen_arr (h := (h.1, h.2.1, h.2.2.1, zst h.2.2.2 a i.toNat (zi2b x))) hK (by decide)]
      show (Sum.inl (_, N, Sum.inl (fun j => Int32.ofInt (zst h.2.2.2 a i.toNat (zi2b x) a j))) : va_E) = Sum.inl (_, N, Sum.inl (upd (fun j => Int32.ofInt (h.2.2.2 a j)) i.toNat _))
      congr 3
      congr 1
      funext j
      unfold upd
      simp only [zst_at, true_and]
      split
      · rw [zi2b_of]; exact (vp_nar_byte _).symm
      · rfl
  exact k α H1 locs1 cells slots ls (fun _ _ => rfl) ⟨hrel, hS1, zcst_i S.2.2.1 h64, S.2.2.2.1, S.tl.tl.tl.2.2.2.2.1, S.2.2.2.2.2⟩ (by omega) (by omega) (Nat.le_refl _)
theorem zo_zast (B : zFr p l R b0 D dA α L xs s m args meth c M) {a N : Nat} {i x : Int} (h64 : 64 ≤ a) (hK : h.2.1 a = (102, N)) (h0 : 0 ≤ i) (h1 : i < (N : Int)) (hx : x = 0 ∨ x = 1) (S : zSt b0 D dA L xs M s α h H locs ls labs (.inl x :: .inl i :: .inr (.inr a) :: t)) (hd : decode (zby M) pc = .ok (.bastore, 1))
    (k : zKont p l e R s m args below meth c QQ b0 D dA L xs M α h cells slots (pc + 1) labs t (h.1, h.2.1, h.2.2.1, zst h.2.2.2 a i.toNat (x))) : W p l e R s m args below meth c H locs cells slots QQ (F0 m pc ls ((.inl x :: .inl i :: .inr (.inr a) :: t).map (zcv α))) := by
  have hin := zi_in S.tl.hd h0 h1
  have hcl := zi_clamp S.tl.hd h0
  obtain ⟨q, k0, hq, hk0⟩ := S.obj h64 (by rw [hK]; simp)
  have hk1 := hk0
  rw [zen_arr hK (by decide)] at hk0
  show W p l e R s m args below meth c H locs cells slots QQ (F0 m pc ls (zcv α (.inl x) :: .int (Int32.ofInt i) :: va_rf (α a) :: t.map (zcv α)))
  rw [hq]
  refine va_zast B.1 B.2.1 B.K (zws_P S.1) (zws_D S.1) S.2.1 k0 2 hk0 (ztys_at (by decide)) hin hd (fun H1 locs1 hP _ hS1 => ?_)
  rw [hcl] at hP
  have hrel : zRel b0 D dA α (h.1, h.2.1, h.2.2.1, zst h.2.2.2 a i.toNat (x)) H1 := by
    refine zrel_upd S.1 ⟨h64, by rw [hK]; simp⟩ hq hk1 hP (zinv_i S.1.1 (zC_64 S.hd) ⟨fun q9 => ?_, fun _ q9 => S.hd⟩) rfl ?_ (fun b hb => zen_ne rfl rfl (zst_ne _ _ _ _ hb))
    · rw [hK] at q9; exact absurd q9 (by simp)
    · rw [zen_arr (h := (h.1, h.2.1, h.2.2.1, zst h.2.2.2 a i.toNat (x))) hK (by decide)]
      show (Sum.inl (_, N, Sum.inl (fun j => Int32.ofInt (zst h.2.2.2 a i.toNat (x) a j))) : va_E) = Sum.inl (_, N, Sum.inl (upd (fun j => Int32.ofInt (h.2.2.2 a j)) i.toNat _))
      congr 3
      congr 1
      funext j
      unfold upd
      simp only [zst_at, true_and]
      split
      · rcases hx with rfl | rfl <;> rfl
      · rfl
  exact k α H1 locs1 cells slots ls (fun _ _ => rfl) ⟨hrel, hS1, zcst_i S.2.2.1 h64, S.2.2.2.1, S.tl.tl.tl.2.2.2.2.1, S.2.2.2.2.2⟩ (by omega) (by omega) (Nat.le_refl _)
theorem zo_cast (B : zFr p l R b0 D dA α L xs s m args meth c M) {a N : Nat} {i x : Int} (h64 : 64 ≤ a) (hK : h.2.1 a = (103, N)) (h0 : 0 ≤ i) (h1 : i < (N : Int))  (S : zSt b0 D dA L xs M s α h H locs ls labs (.inl x :: .inl i :: .inr (.inr a) :: t)) (hd : decode (zby M) pc = .ok (.castore, 1))
    (k : zKont p l e R s m args below meth c QQ b0 D dA L xs M α h cells slots (pc + 1) labs t (h.1, h.2.1, h.2.2.1, zst h.2.2.2 a i.toNat (zi2c x))) : W p l e R s m args below meth c H locs cells slots QQ (F0 m pc ls ((.inl x :: .inl i :: .inr (.inr a) :: t).map (zcv α))) := by
  have hin := zi_in S.tl.hd h0 h1
  have hcl := zi_clamp S.tl.hd h0
  obtain ⟨q, k0, hq, hk0⟩ := S.obj h64 (by rw [hK]; simp)
  have hk1 := hk0
  rw [zen_arr hK (by decide)] at hk0
  show W p l e R s m args below meth c H locs cells slots QQ (F0 m pc ls (zcv α (.inl x) :: .int (Int32.ofInt i) :: va_rf (α a) :: t.map (zcv α)))
  rw [hq]
  refine va_cast B.1 B.2.1 B.K (zws_P S.1) (zws_D S.1) S.2.1 k0 3 hk0 (ztys_at (by decide)) hin hd (fun H1 locs1 hP _ hS1 => ?_)
  rw [hcl] at hP
  have hrel : zRel b0 D dA α (h.1, h.2.1, h.2.2.1, zst h.2.2.2 a i.toNat (zi2c x)) H1 := by
    refine zrel_upd S.1 ⟨h64, by rw [hK]; simp⟩ hq hk1 hP (zinv_i S.1.1 (zC_64 (zi_c _)) ⟨fun q9 => ?_, fun _ q9 => zi_c _⟩) rfl ?_ (fun b hb => zen_ne rfl rfl (zst_ne _ _ _ _ hb))
    · rw [hK] at q9; exact absurd q9 (by simp)
    · rw [zen_arr (h := (h.1, h.2.1, h.2.2.1, zst h.2.2.2 a i.toNat (zi2c x))) hK (by decide)]
      show (Sum.inl (_, N, Sum.inl (fun j => Int32.ofInt (zst h.2.2.2 a i.toNat (zi2c x) a j))) : va_E) = Sum.inl (_, N, Sum.inl (upd (fun j => Int32.ofInt (h.2.2.2 a j)) i.toNat _))
      congr 3
      congr 1
      funext j
      unfold upd
      simp only [zst_at, true_and]
      split
      · rw [zi2c_of, vp_nar_char]; rfl
      · rfl
  exact k α H1 locs1 cells slots ls (fun _ _ => rfl) ⟨hrel, hS1, zcst_i S.2.2.1 h64, S.2.2.2.1, S.tl.tl.tl.2.2.2.2.1, S.2.2.2.2.2⟩ (by omega) (by omega) (Nat.le_refl _)
theorem zo_last (B : zFr p l R b0 D dA α L xs s m args meth c M) {a N : Nat} {i x : Int} (h64 : 64 ≤ a) (hK : h.2.1 a = (104, N)) (h0 : 0 ≤ i) (h1 : i < (N : Int))  (S : zSt b0 D dA L xs M s α h H locs ls labs (.inr (.inl x) :: .inl i :: .inr (.inr a) :: t)) (hd : decode (zby M) pc = .ok (.lastore, 1))
    (k : zKont p l e R s m args below meth c QQ b0 D dA L xs M α h cells slots (pc + 1) labs t (h.1, h.2.1, h.2.2.1, zst h.2.2.2 a i.toNat (x))) : W p l e R s m args below meth c H locs cells slots QQ (F0 m pc ls ((.inr (.inl x) :: .inl i :: .inr (.inr a) :: t).map (zcv α))) := by
  have hin := zi_in S.tl.hd h0 h1
  have hcl := zi_clamp S.tl.hd h0
  obtain ⟨q, k0, hq, hk0⟩ := S.obj h64 (by rw [hK]; simp)
  have hk1 := hk0
  rw [zen_arr hK (by decide)] at hk0
  show W p l e R s m args below meth c H locs cells slots QQ (F0 m pc ls (zcv α (.inr (.inl x)) :: .int (Int32.ofInt i) :: va_rf (α a) :: t.map (zcv α)))
  rw [hq]
  refine va_last B.1 B.2.1 B.K (zws_P S.1) (zws_D S.1) S.2.1 k0 4 hk0 (ztys_at (by decide)) hin hd (fun H1 locs1 hP _ hS1 => ?_)
  rw [hcl] at hP
  have hrel : zRel b0 D dA α (h.1, h.2.1, h.2.2.1, zst h.2.2.2 a i.toNat (x)) H1 := by
    refine zrel_upd S.1 ⟨h64, by rw [hK]; simp⟩ hq hk1 hP (zinv_i S.1.1 (S.hd) ⟨fun q9 => ?_, fun _ q9 => by rw [hK] at q9; exact absurd q9 (by simp)⟩) rfl ?_ (fun b hb => zen_ne rfl rfl (zst_ne _ _ _ _ hb))
    · rw [hK] at q9; exact absurd q9 (by simp)
    · rw [zen_arr (h := (h.1, h.2.1, h.2.2.1, zst h.2.2.2 a i.toNat (x))) hK (by decide)]
      show (Sum.inl (_, N, Sum.inr (Sum.inl (fun j => Int64.ofInt (zst h.2.2.2 a i.toNat (x) a j)))) : va_E) = Sum.inl (_, N, Sum.inr (Sum.inl (vp_updL (fun j => Int64.ofInt (h.2.2.2 a j)) i.toNat _)))
      congr 3
      congr 1
      congr 1
      funext j
      unfold vp_updL
      simp only [zst_at, true_and]
      split
      · rfl
      · rfl
  exact k α H1 locs1 cells slots ls (fun _ _ => rfl) ⟨hrel, hS1, zcst_i S.2.2.1 h64, S.2.2.2.1, S.tl.tl.tl.2.2.2.2.1, S.2.2.2.2.2⟩ (by omega) (by omega) (Nat.le_refl _)
end ZARR
