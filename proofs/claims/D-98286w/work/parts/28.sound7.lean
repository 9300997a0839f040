/-! SOUNDNESS 7: references into arrays, casts, tests, copies, Object.<init> -/
def zLast (r : List Nat) : Prop := ∃ (u ci : Nat) (C : String) (q : vw_C), u < 8 ∧ r = [105 + u, ci] ∧ zcomps[u]? = some C ∧ zcl[ci]? = some q ∧ 0 < ci ∧ ci < 100 ∧ (q.1 = C ∨ Cond.castable q.1 C ∈ znw)
def zLcast (own : String) (idx len : Nat) (r : List Nat) : Prop := len = 3 ∧ ((∃ (ci : Nat) (q : vw_C), r = [ci] ∧ 0 < ci ∧ ci < 100 ∧ zcl[ci]? = some q ∧ Cond.classLink own idx q.1 ∈ lw_all ∧ (ci = 23 → q.1 = "java/lang/String")) ∨ (∃ z, r = [101, z] ∧ Cond.classLink own idx "[B" ∈ lw_all))
section ZREST
variable {p : Program} {l : Launch} {e : Env} {R : Room} {s : State} {m : MethodId} {args : Array Value} {below : List Frame} {meth : Method} {c : Code} {QQ : State → Prop} {b0 : Nat} {D : va_G} {dA : Nat → ClassId} {L : Nat} {xs : Nat → Int32} {M : Nat} {α : zAd} {h : zH} {H : Heap} {locs : List Loc} {cells slots : Nat} {ls : Array Slot} {labs : List (Option zV)} {pc : Nat} {t : List zV}
theorem zcat_sum (st : List zV) : ((st.map (zcv α)).map fun v => v.category).sum = zcat st := by
  induction st with
  | nil => rfl
  | cons v st ih =>
    rw [List.map_cons, List.map_cons, List.sum_cons, ih]
    rcases v with x | x | a
    · show 1 + zcat st = zcat st + 1; omega
    · show 2 + zcat st = zcat st + 2; omega
    · have : (zcv α (.inr (.inr a))).category = 1 := by simp only [zcv]; cases α a <;> rfl
      rw [this]
      show 1 + zcat st = zcat st + 1; omega
theorem zo_aast (B : zFr p l R b0 D dA α L xs s m args meth c M) {a x N k9 ci9 : Nat} {i : Int} (hL : zLast [k9, ci9]) (h64 : 64 ≤ a) (hK : h.2.1 a = (k9, N)) (h0 : 0 ≤ i) (h1 : i < (N : Int)) (hx : (h.2.1 x).1 = ci9) (hx64 : 64 ≤ x) (S : zSt b0 D dA L xs M s α h H locs ls labs (.inr (.inr x) :: .inl i :: .inr (.inr a) :: t)) (hd : decode (zby M) pc = .ok (.aastore, 1))
    (k : zKont p l e R s m args below meth c QQ b0 D dA L xs M α h cells slots (pc + 1) labs t (h.1, h.2.1, zst h.2.2.1 a i.toNat x, h.2.2.2)) : W p l e R s m args below meth c H locs cells slots QQ (F0 m pc ls ((.inr (.inr x) :: .inl i :: .inr (.inr a) :: t).map (zcv α))) := by
  obtain ⟨u, ci, C, q9, hu, hr, hC, hcl9, c1, c2, hcast⟩ := hL
  obtain ⟨rfl, rfl⟩ : k9 = 105 + u ∧ ci9 = ci := by simpa using hr
  have hin := zi_in S.tl.hd h0 h1
  have hcl := zi_clamp S.tl.hd h0
  obtain ⟨q, k0, hq, hk0⟩ := S.obj h64 (by rw [hK]; show 105 + u ≠ 0; omega)
  obtain ⟨qx, kx, hqx, hkx⟩ := S.obj hx64 (by rw [hx]; omega)
  have hk1 := hk0
  rw [zen_arr hK (by omega), zarr_q (by omega), show 105 + u - 100 = 5 + u by omega] at hk0
  rw [zen_obj (ci := ci9) (N := (h.2.1 x).2) (by rw [← hx]) c2] at hkx
  have hft := zft_q hC
  show W p l e R s m args below meth c H locs cells slots QQ (F0 m pc ls (va_rf (α x) :: .int (Int32.ofInt i) :: va_rf (α a) :: t.map (zcv α)))
  rw [hq, hqx]
  have fin' : ∀ (H1 : Heap) (locs1 : List Loc), va_P D zcl ((zws α dA h).set k0 (q, .inl (dA (5 + u), N, .inr (.inr (.inr (.inr (va_up (fun j => α (h.2.2.1 a j)) (Int32.ofInt i).toNatClampNeg (some qx)))))))) H1 → va_S (zA b0) s.heap H1 locs1 → W p l e R s m args below meth c H1 locs1 cells slots QQ (F0 m (pc + 1) ls (t.map (zcv α))) := by
    intro H1 locs1 hP hS1
    rw [hcl] at hP
    have hrel : zRel b0 D dA α (h.1, h.2.1, zst h.2.2.1 a i.toNat x, h.2.2.2) H1 := by
      refine zrel_upd S.1 ⟨h64, by rw [hK]; show 105 + u ≠ 0; omega⟩ hq hk1 hP (zinv_r S.1.1 S.hd) rfl ?_ (fun b hb => zen_ne rfl (zst_ne _ _ _ _ hb) rfl)
      rw [zen_arr (h := (h.1, h.2.1, zst h.2.2.1 a i.toNat x, h.2.2.2)) hK (by omega), zarr_q (by omega), show 105 + u - 100 = 5 + u by omega]
      show (Sum.inl (_, N, Sum.inr (Sum.inr (Sum.inr (Sum.inr (fun j => α (zst h.2.2.1 a i.toNat x a j)))))) : va_E) = Sum.inl (_, N, Sum.inr (Sum.inr (Sum.inr (Sum.inr (va_up (fun j => α (h.2.2.1 a j)) i.toNat _)))))
      congr 7
      funext j
      unfold va_up
      simp only [zst_at, true_and]
      split
      · exact hqx
      · rfl
    exact k α H1 locs1 cells slots ls (fun _ _ => rfl) ⟨hrel, hS1, zcst_r S.2.2.1 h64, S.2.2.2.1, S.tl.tl.tl.2.2.2.2.1, S.2.2.2.2.2⟩ (by omega) (by omega) (Nat.le_refl _)
  rcases hcast with hc | hc
  · exact va_astq (r := q9) B.1 B.2.1 B.K (zws_P S.1) (zws_D S.1) S.2.1 k0 (5 + u) kx ci9 hk0 (by rw [ztys_at (by omega), hft, hc]) hkx hcl9 hin hd (fun H1 locs1 a1 _ a3 => fin' H1 locs1 a1 a3)
  · exact va_astqO (r := q9) (E := C) B.1 B.2.1 B.K (zws_P S.1) (zws_D S.1) S.2.1 k0 (5 + u) kx ci9 hk0 (by rw [ztys_at (by omega), hft]) (B.nw _ hc) hkx hcl9 hin hd (fun H1 locs1 a1 _ a3 => fin' H1 locs1 a1 a3)
/-- the cell of an object: of its class -/
theorem zrecv (B : zFr p l R b0 D dA α L xs s m args meth c M) {st : List zV} (S : zSt b0 D dA L xs M s α h H locs ls labs st) {a ci : Nat} {q9 : vw_C} (hK : (h.2.1 a).1 = ci) (c1 : 0 < ci) (c2 : ci < 100) (hcl9 : zcl[ci]? = some q9) (hs : ci = 23 → q9.1 = "java/lang/String") {q : Nat} (hq : α a = some q) : ∃ cell : Cell, H[q]? = some cell ∧ cell.vm.isStatics = false ∧ s.vm.findClass q9.1 = some cell.cls := by
  by_cases h64 : 64 ≤ a
  · obtain ⟨q1, k0, hq1, hk0⟩ := S.obj h64 (by rw [hK]; omega)
    cases hq.symm.trans hq1
    rw [zen_obj (ci := ci) (N := (h.2.1 a).2) (by rw [← hK]) c2] at hk0
    exact va_recv B.K (zws_P S.1) hcl9 hk0
  · have z1 := (S.2.2.1 a (by omega)).1
    rw [z1] at hK
    unfold zK0 at hK
    split at hK
    · have : (100 : Nat) = ci := hK
      omega
    · split at hK
      · split at hK
        · next a1 a2 a3 =>
          obtain ⟨ak, av, e1, e2, e3, -⟩ := B.ctx.2.2.2.1 ((a - 2) / 2) (by omega)
          rw [show 2 + 2 * ((a - 2) / 2) = a by omega] at e1
          cases hq.symm.trans e1
          have hci : ci = 23 := hK.symm
          obtain ⟨cell, f1, f2, f3, -⟩ := e3.kept S.2.1.2.1
          rw [hs hci]
          exact ⟨cell, f1, f2, f3⟩
        · have : (101 : Nat) = ci := hK
          omega
      · have : (0 : Nat) = ci := hK
        omega
theorem zo_ccast (B : zFr p l R b0 D dA α L xs s m args meth c M) {a ci idx len : Nat} (hL : zLcast (zow M) idx len [ci]) (hK : (h.2.1 a).1 = ci) (S : zSt b0 D dA L xs M s α h H locs ls labs (.inr (.inr a) :: t)) (hd : decode (zby M) pc = .ok (.checkcast idx, len))
    (k : zKont p l e R s m args below meth c QQ b0 D dA L xs M α h cells slots (pc + len) labs (.inr (.inr a) :: t) h) : W p l e R s m args below meth c H locs cells slots QQ (F0 m pc ls ((.inr (.inr a) :: t).map (zcv α))) := by
  obtain ⟨rfl, ⟨ci', q9, hr, c1, c2, hcl9, hlk, hs⟩ | ⟨z, hr, hlk⟩⟩ := hL
  · obtain rfl : ci = ci' := by simpa using hr
    obtain ⟨q, hq⟩ := S.addr B (a := a) (by rw [hK]; omega)
    have kk := zK_st S k S.2.2.2.2.1
    have hcell := zrecv B S hK c1 c2 hcl9 hs hq
    simp only [List.map_cons, zcv] at kk ⊢
    rw [hq] at kk ⊢
    exact va_castE B.1 B.2.1 B.own (B.ts _ hlk) hcell hd kk
  · cases hr
theorem zo_castA (B : zFr p l R b0 D dA α L xs s m args meth c M) {a k9 z idx len : Nat} (hL : zLcast (zow M) idx len [k9, z]) (h64 : 64 ≤ a) (hK : (h.2.1 a).1 = k9) (S : zSt b0 D dA L xs M s α h H locs ls labs (.inr (.inr a) :: t)) (hd : decode (zby M) pc = .ok (.checkcast idx, len))
    (k : zKont p l e R s m args below meth c QQ b0 D dA L xs M α h cells slots (pc + len) labs (.inr (.inr a) :: t) h) : W p l e R s m args below meth c H locs cells slots QQ (F0 m pc ls ((.inr (.inr a) :: t).map (zcv α))) := by
  obtain ⟨rfl, ⟨ci', q9, hr, -⟩ | ⟨z', hr, hlk⟩⟩ := hL
  · cases hr
  · obtain ⟨rfl, rfl⟩ : k9 = 101 ∧ z = z' := by simpa using hr
    obtain ⟨q, k0, hq, hk0⟩ := S.obj h64 (by rw [hK]; decide)
    rw [zen_arr (k := 101) (N := (h.2.1 a).2) (by rw [← hK]) (by decide)] at hk0
    have kk := zK_st S k S.2.2.2.2.1
    simp only [List.map_cons, zcv] at kk ⊢
    rw [hq] at kk ⊢
    have hra : s.vm.findClass "[B" = some (dA 1) := (B.K.2 1 _ (ztys_at (by decide))).2
    exact va_castA B.1 B.2.1 B.own (B.ts _ hlk) (zws_P S.1) k0 hk0 hra hd kk
theorem zo_inst (B : zFr p l R b0 D dA α L xs s m args meth c M) {a ci idx len : Nat} (hL : zLcast (zow M) idx len [ci]) (hK : (h.2.1 a).1 = ci) (S : zSt b0 D dA L xs M s α h H locs ls labs (.inr (.inr a) :: t)) (hd : decode (zby M) pc = .ok (.instanceof idx, len))
    (k : zKont p l e R s m args below meth c QQ b0 D dA L xs M α h cells slots (pc + len) labs (.inl 1 :: t) h) : W p l e R s m args below meth c H locs cells slots QQ (F0 m pc ls ((.inr (.inr a) :: t).map (zcv α))) := by
  obtain ⟨rfl, ⟨ci', q9, hr, c1, c2, hcl9, hlk, hs⟩ | ⟨z, hr, hlk⟩⟩ := hL
  · obtain rfl : ci = ci' := by simpa using hr
    obtain ⟨q, hq⟩ := S.addr B (a := a) (by rw [hK]; omega)
    have kk := zK_st S k (zok_cons ⟨by decide, by decide⟩ S.tl.2.2.2.2.1)
    have hcell := zrecv B S hK c1 c2 hcl9 hs hq
    show W p l e R s m args below meth c H locs cells slots QQ (F0 m pc ls (va_rf (α a) :: t.map (zcv α)))
    rw [hq]
    exact va_instE B.1 B.2.1 B.own (B.ts _ hlk) hcell hd kk
  · cases hr
theorem zo_ifnull (B : zFr p l R b0 D dA α L xs s m args meth c M) {a : Nat} {off : Int} (hoff : 0 ≤ (pc : Int) + off) (ha : a = 0 ∨ (h.2.1 a).1 ≠ 0) (S : zSt b0 D dA L xs M s α h H locs ls labs (.inr (.inr a) :: t)) (hd : decode (zby M) pc = .ok (.ifnull off, 3))
    (k : zKont p l e R s m args below meth c QQ b0 D dA L xs M α h cells slots (if a = 0 then zat pc off else pc + 3) labs t h) : W p l e R s m args below meth c H locs cells slots QQ (F0 m pc ls ((.inr (.inr a) :: t).map (zcv α))) := by
  have ht : (pc : Int) + off = ((zat pc off : Nat) : Int) := (Int.toNat_of_nonneg hoff).symm
  have kk := zK_st S k S.tl.2.2.2.2.1
  show W p l e R s m args below meth c H locs cells slots QQ (F0 m pc ls (va_rf (α a) :: t.map (zcv α)))
  by_cases h0 : a = 0
  · rw [if_pos h0] at kk
    rw [h0, S.1.1.2.1]
    exact lv_ifnullN B.1 B.2.1 hd ht kk
  · rw [if_neg h0] at kk
    obtain ⟨q, hq⟩ := S.addr B (ha.resolve_left h0)
    rw [hq]
    exact lv_ifnull B.1 B.2.1 hd kk
theorem zo_ifnonnull (B : zFr p l R b0 D dA α L xs s m args meth c M) {a : Nat} {off : Int} (hoff : 0 ≤ (pc : Int) + off) (ha : a = 0 ∨ (h.2.1 a).1 ≠ 0) (S : zSt b0 D dA L xs M s α h H locs ls labs (.inr (.inr a) :: t)) (hd : decode (zby M) pc = .ok (.ifnonnull off, 3))
    (k : zKont p l e R s m args below meth c QQ b0 D dA L xs M α h cells slots (if a ≠ 0 then zat pc off else pc + 3) labs t h) : W p l e R s m args below meth c H locs cells slots QQ (F0 m pc ls ((.inr (.inr a) :: t).map (zcv α))) := by
  have ht : (pc : Int) + off = ((zat pc off : Nat) : Int) := (Int.toNat_of_nonneg hoff).symm
  have kk := zK_st S k S.tl.2.2.2.2.1
  show W p l e R s m args below meth c H locs cells slots QQ (F0 m pc ls (va_rf (α a) :: t.map (zcv α)))
  by_cases h0 : a = 0
  · rw [if_neg (fun z => z h0)] at kk
    rw [h0, S.1.1.2.1]
    exact lv_ifnonnullN B.1 B.2.1 hd kk
  · rw [if_pos h0] at kk
    obtain ⟨q, hq⟩ := S.addr B (ha.resolve_left h0)
    rw [hq]
    exact lv_ifnonnull B.1 B.2.1 hd ht kk
/-- a cell that was made isn't another one -/
theorem zapart (B : zFr p l R b0 D dA α L xs s m args meth c M) {st : List zV} (S : zSt b0 D dA L xs M s α h H locs ls labs st) {a b : Nat} (h64 : 64 ≤ a) (ha : (h.2.1 a).1 ≠ 0) (hb : (h.2.1 b).1 ≠ 0) : α a = α b ↔ a = b := by
  refine ⟨fun e9 => ?_, fun e9 => by rw [e9]⟩
  by_cases hb64 : 64 ≤ b
  · exact S.1.2.2 a b ⟨h64, ha⟩ ⟨hb64, hb⟩ e9
  · exfalso
    obtain ⟨qa, hqa, hla, -⟩ := S.1.2.1 a ⟨h64, ha⟩
    have z1 := (S.2.2.1 b (by omega)).1
    rw [z1] at hb
    unfold zK0 at hb
    split at hb
    · next b1 =>
      obtain ⟨q, f1, f2, f3, f4⟩ := B.ctx.2.2.2.2.2.2
      rw [b1, f1, hqa] at e9
      cases e9
      exact f2 hla
    · split at hb
      · next b1 b2 =>
        split at hb
        · obtain ⟨ak, av, e1, e2, e3, -⟩ := B.ctx.2.2.2.1 ((b - 2) / 2) (by omega)
          rw [show 2 + 2 * ((b - 2) / 2) = b by omega, ← e9, hqa] at e1
          cases e1
          obtain ⟨cell, f1, f2, f3, f4⟩ := e3
          exact f4 hla
        · obtain ⟨ak, av, e1, e2, -, -, -, e6⟩ := B.ctx.2.2.2.1 ((b - 3) / 2) (by omega)
          rw [show 3 + 2 * ((b - 3) / 2) = b by omega, ← e9, hqa] at e2
          cases e2
          obtain ⟨cell, f1, f2, f3, f4, f5, f6, f7⟩ := e6
          exact f7 hla
      · exact absurd rfl hb
theorem zo_acmp (B : zFr p l R b0 D dA α L xs s m args meth c M) {a b : Nat} {off : Int} (hoff : 0 ≤ (pc : Int) + off) (h64 : 64 ≤ a) (ha : (h.2.1 a).1 ≠ 0) (hb : (h.2.1 b).1 ≠ 0) (S : zSt b0 D dA L xs M s α h H locs ls labs (.inr (.inr b) :: .inr (.inr a) :: t)) (hd : decode (zby M) pc = .ok (.if_acmp .ne off, 3))
    (k : zKont p l e R s m args below meth c QQ b0 D dA L xs M α h cells slots (if a ≠ b then zat pc off else pc + 3) labs t h) : W p l e R s m args below meth c H locs cells slots QQ (F0 m pc ls ((.inr (.inr b) :: .inr (.inr a) :: t).map (zcv α))) := by
  have ht : (pc : Int) + off = ((zat pc off : Nat) : Int) := (Int.toNat_of_nonneg hoff).symm
  have kk := zK_st S k S.tl.tl.2.2.2.2.1
  have hz := zapart B S h64 ha hb
  show W p l e R s m args below meth c H locs cells slots QQ (F0 m pc ls (va_rf (α b) :: va_rf (α a) :: t.map (zcv α)))
  refine lv_acmp_ne B.1 B.2.1 hd ht (fun q => ?_) (fun q => ?_)
  · rw [if_pos (fun z => q (hz.mpr z))] at kk; exact kk
  · rw [if_neg (fun z => z (hz.mp q))] at kk; exact kk
theorem zo_objInit (B : zFr p l R b0 D dA α L xs s m args meth c M) {a idx : Nat} (hl : Cond.methodLink (zow M) idx Lib.objectInit ∈ lw_all) (hi : Cond.instanceMethod Lib.objectInit ∈ lw_all) (hc : Cond.code Lib.objectInit ⟨#[0xb1]⟩ 1 none ∈ lw_all) (ht : zcat t ≤ 16) (ha : ∃ q, α a = some q) (S : zSt b0 D dA L xs M s α h H locs ls labs (.inr (.inr a) :: t)) (hd : decode (zby M) pc = .ok (.invokespecial idx, 3))
    (k : zKont p l e R s m args below meth c QQ b0 D dA L xs M α h cells slots (pc + 3) labs t h) : W p l e R s m args below meth c H locs cells slots QQ (F0 m pc ls ((.inr (.inr a) :: t).map (zcv α))) := by
  obtain ⟨q, hq⟩ := ha
  have kk := zK_st S k S.tl.2.2.2.2.1
  show W p l e R s m args below meth c H locs cells slots QQ (F0 m pc ls (va_rf (α a) :: t.map (zcv α)))
  rw [hq]
  obtain ⟨-, lv, h1, -⟩ := S.2.2.2.1
  have hr1 := B.2.2.2.2.2.2.2.2.2.2.2.1
  have hr2 := B.2.2.2.2.2.2.2.2.2.2.2.2
  refine W.objInit (a := q) (rest := t.map (zcv α)) B.1 B.2.1 B.own (B.ts _ hl) (B.ts _ hi) (B.ts _ hc) rfl (by rw [B.2.2.2.2.1]; exact h1.1) rfl hd (by omega) ?_ kk
  rw [zcat_sum]
  show 2 * 0 + zcat t + 12 ≤ R.locals
  omega
theorem zSt.adr (B : zFr p l R b0 D dA α L xs s m args meth c M) {st : List zV} (S : zSt b0 D dA L xs M s α h H locs ls labs st) {a : Nat} (h0 : (h.2.1 a).1 ≠ 0) : ∃ q, α a = some q := S.addr B h0
/-- numbers copied from one array into another -/
theorem zo_max (B : zFr p l R b0 D dA α L xs s m args meth c M) {idx : Nat} (h1 : Cond.methodLink (zow M) idx Lib.Math.max.name ∈ lw_all) (h2 : Cond.static Lib.Math.max.name ∈ lw_all) (h3 : Cond.initialized "java/lang/Math" ∈ lw_all) (h4 : Cond.code Lib.Math.max.name Lib.Math.max.code 2 (some .int) ∈ lw_all) (ht : zcat t ≤ 8) {x y : Int}
    (S : zSt b0 D dA L xs M s α h H locs ls labs (.inl y :: .inl x :: t)) (hd : decode (zby M) pc = .ok (.invokestatic idx, 3)) (hcl : cells ≤ R.cells) (hsl : slots ≤ R.slots) (k : zKont p l e R s m args below meth c QQ b0 D dA L xs M α h cells slots (pc + 3) labs (.inl (zmax x y) :: t) h) :
    W p l e R s m args below meth c H locs cells slots QQ (F0 m pc ls ((.inl y :: .inl x :: t : List zV).map (zcv α))) := by
  have hy := S.hd
  have hx := S.tl.hd
  have hsz : c.maxLocals = ls.size := by
    obtain ⟨-, lv, q1, -⟩ := S.2.2.2.1
    rw [B.2.2.2.2.1, q1.1]
  have hfr : 16 ≤ R.frames := B.2.2.2.2.2.2.2.2.2.2.2.1
  have hlo : 1200 ≤ R.locals := B.2.2.2.2.2.2.2.2.2.2.2.2
  have e1 : Int32.ofInt (zmax x y) = if Int32.ofInt x < Int32.ofInt y then Int32.ofInt y else Int32.ofInt x := by
    unfold zmax
    by_cases hh : x < y
    · rw [if_pos hh, if_pos ((zi_lt hx hy).mpr hh)]
    · rw [if_neg hh, if_neg (fun z => hh ((zi_lt hx hy).mp z))]
  have hm : zC32 (zmax x y) := by
    unfold zmax
    split
    · exact hy
    · exact hx
  have kk := zK_st S k (zok_cons hm S.tl.tl.2.2.2.2.1)
  rw [List.map_cons, show zcv α (.inl (zmax x y)) = .int (Int32.ofInt (zmax x y)) from rfl, e1] at kk
  exact va_mmax B.1 B.2.1 hsz B.own (B.ts _ h1) (B.ts _ h2) (B.ts _ h3) (B.ts _ h4) (by omega) (by rw [zcat_sum]; omega) hcl hsl hd kk
theorem zo_copy (B : zFr p l R b0 D dA α L xs s m args meth c M) {idx a b k9 n1 n2 : Nat} {sp dp n : Int} (hl : Cond.methodLink (zow M) idx arraycopyName ∈ lw_all) (hn : Cond.native arraycopyName ∈ lw_all) (hst : Cond.static arraycopyName ∈ lw_all) (hini : Cond.initialized "java/lang/System" ∈ lw_all) (ht : zcat t ≤ 8)
    (a64 : 64 ≤ a) (b64 : 64 ≤ b) (hk9 : k9 = 100 ∨ k9 = 104) (hKa : h.2.1 a = (k9, n1)) (hKb : h.2.1 b = (k9, n2)) (hab : a ≠ b) (hs0 : 0 ≤ sp) (hd0 : 0 ≤ dp) (hn0 : 0 ≤ n) (hs1 : sp + n ≤ (n1 : Int)) (hd1 : dp + n ≤ (n2 : Int))
    (S : zSt b0 D dA L xs M s α h H locs ls labs (.inl n :: .inl dp :: .inr (.inr b) :: .inl sp :: .inr (.inr a) :: t)) (hd : decode (zby M) pc = .ok (.invokestatic idx, 3))
    (k : zKont p l e R s m args below meth c QQ b0 D dA L xs M α h cells slots (pc + 3) labs t (h.1, h.2.1, h.2.2.1, zup h.2.2.2 b (fun j => if dp.toNat ≤ j ∧ j < dp.toNat + n.toNat then h.2.2.2 a (sp.toNat + (j - dp.toNat)) else h.2.2.2 b j))) :
    W p l e R s m args below meth c H locs cells slots QQ (F0 m pc ls ((.inl n :: .inl dp :: .inr (.inr b) :: .inl sp :: .inr (.inr a) :: t).map (zcv α))) := by
  have hnc : zC32 n := S.hd
  have hdc : zC32 dp := S.tl.hd
  have hsc : zC32 sp := S.tl.tl.tl.hd
  have e1 := zi_clamp hnc hn0
  have e2 := zi_clamp hdc hd0
  have e3 := zi_clamp hsc hs0
  have neg : ∀ {x : Int}, zC32 x → 0 ≤ x → ¬ Int32.ofInt x < 0 := fun hx h0 q => by have := (zi_lt hx zc_0).mp q; omega
  obtain ⟨qa, ka, hqa, hka⟩ := S.obj a64 (by rw [hKa]; show k9 ≠ 0; omega)
  obtain ⟨qb, kb, hqb, hkb⟩ := S.obj b64 (by rw [hKb]; show k9 ≠ 0; omega)
  have hkb1 := hkb
  have hr1 := B.2.2.2.2.2.2.2.2.2.2.2.1
  have hr2 := B.2.2.2.2.2.2.2.2.2.2.2.2
  have hls : c.maxLocals = ls.size := by
    obtain ⟨-, lv, h1, -⟩ := S.2.2.2.1
    rw [B.2.2.2.2.1]; exact h1.1.symm
  have hloc : ((t.map (zcv α)).map fun v => v.category).sum + (nativeFrameWords "java/lang/System" "arraycopy" 5 + 11) ≤ R.locals := by
    rw [zcat_sum]
    have : nativeFrameWords "java/lang/System" "arraycopy" 5 ≤ 1000 := by decide
    omega
  show W p l e R s m args below meth c H locs cells slots QQ (F0 m pc ls (.int (Int32.ofInt n) :: .int (Int32.ofInt dp) :: va_rf (α b) :: .int (Int32.ofInt sp) :: va_rf (α a) :: t.map (zcv α)))
  rw [hqa, hqb]
  have hrel : ∀ H1 : Heap, va_P D zcl ((zws α dA h).set kb (qb, zen0 α dA k9 n2 (h.2.2.1 b) (fun j => if dp.toNat ≤ j ∧ j < dp.toNat + n.toNat then h.2.2.2 a (sp.toNat + (j - dp.toNat)) else h.2.2.2 b j))) H1 → zRel b0 D dA α (h.1, h.2.1, h.2.2.1, zup h.2.2.2 b (fun j => if dp.toNat ≤ j ∧ j < dp.toNat + n.toNat then h.2.2.2 a (sp.toNat + (j - dp.toNat)) else h.2.2.2 b j)) H1 := by
    intro H1 hP
    refine zrel_upd S.1 ⟨b64, by rw [hKb]; show k9 ≠ 0; omega⟩ hqb hkb1 hP ?_ rfl ?_ (fun b9 hb9 => zen_ne rfl rfl (zup_ne _ _ hb9))
    · obtain ⟨i1, i2, i3, i4, i5, i6, i7, i8, i9⟩ := S.1.1
      refine ⟨i1, i2, i3, i4, i5, i6, fun z j => ?_, fun z j => ?_, i9⟩
      · show zC64 (zup h.2.2.2 b _ z j)
        by_cases hz : z = b
        · rw [hz, zup_self]; split
          · exact i7 _ _
          · exact i7 _ _
        · rw [zup_ne _ _ hz]; exact i7 z j
      · show zcan (h.2.1 z).1 j (zup h.2.2.2 b _ z j)
        by_cases hz : z = b
        · rw [hz, zup_self, hKb]
          refine ⟨fun q => by have : k9 < 100 := q; omega, fun q1 q2 => ?_⟩
          have g1 := fun y => (i8 a y).2
          have g2 := fun y => (i8 b y).2
          rw [hKa] at g1
          rw [hKb] at g2
          split
          · exact g1 _ q1 q2
          · exact g2 _ q1 q2
        · rw [zup_ne _ _ hz]; exact i8 z j
    · unfold zen
      show zen0 α dA (h.2.1 b).1 (h.2.1 b).2 (h.2.2.1 b) (zup h.2.2.2 b _ b) = _
      rw [hKb, zup_self]
  have hcst : zCst L xs (h.1, h.2.1, h.2.2.1, zup h.2.2.2 b (fun j => if dp.toNat ≤ j ∧ j < dp.toNat + n.toNat then h.2.2.2 a (sp.toNat + (j - dp.toNat)) else h.2.2.2 b j)) := fun z hz => ⟨(S.2.2.1 z hz).1, (S.2.2.1 z hz).2.1, by show zup h.2.2.2 b _ z = _; rw [zup_ne _ _ (by omega)]; exact (S.2.2.1 z hz).2.2⟩
  have fin' : ∀ (H1 : Heap) (locs1 : List Loc), va_P D zcl ((zws α dA h).set kb (qb, zen0 α dA k9 n2 (h.2.2.1 b) (fun j => if dp.toNat ≤ j ∧ j < dp.toNat + n.toNat then h.2.2.2 a (sp.toNat + (j - dp.toNat)) else h.2.2.2 b j))) H1 → va_S (zA b0) s.heap H1 locs1 → W p l e R s m args below meth c H1 locs1 cells slots QQ (F0 m (pc + 3) ls (t.map (zcv α))) := fun H1 locs1 hP hS1 =>
    k α H1 locs1 cells slots ls (fun _ _ => rfl) ⟨hrel H1 hP, hS1, hcst, S.2.2.2.1, S.tl.tl.tl.tl.tl.2.2.2.2.1, S.2.2.2.2.2⟩ (by omega) (by omega) (Nat.le_refl _)
  rcases hk9 with rfl | rfl
  · rw [zen_arr hKa (by decide)] at hka
    rw [zen_arr hKb (by decide)] at hkb
    refine va_copyi (ty := .int) B.1 B.2.1 hls B.own (B.ts _ hl) (B.ts _ hn) (B.ts _ hst) (B.ts _ hini) B.K (zws_P S.1) (zws_D S.1) S.2.1 ka kb 0 0 hka hkb (ztys_at (by decide)) (ztys_at (by decide)) rfl (neg hsc hs0) (neg hdc hd0) (neg hnc hn0) (by rw [e1, e3]; omega) (by rw [e1, e2]; omega) (fun _ _ => rfl) (by omega) hloc hd (fun H1 locs1 hP _ hS1 => fin' H1 locs1 ?_ hS1)
    rw [e1, e2, e3] at hP
    have ez : zen0 α dA 100 n2 (h.2.2.1 b) (fun j => if dp.toNat ≤ j ∧ j < dp.toNat + n.toNat then h.2.2.2 a (sp.toNat + (j - dp.toNat)) else h.2.2.2 b j) = Sum.inl (dA (100 - 100), n2, Sum.inl (va_cpy (fun j => Int32.ofInt (h.2.2.2 a j)) (fun j => Int32.ofInt (h.2.2.2 b j)) sp.toNat dp.toNat n.toNat)) := by
      show (Sum.inl (dA (100 - 100), n2, Sum.inl (fun j => Int32.ofInt _)) : va_E) = _
      congr 4
      funext j
      unfold va_cpy
      split <;> rfl
    rw [ez]
    exact hP
  · rw [zen_arr hKa (by decide)] at hka
    rw [zen_arr hKb (by decide)] at hkb
    refine va_copyl (ty := .long) B.1 B.2.1 hls B.own (B.ts _ hl) (B.ts _ hn) (B.ts _ hst) (B.ts _ hini) B.K (zws_P S.1) (zws_D S.1) S.2.1 ka kb 4 4 hka hkb (ztys_at (by decide)) (ztys_at (by decide)) rfl (neg hsc hs0) (neg hdc hd0) (neg hnc hn0) (by rw [e1, e3]; omega) (by rw [e1, e2]; omega) (fun _ _ => rfl) (by omega) hloc hd (fun H1 locs1 hP _ hS1 => fin' H1 locs1 ?_ hS1)
    rw [e1, e2, e3] at hP
    have ez : zen0 α dA 104 n2 (h.2.2.1 b) (fun j => if dp.toNat ≤ j ∧ j < dp.toNat + n.toNat then h.2.2.2 a (sp.toNat + (j - dp.toNat)) else h.2.2.2 b j) = Sum.inl (dA (104 - 100), n2, Sum.inr (Sum.inl (va_cpy (fun j => Int64.ofInt (h.2.2.2 a j)) (fun j => Int64.ofInt (h.2.2.2 b j)) sp.toNat dp.toNat n.toNat))) := by
      show (Sum.inl (dA (104 - 100), n2, Sum.inr (Sum.inl (fun j => Int64.ofInt _))) : va_E) = _
      congr 5
      funext j
      unfold va_cpy
      split <;> rfl
    rw [ez]
    exact hP
end ZREST
