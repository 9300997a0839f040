/-! SOUNDNESS 13: the ends of a frame; every fuel -/
section ZENDS
variable {b0 : Nat} {D : va_G} {dA : Nat → ClassId} {L : Nat} {xs : Nat → Int32} {l : Launch}
variable {p : Program} {e : Env} {R : Room} {s : State} {m : MethodId} {args : Array Value} {below : List Frame} {meth : Method} {c9 : Code} {α0 : zAd} {h0 : zH} {M : Nat} {α : zAd} {h : zH} {H : Heap} {locs : List Loc} {cells slots : Nat} {ls : Array Slot} {labs : List (Option zV)} {pc mc ms : Nat}
theorem znw_use {w : Cond} (hw : w ∈ znw) {s : State} {args : Array Value} (h : va_Nw w s) : w.before args s = true := by
  rcases znw_k w hw with ⟨a, i, x, g, rfl⟩ | ⟨a, i, b, n, d, g, rfl⟩ | ⟨a, b, rfl⟩ | ⟨x, rfl⟩
  · exact va_Nw.use rfl h
  · exact va_Nw.use rfl h
  · exact va_Nw.use rfl h
  · exact va_Nw.use rfl h
/-- a return -/
theorem zret_v (B0 : zFr p l R b0 D dA α0 L xs s m args meth c9 M) {st : List zV} (S : zSt b0 D dA L xs M s α h H locs ls labs st) (hα : ∀ a, a < h0.1 → α a = α0 a) (hc : cells ≤ mc) (hs : slots ≤ ms) {I : Instr} {len : Nat} {u : List Nat} (hd : decode (zby M) pc = .ok (I, len)) (hl1 : len = 1) (hL : zLK M pc I len u) {g : Prop} {v : Option zV} (hg : g)
    (hcase : (∃ x, I = .ireturn ∧ st = [.inl x] ∧ v = some (.inl x) ∧ ((u = [0] ∧ g = True) ∨ (u = [1] ∧ g = (x = 0 ∨ x = 1)) ∨ (u = [2] ∧ g = (zi2b x = x)) ∨ (u = [3] ∧ g = (zi2c x = x)))) ∨ (∃ x, I = .lreturn ∧ st = [.inr (.inl x)] ∧ v = some (.inr (.inl x))) ∨ (∃ x, I = .areturn ∧ st = [.inr (.inr x)] ∧ v = some (.inr (.inr x))) ∨ (I = .return_ ∧ st = [] ∧ v = none)) :
    W p l e R s m args below meth c9 H locs cells slots (vx_MQ below (zQc b0 D dA L xs α0 h0 (.inl v) h) (zXc b0 D dA L xs α0 h0 (.inl v) h) args s mc ms (zA b0)) (F0 m pc ls (st.map (zcv α))) := by
  subst hl1
  have hQ : ∀ t : State, t.heap = H → s.WarmedH t.vm → zQc b0 D dA L xs α0 h0 (.inl v) h args s (.returned (v.map (zcv α))) t := fun t ht _ => by
    refine ⟨α, ⟨va_S.F S.2.1 ht, hα, by rw [ht]; exact S.1, S.2.2.1⟩, rfl, fun w hw => ?_⟩
    subst hw
    rcases hcase with ⟨x, -, rfl, hv, -⟩ | ⟨x, -, rfl, hv⟩ | ⟨x, -, rfl, hv⟩ | ⟨-, -, hv⟩ <;> cases hv <;> exact S.2.2.2.2.1 _ List.mem_cons_self
  refine W.widen hc hs (vx_ret ?_)
  rcases hcase with ⟨x, rfl, rfl, rfl, hu⟩ | ⟨x, rfl, rfl, rfl⟩ | ⟨x, rfl, rfl, rfl⟩ | ⟨rfl, rfl, rfl⟩
  · rcases hL with ⟨hu2, hr⟩ | ⟨hu2, hr⟩ | ⟨hu2, hr⟩ | ⟨hu2, hr⟩
    · exact W.iret B0.1 B0.2.1 (by rw [B0.2.2.1, hr]) hQ S.2.1.2.2 hd B0.2.2.2.1
    · have hx : x = 0 ∨ x = 1 := by
        rcases hu with ⟨e, he⟩ | ⟨e, he⟩ | ⟨e, he⟩ | ⟨e, he⟩
        · rw [hu2] at e; cases e
        · rw [he] at hg; exact hg
        · rw [hu2] at e; cases e
        · rw [hu2] at e; cases e
      refine W.zret B0.1 B0.2.1 (by rw [B0.2.2.1, hr]) ?_ hQ S.2.1.2.2 hd B0.2.2.2.1
      rcases hx with rfl | rfl <;> rfl
    · have hx : zi2b x = x := by
        rcases hu with ⟨e, he⟩ | ⟨e, he⟩ | ⟨e, he⟩ | ⟨e, he⟩
        · rw [hu2] at e; cases e
        · rw [hu2] at e; cases e
        · rw [he] at hg; exact hg
        · rw [hu2] at e; cases e
      exact W.zret B0.1 B0.2.1 (by rw [B0.2.2.1, hr]) (by rw [narrow_byte, zi2b_eq hx]) hQ S.2.1.2.2 hd B0.2.2.2.1
    · have hx : zi2c x = x := by
        rcases hu with ⟨e, he⟩ | ⟨e, he⟩ | ⟨e, he⟩ | ⟨e, he⟩
        · rw [hu2] at e; cases e
        · rw [hu2] at e; cases e
        · rw [hu2] at e; cases e
        · rw [he] at hg; exact hg
      refine W.zret B0.1 B0.2.1 (by rw [B0.2.2.1, hr]) ?_ hQ S.2.1.2.2 hd B0.2.2.2.1
      show Value.int (Int32.ofInt x).toUInt32.toUInt16.toUInt32.toInt32 = _
      rw [← lg_i2c_nf, zi2c_eq hx]
  · exact W.lret B0.1 B0.2.1 (by rw [B0.2.2.1]; exact hL) hQ S.2.1.2.2 hd B0.2.2.2.1
  · obtain ⟨rt, hr, hrt⟩ := hL
    refine W.aret (rt := rt) B0.1 B0.2.1 (by rw [B0.2.2.1, hr]) hrt ?_ hQ S.2.1.2.2 hd B0.2.2.2.1
    show va_rf (α x) = .null ∨ ∃ a, va_rf (α x) = .ref a
    cases α x with
    | none => exact Or.inl rfl
    | some q => exact Or.inr ⟨q, rfl⟩
  · exact W.vret B0.1 B0.2.1 (by rw [B0.2.2.1]; exact hL) hQ S.2.1.2.2 hd B0.2.2.2.1
/-- athrow -/
theorem zret_t (B0 : zFr p l R b0 D dA α0 L xs s m args meth c9 M) (B : zFr p l R b0 D dA α L xs s m args meth c9 M) {a : Nat} {t : List zV} (S : zSt b0 D dA L xs M s α h H locs ls labs (.inr (.inr a) :: t)) (hα : ∀ a, a < h0.1 → α a = α0 a) (hc : cells ≤ mc) (hs : slots ≤ ms) (hd : decode (zby M) pc = .ok (.athrow, 1)) (hz : zhd M = none) (htb : zTb M c9 (.inr a)) (hg : 64 ≤ a ∧ (h.2.1 a).1 ≠ 0) {E : String} (hE : zCN h a = some E) :
    W p l e R s m args below meth c9 H locs cells slots (vx_MQ below (zQc b0 D dA L xs α0 h0 (.inr a) h) (zXc b0 D dA L xs α0 h0 (.inr a) h) args s mc ms (zA b0)) (F0 m pc ls ((.inr (.inr a) :: t : List zV).map (zcv α))) := by
  obtain ⟨q, hq⟩ := S.addr B hg.2
  obtain ⟨ce, c1, c2, c3⟩ := zthrown (s := s) S.1 B.K hg hE hq
  have ht : c9.exceptionTable.toList = [] := by
    have := htb (Or.inr ⟨a, rfl⟩)
    rw [hz] at this
    exact this
  rw [List.map_cons, show zcv α (.inr (.inr a)) = .ref q by show va_rf (α a) = _; rw [hq]; rfl]
  exact vx_athrow B0.1 B0.2.1 hd (vx_out (fun x hx => by rw [ht] at hx; cases hx) B0.2.2.2.1 c1 c2 c3 (fun t9 h9 _ => ⟨α, ⟨va_S.F S.2.1 h9, hα, by rw [h9]; exact S.1, S.2.2.1⟩, hq, hg, hE⟩) S.2.1.2.2 hc hs)
theorem zZq {C n d : String} {A : Nat → Prop} {U : State} {H : Heap} {r : Option Nat} (h : va_Z C n d (va_rf r) A U H) : va_Zq C n d A U H := by
  cases r with
  | none => exact Or.inl h
  | some t => exact Or.inr ⟨t, h⟩
/-- the pseudo throw -/
theorem zret_n (B0 : zFr p l R b0 D dA α0 L xs s m args meth c9 M) (B : zFr p l R b0 D dA α L xs s m args meth c9 M) (S : zSt b0 D dA L xs M s α h H locs ls labs []) (hle : h0.1 ≤ h.1) (hα : ∀ a, a < h0.1 → α a = α0 a) (hc : cells + 1 ≤ mc) (hs : slots + 64 ≤ ms) (hmc : mc ≤ R.cells) (hms : ms ≤ R.slots) {idx len : Nat} (hd : decode (zby M) pc = .ok (.new idx, len)) (hL : zLnse M pc idx len) (htb : zTb M c9 (.inr h.1)) :
    W p l e R s m args below meth c9 H locs cells slots (vx_MQ below (zQc b0 D dA L xs α0 h0 (.inr h.1) (znew h 24 0 1)) (zXc b0 D dA L xs α0 h0 (.inr h.1) (znew h 24 0 1)) args s mc ms (zA b0)) (F0 m pc ls []) := by
  obtain ⟨rfl, hz, hini, ic, d3, d4, d7, hlk, hN1, hN2⟩ := hL
  have ht : c9.exceptionTable.toList = [] := by
    have := htb (Or.inr ⟨_, rfl⟩)
    rw [hz] at this
    exact this
  obtain ⟨-, g2, g3, g4, g5, -⟩ := B.ctx.2.2.2.2.2.1
  have hsz : ls.size = c9.maxLocals := by rw [B.2.2.2.2.1]; exact zls_size S.2.2.2.1
  have h64 := S.1.1.1
  refine vx_throw0 (names := zNm) (cls := "java/util/NoSuchElementException") (A := zA b0) B.1 B.2.1 B.2.2.2.2.2.2.2.2.1 B.own (by decide +kernel) (by decide +kernel) (B.ts _ hlk) (B.ts _ hini) (fun w hw => ?_) (fun w hw => ?_) ⟨zZq g2, g3⟩ ⟨zZq g4, g5⟩ S.2.1 hsz hd d3 d4 d7 (fun x hx => by rw [ht] at hx; cases hx) ?_ ?_ (Nat.le_trans hc hmc) (by omega) B.2.2.2.1 ?_ S.2.1.2.2 hc (by omega)
  · rcases hN1 w hw with h1 | h1
    · exact B.ts _ h1
    · exact znw_use h1 (B.nw _ h1)
  · rcases List.mem_cons.mp hw with rfl | hw
    · have := (List.mem_filter.mp hlk).2
      unfold vx_ot
      rw [this, Bool.or_true]
    · rcases List.mem_cons.mp hw with rfl | hw
      · have := (List.mem_filter.mp hini).2
        unfold vx_ot
        rw [this, Bool.or_true]
      · exact hN2 w hw
  · have := B.2.2.2.2.2.2.2.2.2.2.2.1
    show 2 + 3 < R.frames
    omega
  · have := B.2.2.2.2.2.2.2.2.2.2.2.2
    show 0 + (13 * (2 + 1) + 42) ≤ R.locals
    omega
  · intro t hvm hsize hkeep hce
    obtain ⟨ce, f1, f2, f3⟩ := hce
    have hzc : zcl[24]? = some (RJ9, zT0, 0) := rfl
    have hcls : ce.cls = D.1 24 := by
      have h9 := (B.K.1 24 _ hzc).2.1
      exact Option.some.inj (f3.symm.trans h9)
    have hlast : va_at D zcl (H.size, (.inr (24, []) : va_E)) t.heap := ⟨_, hzc, ce, f1, hcls, f2, fun k hk => absurd hk (Nat.not_lt_zero k)⟩
    have hP0 := zws_P S.1
    have hD0 := zws_D S.1
    have hP : va_P D zcl (zws α dA h ++ [(H.size, (.inr (24, []) : va_E))]) t.heap := by
      intro k q hk
      rcases Nat.lt_or_ge k (zws α dA h).length with hlt | hge
      · rw [List.getElem?_append_left hlt] at hk
        have := hP0 k q hk
        exact va_at.kept this (hkeep _ this.lt)
      · rw [List.getElem?_append_right hge] at hk
        cases h9 : k - (zws α dA h).length with
        | zero => rw [h9] at hk; cases hk; exact hlast
        | succ j => rw [h9] at hk; cases hk
    have hb0 : b0 ≤ H.size := Nat.le_trans B.2.2.2.2.2.2.2.2.2.2.1 S.2.1.1
    have hD : va_D (zA b0) (zws α dA h ++ [(H.size, (.inr (24, []) : va_E))]) := by
      have cs : ∀ (k : Nat) (q : Nat × va_E), (zws α dA h ++ [(H.size, (.inr (24, []) : va_E))])[k]? = some q → ((zws α dA h)[k]? = some q ∧ q.1 < H.size) ∨ (k = (zws α dA h).length ∧ q.1 = H.size) := by
        intro k q hk
        rcases Nat.lt_or_ge k (zws α dA h).length with hlt | hge
        · rw [List.getElem?_append_left hlt] at hk
          exact Or.inl ⟨hk, (hP0 k q hk).lt⟩
        · rw [List.getElem?_append_right hge] at hk
          cases h9 : k - (zws α dA h).length with
          | zero => rw [h9] at hk; cases hk; exact Or.inr ⟨by omega, rfl⟩
          | succ j => rw [h9] at hk; cases hk
      refine ⟨fun i j pp qq hi hj e9 => ?_, fun k q hk => ?_⟩
      · rcases cs i pp hi with ⟨i1, i2⟩ | ⟨i1, i2⟩ <;> rcases cs j qq hj with ⟨j1, j2⟩ | ⟨j1, j2⟩
        · exact hD0.1 i j pp qq i1 j1 e9
        · omega
        · omega
        · omega
      · rcases cs k q hk with ⟨k1, k2⟩ | ⟨k1, k2⟩
        · exact hD0.2 k q k1
        · rw [k2]; exact hb0
    have hrel : zRel b0 D dA (zup α h.1 (some H.size)) (znew h 24 0 1) t.heap := by
      refine zrel_new S.1 hP hD (zinv_new S.1.1 Nat.zero_lt_one (by decide) (fun _ => ⟨_, hzc, rfl⟩) (fun h9 => absurd h9 (by decide))) (fun b hb => ⟨zup_ne _ _ hb, zup_ne _ _ hb, zup_ne _ _ hb⟩) ?_
      unfold zen
      rw [show (znew h 24 0 1).2.1 h.1 = (24, 0) from zup_self _ _ _]
      rfl
    refine ⟨zup α h.1 (some H.size), ⟨⟨Nat.le_trans S.2.1.1 hsize, fun q hq hA => (hkeep q (Nat.lt_of_lt_of_le hq S.2.1.1)).trans (S.2.1.2.1 q hq hA)⟩, fun a ha => (zup_ne _ _ (by omega)).trans (hα a ha), hrel, zcst_new S.2.2.1 h64 24 0 1⟩, zup_self _ _ _, ⟨h64, ?_⟩, ?_⟩
    · rw [show (znew h 24 0 1).2.1 h.1 = (24, 0) from zup_self _ _ _]
      decide
    · unfold zCN
      rw [show (znew h 24 0 1).2.1 h.1 = (24, 0) from zup_self _ _ _]
      rfl
end ZENDS
