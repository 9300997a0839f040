/-! SOUNDNESS 3: steps, an instruction a lemma (those of locals, stack, arithmetic, branches); printed by gen/gen_sound3.py -/
def zLc (α : zAd) (ls : Array Slot) (nL : Nat) (labs : List (Option zV)) : Prop := labs.length = nL ∧ ∃ lv : List (Nat × Value), lv_has ls nL lv ∧ ∀ (k : Nat) (v : zV), labs[k]? = some (some v) → (k, zcv α v) ∈ lv
def zSt (b0 : Nat) (D : va_G) (dA : Nat → ClassId) (L : Nat) (xs : Nat → Int32) (M : Nat) (s : State) (α : zAd) (h : zH) (H : Heap) (locs : List Loc) (ls : Array Slot) (labs : List (Option zV)) (st : List zV) : Prop :=
  zRel b0 D dA α h H ∧ va_S (zA b0) s.heap H locs ∧ zCst L xs h ∧ zLc α ls (zml M) labs ∧ (∀ v ∈ st, zVok h.1 v) ∧ (∀ (k : Nat) (v : zV), labs[k]? = some (some v) → zVok h.1 v)
def zFr (p : Program) (l : Launch) (R : Room) (b0 : Nat) (D : va_G) (dA : Nat → ClassId) (α : zAd) (L : Nat) (xs : Nat → Int32) (s : State) (m : MethodId) (args : Array Value) (meth : Method) (c : Code) (M : Nat) : Prop :=
  p.tables.exec = Jvm.exec ∧ c.code = zby M ∧ meth.sig.returnType = zrt M ∧ meth.locks = false ∧ c.maxLocals = zml M ∧ s.vm.findClass (zow M) = some m.cls ∧ (∀ w ∈ lw_all, w.before args s = true) ∧ ((znm M).name = "<init>" → meth.name = "<init>") ∧ l.stackTraces = false ∧
  zCtx b0 D dA α L xs s s.heap ∧ b0 ≤ s.heap.size ∧ 16 ≤ R.frames ∧ 1200 ≤ R.locals
def zKont (p : Program) (l : Launch) (e : Env) (R : Room) (s : State) (m : MethodId) (args : Array Value) (below : List Frame) (meth : Method) (c : Code) (QQ : State → Prop) (b0 : Nat) (D : va_G) (dA : Nat → ClassId) (L : Nat) (xs : Nat → Int32) (M : Nat) (α : zAd) (h : zH) (cells slots : Nat) (pc' : Nat) (labs' : List (Option zV)) (st' : List zV) (h' : zH) : Prop :=
  ∀ (α' : zAd) (H' : Heap) (locs' : List Loc) (cells' slots' : Nat) (ls' : Array Slot), (∀ a, a < h.1 → α' a = α a) → zSt b0 D dA L xs M s α' h' H' locs' ls' labs' st' → cells' ≤ cells + (h'.1 - h.1) → slots' ≤ slots + 64 * (h'.1 - h.1) → h.1 ≤ h'.1 →
    W p l e R s m args below meth c H' locs' cells' slots' QQ (F0 m pc' ls' (st'.map (zcv α')))
section ZSTEP
variable {p : Program} {l : Launch} {e : Env} {R : Room} {s : State} {m : MethodId} {args : Array Value} {below : List Frame} {meth : Method} {c : Code} {QQ : State → Prop} {b0 : Nat} {D : va_G} {dA : Nat → ClassId} {L : Nat} {xs : Nat → Int32} {M : Nat} {α : zAd} {h : zH} {H : Heap} {locs : List Loc} {cells slots : Nat} {ls : Array Slot} {labs : List (Option zV)} {pc : Nat} {t : List zV}
theorem zK_same {st : List zV} (S : zSt b0 D dA L xs M s α h H locs ls labs st) {pc' : Nat} {labs' : List (Option zV)} {st' : List zV} (k : zKont p l e R s m args below meth c QQ b0 D dA L xs M α h cells slots pc' labs' st' h) {ls' : Array Slot} (hl : zLc α ls' (zml M) labs') (hv : ∀ v ∈ st', zVok h.1 v) (hlv : ∀ (k : Nat) (v : zV), labs'[k]? = some (some v) → zVok h.1 v) :
    W p l e R s m args below meth c H locs cells slots QQ (F0 m pc' ls' (st'.map (zcv α))) :=
  k α H locs cells slots ls' (fun _ _ => rfl) ⟨S.1, S.2.1, S.2.2.1, hl, hv, hlv⟩ (by omega) (by omega) (Nat.le_refl _)
theorem zK_st {st : List zV} (S : zSt b0 D dA L xs M s α h H locs ls labs st) {pc' : Nat} {st' : List zV} (k : zKont p l e R s m args below meth c QQ b0 D dA L xs M α h cells slots pc' labs st' h) (hv : ∀ v ∈ st', zVok h.1 v) :
    W p l e R s m args below meth c H locs cells slots QQ (F0 m pc' ls (st'.map (zcv α))) := zK_same S k S.2.2.2.1 hv S.2.2.2.2.2
theorem zSt.tl {v : zV} {st : List zV} (S : zSt b0 D dA L xs M s α h H locs ls labs (v :: st)) : zSt b0 D dA L xs M s α h H locs ls labs st := ⟨S.1, S.2.1, S.2.2.1, S.2.2.2.1, fun w hw => S.2.2.2.2.1 w (List.mem_cons_of_mem _ hw), S.2.2.2.2.2⟩
theorem zSt.hd {v : zV} {st : List zV} (S : zSt b0 D dA L xs M s α h H locs ls labs (v :: st)) : zVok h.1 v := S.2.2.2.2.1 v List.mem_cons_self
theorem zok_cons {n : Nat} {v : zV} {st : List zV} (hv : zVok n v) (hs : ∀ w ∈ st, zVok n w) : ∀ w ∈ v :: st, zVok n w := fun w hw => (List.mem_cons.mp hw).elim (fun e => e ▸ hv) (hs w)
/-- a local is read -/
theorem zlc_at {nL : Nat} (hl : zLc α ls nL labs) {k : Nat} {v : zV} (hk : labs[k]? = some (some v)) : ls[k]? = some (.val (zcv α v)) := by
  obtain ⟨-, lv, h1, h2⟩ := hl
  exact h1.2.2 _ (h2 k v hk)
theorem zset1_len : ∀ (labs : List (Option zV)) (i : Nat) (v : zV), (zset1 labs i v).length = labs.length
  | [], _, _ => rfl
  | _ :: r, 0, v => rfl
  | w :: r, 1, v => by show (zset1 r 0 v).length + 1 = _; rw [zset1_len r 0 v]; rfl
  | w :: r, i + 2, v => by show (zset1 r (i + 1) v).length + 1 = _; rw [zset1_len r (i + 1) v]; rfl
theorem zset1_0 (r : List (Option zV)) (v : zV) (j : Nat) : (zset1 r 0 v)[j]? = if j = 0 then (r[0]?).map (fun _ => some v) else r[j]? := by
  cases r with
  | nil => cases j <;> rfl
  | cons w r => cases j <;> rfl
theorem zset1_at : ∀ (labs : List (Option zV)) (i : Nat) (v : zV) (j : Nat), (zset1 labs i v)[j]? = if j = i then (labs[i]?).map (fun _ => some v) else if j + 1 = i then (labs[j]?).map zkill else labs[j]?
  | [], i, v, j => by simp [zset1]
  | w :: r, 0, v, j => by
    rw [zset1_0]
    rw [if_neg (show ¬ j + 1 = 0 by omega)]
  | w :: r, 1, v, j => by
    show (zkill w :: zset1 r 0 v)[j]? = _
    cases j with
    | zero => simp
    | succ j =>
      rw [List.getElem?_cons_succ, zset1_0]
      cases j with
      | zero => simp
      | succ j => simp
  | w :: r, i + 2, v, j => by
    show (w :: zset1 r (i + 1) v)[j]? = _
    cases j with
    | zero => simp
    | succ j =>
      rw [List.getElem?_cons_succ, zset1_at r (i + 1) v j]
      simp
theorem zkill_some {w : Option zV} {v : zV} (h : zkill w = some v) : w = some v ∧ ∀ x, v ≠ .inr (.inl x) := by
  unfold zkill at h
  split at h
  · cases h
  · next hn =>
    exact ⟨h, fun x e => hn x (by rw [h, e])⟩
theorem zcv_cat (v : zV) : (zcv α v).category = 2 ↔ ∃ x, v = .inr (.inl x) := by
  rcases v with x | x | a
  · simp [zcv, Value.category]
  · simp [zcv, Value.category]
  · simp only [zcv]
    cases α a <;> simp [va_rf, Value.category]
/-- a local of one slot is written -/
theorem zlc_set1 {nL : Nat} (hl : zLc α ls nL labs) {i : Nat} {v : zV} (hi : i < nL) (hc : (zcv α v).category = 1) :
    ∃ ls', storeLocals ls i (zcv α v) = some ls' ∧ zLc α ls' nL (zset1 labs i v) := by
  obtain ⟨h0, lv, h1, h2⟩ := hl
  obtain ⟨ls', e1, e2⟩ := lv_store1 h1 hi hc
  refine ⟨ls', e1, by rw [zset1_len, h0], _, e2, fun k w hk => ?_⟩
  rw [zset1_at] at hk
  by_cases hki : k = i
  · rw [if_pos hki] at hk
    cases hz : labs[i]? with
    | none => rw [hz] at hk; cases hk
    | some z =>
      rw [hz] at hk
      cases hk
      rw [hki]
      exact List.mem_cons_self
  · rw [if_neg hki] at hk
    refine List.mem_cons_of_mem _ (List.mem_filter.mpr ?_)
    by_cases hk1 : k + 1 = i
    · rw [if_pos hk1] at hk
      cases hz : labs[k]? with
      | none => rw [hz] at hk; cases hk
      | some z =>
        rw [hz] at hk
        obtain ⟨z1, z2⟩ := zkill_some (Option.some.inj hk)
        refine ⟨h2 k w (by rw [hz, z1]), ?_⟩
        have hc2 : ¬ (zcv α w).category = 2 := fun q => by obtain ⟨x, hx⟩ := (zcv_cat w).mp q; exact z2 x hx
        simp [hki, hc2]
    · rw [if_neg hk1] at hk
      exact ⟨h2 k w hk, by simp [hki, hk1]⟩
theorem zset1_ok {n i : Nat} {v : zV} (hlv : ∀ (k : Nat) (v : zV), labs[k]? = some (some v) → zVok n v) (hv : zVok n v) : ∀ (k : Nat) (w : zV), (zset1 labs i v)[k]? = some (some w) → zVok n w := by
  intro k w hk
  rw [zset1_at] at hk
  by_cases hki : k = i
  · rw [if_pos hki] at hk
    cases hz : labs[i]? with
    | none => rw [hz] at hk; cases hk
    | some z => rw [hz] at hk; cases hk; exact hv
  · rw [if_neg hki] at hk
    by_cases hk1 : k + 1 = i
    · rw [if_pos hk1] at hk
      cases hz : labs[k]? with
      | none => rw [hz] at hk; cases hk
      | some z => rw [hz] at hk; exact hlv k w (by rw [hz, (zkill_some (Option.some.inj hk)).1])
    · rw [if_neg hk1] at hk
      exact hlv k w hk
theorem zset2_len : ∀ (labs : List (Option zV)) (i : Nat) (v : zV), (zset2 labs i v).length = labs.length
  | [], _, _ => rfl
  | _ :: r, 0, v => by show (r.set 0 none).length + 1 = _; rw [List.length_set]; rfl
  | w :: r, 1, v => by show (zset2 r 0 v).length + 1 = _; rw [zset2_len r 0 v]; rfl
  | w :: r, i + 2, v => by show (zset2 r (i + 1) v).length + 1 = _; rw [zset2_len r (i + 1) v]; rfl
theorem zset2_0 (r : List (Option zV)) (v : zV) (j : Nat) : (zset2 r 0 v)[j]? = if j = 0 then (r[0]?).map (fun _ => some v) else if j = 1 then (r[1]?).map (fun _ => none) else r[j]? := by
  cases r with
  | nil => cases j <;> simp [zset2]
  | cons w r =>
    show (some v :: r.set 0 none)[j]? = _
    cases j with
    | zero => rfl
    | succ j =>
      rw [List.getElem?_cons_succ]
      cases j with
      | zero => cases r <;> simp
      | succ j => cases r <;> simp
theorem zset2_at : ∀ (labs : List (Option zV)) (i : Nat) (v : zV) (j : Nat), (zset2 labs i v)[j]? = if j = i then (labs[i]?).map (fun _ => some v) else if j = i + 1 then (labs[j]?).map (fun _ => none) else if j + 1 = i then (labs[j]?).map zkill else labs[j]?
  | [], i, v, j => by simp [zset2]
  | w :: r, 0, v, j => by
    rw [zset2_0]
    by_cases h0 : j = 0
    · simp [h0]
    · by_cases h1 : j = 1
      · simp [h1]
      · simp [h0, h1]
  | w :: r, 1, v, j => by
    show (zkill w :: zset2 r 0 v)[j]? = _
    cases j with
    | zero => simp
    | succ j =>
      rw [List.getElem?_cons_succ, zset2_0]
      cases j with
      | zero => simp
      | succ j => cases j <;> simp
  | w :: r, i + 2, v, j => by
    show (w :: zset2 r (i + 1) v)[j]? = _
    cases j with
    | zero => simp
    | succ j =>
      rw [List.getElem?_cons_succ, zset2_at r (i + 1) v j]
      simp
theorem zlc_set2 {nL : Nat} (hl : zLc α ls nL labs) {i : Nat} {v : zV} (hi : i + 1 < nL) (hc : (zcv α v).category = 2) :
    ∃ ls', storeLocals ls i (zcv α v) = some ls' ∧ zLc α ls' nL (zset2 labs i v) := by
  obtain ⟨h0, lv, h1, h2⟩ := hl
  obtain ⟨ls', e1, e2⟩ := lv_store2 h1 hi hc
  refine ⟨ls', e1, by rw [zset2_len, h0], _, e2, fun k w hk => ?_⟩
  rw [zset2_at] at hk
  by_cases hki : k = i
  · rw [if_pos hki] at hk
    cases hz : labs[i]? with
    | none => rw [hz] at hk; cases hk
    | some z =>
      rw [hz] at hk
      cases hk
      rw [hki]
      exact List.mem_cons_self
  · rw [if_neg hki] at hk
    by_cases hk2 : k = i + 1
    · rw [if_pos hk2] at hk
      cases hz : labs[k]? with
      | none => rw [hz] at hk; cases hk
      | some z => rw [hz] at hk; cases hk
    · rw [if_neg hk2] at hk
      refine List.mem_cons_of_mem _ (List.mem_filter.mpr ?_)
      by_cases hk1 : k + 1 = i
      · rw [if_pos hk1] at hk
        cases hz : labs[k]? with
        | none => rw [hz] at hk; cases hk
        | some z =>
          rw [hz] at hk
          obtain ⟨z1, z2⟩ := zkill_some (Option.some.inj hk)
          refine ⟨h2 k w (by rw [hz, z1]), ?_⟩
          have hc2 : ¬ (zcv α w).category = 2 := fun q => by obtain ⟨x, hx⟩ := (zcv_cat w).mp q; exact z2 x hx
          simp [hki, hk2, hc2]
      · rw [if_neg hk1] at hk
        exact ⟨h2 k w hk, by simp [hki, hk1, hk2]⟩
theorem zset2_ok {n i : Nat} {v : zV} (hlv : ∀ (k : Nat) (v : zV), labs[k]? = some (some v) → zVok n v) (hv : zVok n v) : ∀ (k : Nat) (w : zV), (zset2 labs i v)[k]? = some (some w) → zVok n w := by
  intro k w hk
  rw [zset2_at] at hk
  by_cases hki : k = i
  · rw [if_pos hki] at hk
    cases hz : labs[i]? with
    | none => rw [hz] at hk; cases hk
    | some z => rw [hz] at hk; cases hk; exact hv
  · rw [if_neg hki] at hk
    by_cases hk2 : k = i + 1
    · rw [if_pos hk2] at hk
      cases hz : labs[k]? with
      | none => rw [hz] at hk; cases hk
      | some z => rw [hz] at hk; cases hk
    · rw [if_neg hk2] at hk
      by_cases hk1 : k + 1 = i
      · rw [if_pos hk1] at hk
        cases hz : labs[k]? with
        | none => rw [hz] at hk; cases hk
        | some z => rw [hz] at hk; exact hlv k w (by rw [hz, (zkill_some (Option.some.inj hk)).1])
      · rw [if_neg hk1] at hk
        exact hlv k w hk
theorem zlc_mk1 {nL : Nat} (hl : zLc α ls nL labs) {lv : List (Nat × Value)} (h1 : lv_has ls nL lv) (h2 : ∀ (k : Nat) (v : zV), labs[k]? = some (some v) → (k, zcv α v) ∈ lv) {ls' : Array Slot} {i : Nat} {v : zV} (h3 : lv_has ls' nL ((i, zcv α v) :: lv.filter (fun q => !(q.1 == i) && !(q.1 + 1 == i && q.2.category == 2)))) : zLc α ls' nL (zset1 labs i v) := by
  refine ⟨by rw [zset1_len, hl.1], _, h3, fun k w hk => ?_⟩
  rw [zset1_at] at hk
  by_cases hki : k = i
  · rw [if_pos hki] at hk
    cases hz : labs[i]? with
    | none => rw [hz] at hk; cases hk
    | some z =>
      rw [hz] at hk
      cases hk
      rw [hki]
      exact List.mem_cons_self
  · rw [if_neg hki] at hk
    refine List.mem_cons_of_mem _ (List.mem_filter.mpr ?_)
    by_cases hk1 : k + 1 = i
    · rw [if_pos hk1] at hk
      cases hz : labs[k]? with
      | none => rw [hz] at hk; cases hk
      | some z =>
        rw [hz] at hk
        obtain ⟨z1, z2⟩ := zkill_some (Option.some.inj hk)
        refine ⟨h2 k w (by rw [hz, z1]), ?_⟩
        have hc2 : ¬ (zcv α w).category = 2 := fun q => by obtain ⟨x, hx⟩ := (zcv_cat w).mp q; exact z2 x hx
        simp [hki, hc2]
    · rw [if_neg hk1] at hk
      exact ⟨h2 k w hk, by simp [hki, hk1]⟩
theorem zlc_mk2 {nL : Nat} (hl : zLc α ls nL labs) {lv : List (Nat × Value)} (h1 : lv_has ls nL lv) (h2 : ∀ (k : Nat) (v : zV), labs[k]? = some (some v) → (k, zcv α v) ∈ lv) {ls' : Array Slot} {i : Nat} {v : zV} (h3 : lv_has ls' nL ((i, zcv α v) :: lv.filter (fun q => !(q.1 == i) && (!(q.1 == i + 1) && !(q.1 + 1 == i && q.2.category == 2))))) : zLc α ls' nL (zset2 labs i v) := by
  refine ⟨by rw [zset2_len, hl.1], _, h3, fun k w hk => ?_⟩
  rw [zset2_at] at hk
  by_cases hki : k = i
  · rw [if_pos hki] at hk
    cases hz : labs[i]? with
    | none => rw [hz] at hk; cases hk
    | some z =>
      rw [hz] at hk
      cases hk
      rw [hki]
      exact List.mem_cons_self
  · rw [if_neg hki] at hk
    by_cases hk2 : k = i + 1
    · rw [if_pos hk2] at hk
      cases hz : labs[k]? with
      | none => rw [hz] at hk; cases hk
      | some z => rw [hz] at hk; cases hk
    · rw [if_neg hk2] at hk
      refine List.mem_cons_of_mem _ (List.mem_filter.mpr ?_)
      by_cases hk1 : k + 1 = i
      · rw [if_pos hk1] at hk
        cases hz : labs[k]? with
        | none => rw [hz] at hk; cases hk
        | some z =>
          rw [hz] at hk
          obtain ⟨z1, z2⟩ := zkill_some (Option.some.inj hk)
          refine ⟨h2 k w (by rw [hz, z1]), ?_⟩
          have hc2 : ¬ (zcv α w).category = 2 := fun q => by obtain ⟨x, hx⟩ := (zcv_cat w).mp q; exact z2 x hx
          simp [hki, hk2, hc2]
      · rw [if_neg hk1] at hk
        exact ⟨h2 k w hk, by simp [hki, hk1, hk2]⟩
theorem zlook_eq : ∀ (ps : List (Int × Int)) (d x : Int), Op.lookupswitch.offset ps d x = zlook ps d x := by
  intro ps d x
  induction ps with
  | nil => rfl
  | cons q r ih =>
    rw [show Op.lookupswitch.offset (q :: r) d x = if q.1 = x then q.2 else Op.lookupswitch.offset r d x from rfl, show zlook (q :: r) d x = if x = q.1 then q.2 else zlook r d x from rfl, ih]
    by_cases hq : x = q.1
    · rw [if_pos hq, if_pos hq.symm]
    · rw [if_neg hq, if_neg (fun z => hq z.symm)]
theorem zlook_pos : ∀ (ps : List (Int × Int)) (d x : Int), (∀ o ∈ ps, 0 ≤ (pc : Int) + o.2) → 0 ≤ (pc : Int) + d → 0 ≤ (pc : Int) + zlook ps d x := by
  intro ps d x hp hd
  induction ps with
  | nil => exact hd
  | cons q r ih =>
    unfold zlook
    split
    · exact hp q List.mem_cons_self
    · exact ih (fun o ho => hp o (List.mem_cons_of_mem _ ho))
theorem zo_iconst (B : zFr p l R b0 D dA α L xs s m args meth c M) {i : Int} (hi : zC32 i) (S : zSt b0 D dA L xs M s α h H locs ls labs (t)) (hd : decode (zby M) pc = .ok (.iconst i, 1))  (k : zKont p l e R s m args below meth c QQ b0 D dA L xs M α h cells slots (pc + 1) (labs) (.inl i :: t) h) : W p l e R s m args below meth c H locs cells slots QQ (F0 m pc ls ((t).map (zcv α))) := by
  exact lv_iconst B.1 B.2.1 hd rfl (zK_st S k (zok_cons hi S.2.2.2.2.1))
theorem zo_bipush (B : zFr p l R b0 D dA α L xs s m args meth c M) {i : Int} (hi : zC32 i) (h8 : (Int8.ofInt i).toInt32 = Int32.ofInt i) (S : zSt b0 D dA L xs M s α h H locs ls labs (t)) (hd : decode (zby M) pc = .ok (.bipush i, 2))  (k : zKont p l e R s m args below meth c QQ b0 D dA L xs M α h cells slots (pc + 2) (labs) (.inl i :: t) h) : W p l e R s m args below meth c H locs cells slots QQ (F0 m pc ls ((t).map (zcv α))) := by
  exact lv_bipush B.1 B.2.1 hd h8 (zK_st S k (zok_cons hi S.2.2.2.2.1))
theorem zo_sipush (B : zFr p l R b0 D dA α L xs s m args meth c M) {i : Int} (hi : zC32 i) (h8 : (Int16.ofInt i).toInt32 = Int32.ofInt i) (S : zSt b0 D dA L xs M s α h H locs ls labs (t)) (hd : decode (zby M) pc = .ok (.sipush i, 3))  (k : zKont p l e R s m args below meth c QQ b0 D dA L xs M α h cells slots (pc + 3) (labs) (.inl i :: t) h) : W p l e R s m args below meth c H locs cells slots QQ (F0 m pc ls ((t).map (zcv α))) := by
  exact lv_sipush B.1 B.2.1 hd h8 (zK_st S k (zok_cons hi S.2.2.2.2.1))
theorem zo_lconst (B : zFr p l R b0 D dA α L xs s m args meth c M) {i : Fin 2} (S : zSt b0 D dA L xs M s α h H locs ls labs (t)) (hd : decode (zby M) pc = .ok (.lconst i, 1))  (k : zKont p l e R s m args below meth c QQ b0 D dA L xs M α h cells slots (pc + 1) (labs) (.inr (.inl (i.val : Int)) :: t) h) : W p l e R s m args below meth c H locs cells slots QQ (F0 m pc ls ((t).map (zcv α))) := by
  refine lv_lconst B.1 B.2.1 hd (v := Int64.ofInt (i.val : Int)) (by exact Int64.ofInt_eq_ofNat.symm) (zK_st S k (zok_cons ?_ S.2.2.2.2.1))
  have := i.isLt
  show zC64 _
  unfold zC64; omega
theorem zo_anull (B : zFr p l R b0 D dA α L xs s m args meth c M)  (S : zSt b0 D dA L xs M s α h H locs ls labs (t)) (hd : decode (zby M) pc = .ok (.aconst_null, 1))  (k : zKont p l e R s m args below meth c QQ b0 D dA L xs M α h cells slots (pc + 1) (labs) (.inr (.inr 0) :: t) h) : W p l e R s m args below meth c H locs cells slots QQ (F0 m pc ls ((t).map (zcv α))) := by
  have h0 : zcv α (.inr (.inr 0)) = .null := by show va_rf (α 0) = _; rw [S.1.1.2.1]; rfl
  have kk := zK_st S k (zok_cons (show (0 : Nat) < h.1 by have := S.1.1.1; omega) S.2.2.2.2.1)
  rw [List.map_cons, h0] at kk
  exact lv_null B.1 B.2.1 hd kk
theorem zo_iload (B : zFr p l R b0 D dA α L xs s m args meth c M) {i : Nat} {x : Int} (S : zSt b0 D dA L xs M s α h H locs ls labs (t)) (hd : decode (zby M) pc = .ok (.iload i, 2)) (hx : labs[i]? = some (some (.inl x))) (k : zKont p l e R s m args below meth c QQ b0 D dA L xs M α h cells slots (pc + 2) (labs) (.inl x :: t) h) : W p l e R s m args below meth c H locs cells slots QQ (F0 m pc ls ((t).map (zcv α))) := by
  exact lv_iload B.1 B.2.1 hd (zlc_at S.2.2.2.1 hx) (zK_st S k (zok_cons (S.2.2.2.2.2 _ _ hx) S.2.2.2.2.1))
theorem zo_lload (B : zFr p l R b0 D dA α L xs s m args meth c M) {i : Nat} {x : Int} (S : zSt b0 D dA L xs M s α h H locs ls labs (t)) (hd : decode (zby M) pc = .ok (.lload i, 2)) (hx : labs[i]? = some (some (.inr (.inl x)))) (k : zKont p l e R s m args below meth c QQ b0 D dA L xs M α h cells slots (pc + 2) (labs) (.inr (.inl x) :: t) h) : W p l e R s m args below meth c H locs cells slots QQ (F0 m pc ls ((t).map (zcv α))) := by
  exact lv_lload B.1 B.2.1 hd (zlc_at S.2.2.2.1 hx) (zK_st S k (zok_cons (S.2.2.2.2.2 _ _ hx) S.2.2.2.2.1))
theorem zo_aload (B : zFr p l R b0 D dA α L xs s m args meth c M) {i : Nat} {x : Nat} (S : zSt b0 D dA L xs M s α h H locs ls labs (t)) (hd : decode (zby M) pc = .ok (.aload i, 2)) (hx : labs[i]? = some (some (.inr (.inr x)))) (k : zKont p l e R s m args below meth c QQ b0 D dA L xs M α h cells slots (pc + 2) (labs) (.inr (.inr x) :: t) h) : W p l e R s m args below meth c H locs cells slots QQ (F0 m pc ls ((t).map (zcv α))) := by
  have hl := zlc_at S.2.2.2.1 hx
  have kk := zK_st S k (zok_cons (S.2.2.2.2.2 _ _ hx) S.2.2.2.2.1)
  simp only [List.map_cons, zcv] at hl kk
  cases ha : α x with
  | none => rw [ha] at hl kk; exact lv_aloadN B.1 B.2.1 hd hl kk
  | some q => rw [ha] at hl kk; exact lv_aload B.1 B.2.1 hd hl kk
theorem zo_iload_n (B : zFr p l R b0 D dA α L xs s m args meth c M) {i : Fin 4} {x : Int} (S : zSt b0 D dA L xs M s α h H locs ls labs (t)) (hd : decode (zby M) pc = .ok (.iload_n i, 1)) (hx : labs[i.val]? = some (some (.inl x))) (k : zKont p l e R s m args below meth c QQ b0 D dA L xs M α h cells slots (pc + 1) (labs) (.inl x :: t) h) : W p l e R s m args below meth c H locs cells slots QQ (F0 m pc ls ((t).map (zcv α))) := by
  exact lv_iload_n B.1 B.2.1 hd rfl (zlc_at S.2.2.2.1 hx) (zK_st S k (zok_cons (S.2.2.2.2.2 _ _ hx) S.2.2.2.2.1))
theorem zo_lload_n (B : zFr p l R b0 D dA α L xs s m args meth c M) {i : Fin 4} {x : Int} (S : zSt b0 D dA L xs M s α h H locs ls labs (t)) (hd : decode (zby M) pc = .ok (.lload_n i, 1)) (hx : labs[i.val]? = some (some (.inr (.inl x)))) (k : zKont p l e R s m args below meth c QQ b0 D dA L xs M α h cells slots (pc + 1) (labs) (.inr (.inl x) :: t) h) : W p l e R s m args below meth c H locs cells slots QQ (F0 m pc ls ((t).map (zcv α))) := by
  exact lv_lload_n B.1 B.2.1 hd rfl (zlc_at S.2.2.2.1 hx) (zK_st S k (zok_cons (S.2.2.2.2.2 _ _ hx) S.2.2.2.2.1))
theorem zo_aload_n (B : zFr p l R b0 D dA α L xs s m args meth c M) {i : Fin 4} {x : Nat} (S : zSt b0 D dA L xs M s α h H locs ls labs (t)) (hd : decode (zby M) pc = .ok (.aload_n i, 1)) (hx : labs[i.val]? = some (some (.inr (.inr x)))) (k : zKont p l e R s m args below meth c QQ b0 D dA L xs M α h cells slots (pc + 1) (labs) (.inr (.inr x) :: t) h) : W p l e R s m args below meth c H locs cells slots QQ (F0 m pc ls ((t).map (zcv α))) := by
  have hl := zlc_at S.2.2.2.1 hx
  have kk := zK_st S k (zok_cons (S.2.2.2.2.2 _ _ hx) S.2.2.2.2.1)
  simp only [List.map_cons, zcv] at hl kk
  cases ha : α x with
  | none => rw [ha] at hl kk; exact lv_aload_nN B.1 B.2.1 hd rfl hl kk
  | some q => rw [ha] at hl kk; exact lv_aload_n B.1 B.2.1 hd rfl hl kk
theorem zo_istore (B : zFr p l R b0 D dA α L xs s m args meth c M) {i : Nat} {x : Int} (hi : i < zml M) (S : zSt b0 D dA L xs M s α h H locs ls labs (.inl x :: t)) (hd : decode (zby M) pc = .ok (.istore i, 2))  (k : zKont p l e R s m args below meth c QQ b0 D dA L xs M α h cells slots (pc + 2) (zset1 labs i (.inl x)) (t) h) : W p l e R s m args below meth c H locs cells slots QQ (F0 m pc ls ((.inl x :: t).map (zcv α))) := by
  obtain ⟨hL, lv, h1, h2⟩ := S.2.2.2.1
  have kk := fun (ls' : Array Slot) (h3 : lv_has ls' (zml M) ((i, zcv α (.inl x)) :: lv.filter (fun q => !(q.1 == i) && !(q.1 + 1 == i && q.2.category == 2)))) => zK_same S k (ls' := ls') (zlc_mk1 S.2.2.2.1 h1 h2 h3) S.tl.2.2.2.2.1 (zset1_ok S.2.2.2.2.2 S.hd)
  exact lv_istore B.1 B.2.1 hd h1 hi rfl kk
theorem zo_istore_n (B : zFr p l R b0 D dA α L xs s m args meth c M) {i : Fin 4} {x : Int} (hi : i.val < zml M) (S : zSt b0 D dA L xs M s α h H locs ls labs (.inl x :: t)) (hd : decode (zby M) pc = .ok (.istore_n i, 1))  (k : zKont p l e R s m args below meth c QQ b0 D dA L xs M α h cells slots (pc + 1) (zset1 labs i.val (.inl x)) (t) h) : W p l e R s m args below meth c H locs cells slots QQ (F0 m pc ls ((.inl x :: t).map (zcv α))) := by
  obtain ⟨hL, lv, h1, h2⟩ := S.2.2.2.1
  have kk := fun (ls' : Array Slot) (h3 : lv_has ls' (zml M) ((i.val, zcv α (.inl x)) :: lv.filter (fun q => !(q.1 == i.val) && !(q.1 + 1 == i.val && q.2.category == 2)))) => zK_same S k (ls' := ls') (zlc_mk1 S.2.2.2.1 h1 h2 h3) S.tl.2.2.2.2.1 (zset1_ok S.2.2.2.2.2 S.hd)
  exact lv_istore_n B.1 B.2.1 hd rfl h1 hi rfl kk
theorem zo_astore (B : zFr p l R b0 D dA α L xs s m args meth c M) {i : Nat} {x : Nat} (hi : i < zml M) (S : zSt b0 D dA L xs M s α h H locs ls labs (.inr (.inr x) :: t)) (hd : decode (zby M) pc = .ok (.astore i, 2))  (k : zKont p l e R s m args below meth c QQ b0 D dA L xs M α h cells slots (pc + 2) (zset1 labs i (.inr (.inr x))) (t) h) : W p l e R s m args below meth c H locs cells slots QQ (F0 m pc ls ((.inr (.inr x) :: t).map (zcv α))) := by
  obtain ⟨hL, lv, h1, h2⟩ := S.2.2.2.1
  have kk := fun (ls' : Array Slot) (h3 : lv_has ls' (zml M) ((i, zcv α (.inr (.inr x))) :: lv.filter (fun q => !(q.1 == i) && !(q.1 + 1 == i && q.2.category == 2)))) => zK_same S k (ls' := ls') (zlc_mk1 S.2.2.2.1 h1 h2 h3) S.tl.2.2.2.2.1 (zset1_ok S.2.2.2.2.2 S.hd)
  simp only [List.map_cons, zcv] at kk ⊢
  cases ha : α x with
  | none => rw [ha] at kk; exact lv_astoreN B.1 B.2.1 hd h1 hi rfl kk
  | some q => rw [ha] at kk; exact lv_astore B.1 B.2.1 hd h1 hi rfl kk
theorem zo_astore_n (B : zFr p l R b0 D dA α L xs s m args meth c M) {i : Fin 4} {x : Nat} (hi : i.val < zml M) (S : zSt b0 D dA L xs M s α h H locs ls labs (.inr (.inr x) :: t)) (hd : decode (zby M) pc = .ok (.astore_n i, 1))  (k : zKont p l e R s m args below meth c QQ b0 D dA L xs M α h cells slots (pc + 1) (zset1 labs i.val (.inr (.inr x))) (t) h) : W p l e R s m args below meth c H locs cells slots QQ (F0 m pc ls ((.inr (.inr x) :: t).map (zcv α))) := by
  obtain ⟨hL, lv, h1, h2⟩ := S.2.2.2.1
  have kk := fun (ls' : Array Slot) (h3 : lv_has ls' (zml M) ((i.val, zcv α (.inr (.inr x))) :: lv.filter (fun q => !(q.1 == i.val) && !(q.1 + 1 == i.val && q.2.category == 2)))) => zK_same S k (ls' := ls') (zlc_mk1 S.2.2.2.1 h1 h2 h3) S.tl.2.2.2.2.1 (zset1_ok S.2.2.2.2.2 S.hd)
  simp only [List.map_cons, zcv] at kk ⊢
  cases ha : α x with
  | none => rw [ha] at kk; exact lv_astore_nN B.1 B.2.1 hd rfl h1 hi rfl kk
  | some q => rw [ha] at kk; exact lv_astore_n B.1 B.2.1 hd rfl h1 hi rfl kk
theorem zo_lstore (B : zFr p l R b0 D dA α L xs s m args meth c M) {i : Nat} {x : Int} (hi : i + 1 < zml M) (S : zSt b0 D dA L xs M s α h H locs ls labs (.inr (.inl x) :: t)) (hd : decode (zby M) pc = .ok (.lstore i, 2))  (k : zKont p l e R s m args below meth c QQ b0 D dA L xs M α h cells slots (pc + 2) (zset2 labs i (.inr (.inl x))) (t) h) : W p l e R s m args below meth c H locs cells slots QQ (F0 m pc ls ((.inr (.inl x) :: t).map (zcv α))) := by
  obtain ⟨hL, lv, h1, h2⟩ := S.2.2.2.1
  have kk := fun (ls' : Array Slot) (h3 : lv_has ls' (zml M) ((i, zcv α (.inr (.inl x))) :: lv.filter (fun q => !(q.1 == i) && (!(q.1 == i + 1) && !(q.1 + 1 == i && q.2.category == 2))))) => zK_same S k (ls' := ls') (zlc_mk2 S.2.2.2.1 h1 h2 h3) S.tl.2.2.2.2.1 (zset2_ok S.2.2.2.2.2 S.hd)
  exact lv_lstore B.1 B.2.1 hd h1 hi rfl kk
theorem zo_lstore_n (B : zFr p l R b0 D dA α L xs s m args meth c M) {i : Fin 4} {x : Int} (hi : i.val + 1 < zml M) (S : zSt b0 D dA L xs M s α h H locs ls labs (.inr (.inl x) :: t)) (hd : decode (zby M) pc = .ok (.lstore_n i, 1))  (k : zKont p l e R s m args below meth c QQ b0 D dA L xs M α h cells slots (pc + 1) (zset2 labs i.val (.inr (.inl x))) (t) h) : W p l e R s m args below meth c H locs cells slots QQ (F0 m pc ls ((.inr (.inl x) :: t).map (zcv α))) := by
  obtain ⟨hL, lv, h1, h2⟩ := S.2.2.2.1
  have kk := fun (ls' : Array Slot) (h3 : lv_has ls' (zml M) ((i.val, zcv α (.inr (.inl x))) :: lv.filter (fun q => !(q.1 == i.val) && (!(q.1 == i.val + 1) && !(q.1 + 1 == i.val && q.2.category == 2))))) => zK_same S k (ls' := ls') (zlc_mk2 S.2.2.2.1 h1 h2 h3) S.tl.2.2.2.2.1 (zset2_ok S.2.2.2.2.2 S.hd)
  exact lv_lstore_n B.1 B.2.1 hd rfl h1 hi rfl kk
theorem zo_iinc (B : zFr p l R b0 D dA α L xs s m args meth c M) {i : Nat} {n x : Int} (hi : i < zml M) (S : zSt b0 D dA L xs M s α h H locs ls labs (t)) (hd : decode (zby M) pc = .ok (.iinc i n, 3)) (hx : labs[i]? = some (some (.inl x))) (k : zKont p l e R s m args below meth c QQ b0 D dA L xs M α h cells slots (pc + 3) (zset1 labs i (.inl (zw (x + n)))) (t) h) : W p l e R s m args below meth c H locs cells slots QQ (F0 m pc ls ((t).map (zcv α))) := by
  obtain ⟨hL, lv, h1, h2⟩ := S.2.2.2.1
  obtain ⟨j, hj⟩ := List.getElem?_of_mem (h2 _ _ hx)
  exact lv_iinc B.1 B.2.1 hd h1 hj (v := Int32.ofInt (zw (x + n))) (zi_add x n).symm hi rfl (fun ls' h3 => zK_same S k (ls' := ls') (zlc_mk1 S.2.2.2.1 h1 h2 h3) S.2.2.2.2.1 (zset1_ok S.2.2.2.2.2 (zw_c _)))
theorem zo_iadd (B : zFr p l R b0 D dA α L xs s m args meth c M) {x y : Int} (S : zSt b0 D dA L xs M s α h H locs ls labs (.inl y :: .inl x :: t)) (hd : decode (zby M) pc = .ok (.iadd, 1))  (k : zKont p l e R s m args below meth c QQ b0 D dA L xs M α h cells slots (pc + 1) (labs) (.inl (zw (x + y)) :: t) h) : W p l e R s m args below meth c H locs cells slots QQ (F0 m pc ls ((.inl y :: .inl x :: t).map (zcv α))) := by
  have kk := zK_st S k (zok_cons (zw_c _) S.tl.tl.2.2.2.2.1)
  simp only [List.map_cons, zcv, zi_add] at kk ⊢
  exact lv_iadd B.1 B.2.1 hd kk
theorem zo_isub (B : zFr p l R b0 D dA α L xs s m args meth c M) {x y : Int} (S : zSt b0 D dA L xs M s α h H locs ls labs (.inl y :: .inl x :: t)) (hd : decode (zby M) pc = .ok (.isub, 1))  (k : zKont p l e R s m args below meth c QQ b0 D dA L xs M α h cells slots (pc + 1) (labs) (.inl (zw (x - y)) :: t) h) : W p l e R s m args below meth c H locs cells slots QQ (F0 m pc ls ((.inl y :: .inl x :: t).map (zcv α))) := by
  have kk := zK_st S k (zok_cons (zw_c _) S.tl.tl.2.2.2.2.1)
  simp only [List.map_cons, zcv, zi_sub] at kk ⊢
  exact lv_isub B.1 B.2.1 hd kk
theorem zo_imul (B : zFr p l R b0 D dA α L xs s m args meth c M) {x y : Int} (S : zSt b0 D dA L xs M s α h H locs ls labs (.inl y :: .inl x :: t)) (hd : decode (zby M) pc = .ok (.imul, 1))  (k : zKont p l e R s m args below meth c QQ b0 D dA L xs M α h cells slots (pc + 1) (labs) (.inl (zw (x * y)) :: t) h) : W p l e R s m args below meth c H locs cells slots QQ (F0 m pc ls ((.inl y :: .inl x :: t).map (zcv α))) := by
  have kk := zK_st S k (zok_cons (zw_c _) S.tl.tl.2.2.2.2.1)
  simp only [List.map_cons, zcv, zi_mul] at kk ⊢
  exact lv_imul B.1 B.2.1 hd kk
theorem zo_iand (B : zFr p l R b0 D dA α L xs s m args meth c M) {x y : Int} (S : zSt b0 D dA L xs M s α h H locs ls labs (.inl y :: .inl x :: t)) (hd : decode (zby M) pc = .ok (.iand, 1))  (k : zKont p l e R s m args below meth c QQ b0 D dA L xs M α h cells slots (pc + 1) (labs) (.inl (zand x y) :: t) h) : W p l e R s m args below meth c H locs cells slots QQ (F0 m pc ls ((.inl y :: .inl x :: t).map (zcv α))) := by
  have kk := zK_st S k (zok_cons (zb_c _ _ _) S.tl.tl.2.2.2.2.1)
  simp only [List.map_cons, zcv, zand, zb_of] at kk ⊢
  exact lv_iand B.1 B.2.1 hd kk
theorem zo_ior (B : zFr p l R b0 D dA α L xs s m args meth c M) {x y : Int} (S : zSt b0 D dA L xs M s α h H locs ls labs (.inl y :: .inl x :: t)) (hd : decode (zby M) pc = .ok (.ior, 1))  (k : zKont p l e R s m args below meth c QQ b0 D dA L xs M α h cells slots (pc + 1) (labs) (.inl (zor x y) :: t) h) : W p l e R s m args below meth c H locs cells slots QQ (F0 m pc ls ((.inl y :: .inl x :: t).map (zcv α))) := by
  have kk := zK_st S k (zok_cons (zb_c _ _ _) S.tl.tl.2.2.2.2.1)
  simp only [List.map_cons, zcv, zor, zb_of] at kk ⊢
  exact lv_ior B.1 B.2.1 hd kk
theorem zo_ixor (B : zFr p l R b0 D dA α L xs s m args meth c M) {x y : Int} (S : zSt b0 D dA L xs M s α h H locs ls labs (.inl y :: .inl x :: t)) (hd : decode (zby M) pc = .ok (.ixor, 1))  (k : zKont p l e R s m args below meth c QQ b0 D dA L xs M α h cells slots (pc + 1) (labs) (.inl (zxor x y) :: t) h) : W p l e R s m args below meth c H locs cells slots QQ (F0 m pc ls ((.inl y :: .inl x :: t).map (zcv α))) := by
  have kk := zK_st S k (zok_cons (zb_c _ _ _) S.tl.tl.2.2.2.2.1)
  simp only [List.map_cons, zcv, zxor, zb_of] at kk ⊢
  exact lv_ixor B.1 B.2.1 hd kk
theorem zo_ishl (B : zFr p l R b0 D dA α L xs s m args meth c M) {x y : Int} (S : zSt b0 D dA L xs M s α h H locs ls labs (.inl y :: .inl x :: t)) (hd : decode (zby M) pc = .ok (.ishl, 1))  (k : zKont p l e R s m args below meth c QQ b0 D dA L xs M α h cells slots (pc + 1) (labs) (.inl (zshl x y) :: t) h) : W p l e R s m args below meth c H locs cells slots QQ (F0 m pc ls ((.inl y :: .inl x :: t).map (zcv α))) := by
  have kk := zK_st S k (zok_cons (zb_c _ _ _) S.tl.tl.2.2.2.2.1)
  simp only [List.map_cons, zcv, zshl, zb_of] at kk ⊢
  exact lv_ishl B.1 B.2.1 hd kk
theorem zo_ishr (B : zFr p l R b0 D dA α L xs s m args meth c M) {x y : Int} (S : zSt b0 D dA L xs M s α h H locs ls labs (.inl y :: .inl x :: t)) (hd : decode (zby M) pc = .ok (.ishr, 1))  (k : zKont p l e R s m args below meth c QQ b0 D dA L xs M α h cells slots (pc + 1) (labs) (.inl (zshr x y) :: t) h) : W p l e R s m args below meth c H locs cells slots QQ (F0 m pc ls ((.inl y :: .inl x :: t).map (zcv α))) := by
  have kk := zK_st S k (zok_cons (zb_c _ _ _) S.tl.tl.2.2.2.2.1)
  simp only [List.map_cons, zcv, zshr, zb_of] at kk ⊢
  exact lv_ishr B.1 B.2.1 hd kk
theorem zo_iushr (B : zFr p l R b0 D dA α L xs s m args meth c M) {x y : Int} (S : zSt b0 D dA L xs M s α h H locs ls labs (.inl y :: .inl x :: t)) (hd : decode (zby M) pc = .ok (.iushr, 1))  (k : zKont p l e R s m args below meth c QQ b0 D dA L xs M α h cells slots (pc + 1) (labs) (.inl (zushr x y) :: t) h) : W p l e R s m args below meth c H locs cells slots QQ (F0 m pc ls ((.inl y :: .inl x :: t).map (zcv α))) := by
  have kk := zK_st S k (zok_cons (zb_c _ _ _) S.tl.tl.2.2.2.2.1)
  simp only [List.map_cons, zcv, zushr, zb_of] at kk ⊢
  exact lv_iushr B.1 B.2.1 hd rfl kk
theorem zo_idiv (B : zFr p l R b0 D dA α L xs s m args meth c M) {x y : Int} (hy : y ≠ 0) (S : zSt b0 D dA L xs M s α h H locs ls labs (.inl y :: .inl x :: t)) (hd : decode (zby M) pc = .ok (.idiv, 1))  (k : zKont p l e R s m args below meth c QQ b0 D dA L xs M α h cells slots (pc + 1) (labs) (.inl (zdiv x y) :: t) h) : W p l e R s m args below meth c H locs cells slots QQ (F0 m pc ls ((.inl y :: .inl x :: t).map (zcv α))) := by
  have hy' : ¬ Int32.ofInt y = 0 := fun q => hy ((zi_eq S.hd zc_0).mp q)
  have kk := zK_st S k (zok_cons (zb_c _ _ _) S.tl.tl.2.2.2.2.1)
  simp only [List.map_cons, zcv, zdiv, zb_of] at kk ⊢
  exact lv_idiv B.1 B.2.1 hd hy' kk
theorem zo_irem (B : zFr p l R b0 D dA α L xs s m args meth c M) {x y : Int} (hy : y ≠ 0) (S : zSt b0 D dA L xs M s α h H locs ls labs (.inl y :: .inl x :: t)) (hd : decode (zby M) pc = .ok (.irem, 1))  (k : zKont p l e R s m args below meth c QQ b0 D dA L xs M α h cells slots (pc + 1) (labs) (.inl (zrem x y) :: t) h) : W p l e R s m args below meth c H locs cells slots QQ (F0 m pc ls ((.inl y :: .inl x :: t).map (zcv α))) := by
  have hy' : ¬ Int32.ofInt y = 0 := fun q => hy ((zi_eq S.hd zc_0).mp q)
  have kk := zK_st S k (zok_cons (zb_c _ _ _) S.tl.tl.2.2.2.2.1)
  simp only [List.map_cons, zcv, zrem, zb_of] at kk ⊢
  exact lv_irem B.1 B.2.1 hd hy' kk
theorem zo_ladd (B : zFr p l R b0 D dA α L xs s m args meth c M) {x y : Int} (S : zSt b0 D dA L xs M s α h H locs ls labs (.inr (.inl y) :: .inr (.inl x) :: t)) (hd : decode (zby M) pc = .ok (.ladd, 1))  (k : zKont p l e R s m args below meth c QQ b0 D dA L xs M α h cells slots (pc + 1) (labs) (.inr (.inl (zwl (x + y))) :: t) h) : W p l e R s m args below meth c H locs cells slots QQ (F0 m pc ls ((.inr (.inl y) :: .inr (.inl x) :: t).map (zcv α))) := by
  have kk := zK_st S k (zok_cons (zwl_c _) S.tl.tl.2.2.2.2.1)
  simp only [List.map_cons, zcv, zl_add] at kk ⊢
  exact lv_ladd B.1 B.2.1 hd kk
theorem zo_lsub (B : zFr p l R b0 D dA α L xs s m args meth c M) {x y : Int} (S : zSt b0 D dA L xs M s α h H locs ls labs (.inr (.inl y) :: .inr (.inl x) :: t)) (hd : decode (zby M) pc = .ok (.lsub, 1))  (k : zKont p l e R s m args below meth c QQ b0 D dA L xs M α h cells slots (pc + 1) (labs) (.inr (.inl (zwl (x - y))) :: t) h) : W p l e R s m args below meth c H locs cells slots QQ (F0 m pc ls ((.inr (.inl y) :: .inr (.inl x) :: t).map (zcv α))) := by
  have kk := zK_st S k (zok_cons (zwl_c _) S.tl.tl.2.2.2.2.1)
  simp only [List.map_cons, zcv, zl_sub] at kk ⊢
  exact lv_lsub B.1 B.2.1 hd kk
theorem zo_lmul (B : zFr p l R b0 D dA α L xs s m args meth c M) {x y : Int} (S : zSt b0 D dA L xs M s α h H locs ls labs (.inr (.inl y) :: .inr (.inl x) :: t)) (hd : decode (zby M) pc = .ok (.lmul, 1))  (k : zKont p l e R s m args below meth c QQ b0 D dA L xs M α h cells slots (pc + 1) (labs) (.inr (.inl (zwl (x * y))) :: t) h) : W p l e R s m args below meth c H locs cells slots QQ (F0 m pc ls ((.inr (.inl y) :: .inr (.inl x) :: t).map (zcv α))) := by
  have kk := zK_st S k (zok_cons (zwl_c _) S.tl.tl.2.2.2.2.1)
  simp only [List.map_cons, zcv, zl_mul] at kk ⊢
  exact lv_lmul B.1 B.2.1 hd kk
theorem zo_ldiv (B : zFr p l R b0 D dA α L xs s m args meth c M) {x y : Int} (hy : y ≠ 0) (S : zSt b0 D dA L xs M s α h H locs ls labs (.inr (.inl y) :: .inr (.inl x) :: t)) (hd : decode (zby M) pc = .ok (.ldiv, 1))  (k : zKont p l e R s m args below meth c QQ b0 D dA L xs M α h cells slots (pc + 1) (labs) (.inr (.inl (zldiv x y)) :: t) h) : W p l e R s m args below meth c H locs cells slots QQ (F0 m pc ls ((.inr (.inl y) :: .inr (.inl x) :: t).map (zcv α))) := by
  have hy' : ¬ Int64.ofInt y = 0 := fun q => hy ((zl_eq S.hd ⟨by decide, by decide⟩).mp q)
  have kk := zK_st S k (zok_cons (zlb_c _ _ _) S.tl.tl.2.2.2.2.1)
  simp only [List.map_cons, zcv, zldiv, zlb_of] at kk ⊢
  exact lv_ldiv B.1 B.2.1 hd hy' kk
theorem zo_lrem (B : zFr p l R b0 D dA α L xs s m args meth c M) {x y : Int} (hy : y ≠ 0) (S : zSt b0 D dA L xs M s α h H locs ls labs (.inr (.inl y) :: .inr (.inl x) :: t)) (hd : decode (zby M) pc = .ok (.lrem, 1))  (k : zKont p l e R s m args below meth c QQ b0 D dA L xs M α h cells slots (pc + 1) (labs) (.inr (.inl (zlrem x y)) :: t) h) : W p l e R s m args below meth c H locs cells slots QQ (F0 m pc ls ((.inr (.inl y) :: .inr (.inl x) :: t).map (zcv α))) := by
  have hy' : ¬ Int64.ofInt y = 0 := fun q => hy ((zl_eq S.hd ⟨by decide, by decide⟩).mp q)
  have kk := zK_st S k (zok_cons (zlb_c _ _ _) S.tl.tl.2.2.2.2.1)
  simp only [List.map_cons, zcv, zlrem, zlb_of] at kk ⊢
  exact lv_lrem B.1 B.2.1 hd hy' kk
theorem zo_lcmp (B : zFr p l R b0 D dA α L xs s m args meth c M) {x y : Int} (S : zSt b0 D dA L xs M s α h H locs ls labs (.inr (.inl y) :: .inr (.inl x) :: t)) (hd : decode (zby M) pc = .ok (.lcmp, 1))  (k : zKont p l e R s m args below meth c QQ b0 D dA L xs M α h cells slots (pc + 1) (labs) (.inl (if x > y then 1 else if x = y then 0 else -1) :: t) h) : W p l e R s m args below meth c H locs cells slots QQ (F0 m pc ls ((.inr (.inl y) :: .inr (.inl x) :: t).map (zcv α))) := by
  have kk := zK_st S k (zok_cons (show zC32 _ by unfold zC32; split <;> (try split) <;> omega) S.tl.tl.2.2.2.2.1)
  have e : Int32.ofInt (if x > y then 1 else if x = y then 0 else -1) = lg_cmp (Int64.ofInt x) (Int64.ofInt y) := by
    have q1 := zl_lt S.hd S.tl.hd
    have q2 := zl_eq S.tl.hd S.hd
    unfold lg_cmp
    by_cases a1 : y < x
    · simp [a1, q1.mpr a1]
    · by_cases a2 : x = y
      · simp [a2]
      · simp [a1, a2, q1, q2]
    done
  simp only [List.map_cons, zcv] at kk ⊢
  rw [e] at kk
  exact W.lcmp B.1 B.2.1 hd kk
theorem zo_i2l (B : zFr p l R b0 D dA α L xs s m args meth c M) {x : Int} (S : zSt b0 D dA L xs M s α h H locs ls labs (.inl x :: t)) (hd : decode (zby M) pc = .ok (.i2l, 1))  (k : zKont p l e R s m args below meth c QQ b0 D dA L xs M α h cells slots (pc + 1) (labs) (.inr (.inl x) :: t) h) : W p l e R s m args below meth c H locs cells slots QQ (F0 m pc ls ((.inl x :: t).map (zcv α))) := by
  exact lv_i2l B.1 B.2.1 hd (zi2l S.hd) (zK_st S k (zok_cons (zC_64 S.hd) S.tl.2.2.2.2.1))
theorem zo_l2i (B : zFr p l R b0 D dA α L xs s m args meth c M) {x : Int} (S : zSt b0 D dA L xs M s α h H locs ls labs (.inr (.inl x) :: t)) (hd : decode (zby M) pc = .ok (.l2i, 1))  (k : zKont p l e R s m args below meth c QQ b0 D dA L xs M α h cells slots (pc + 1) (labs) (.inl (zw x) :: t) h) : W p l e R s m args below meth c H locs cells slots QQ (F0 m pc ls ((.inr (.inl x) :: t).map (zcv α))) := by
  exact lv_l2i B.1 B.2.1 hd (zl2i x S.hd) (zK_st S k (zok_cons (zw_c _) S.tl.2.2.2.2.1))
theorem zo_i2b (B : zFr p l R b0 D dA α L xs s m args meth c M) {x : Int} (S : zSt b0 D dA L xs M s α h H locs ls labs (.inl x :: t)) (hd : decode (zby M) pc = .ok (.i2b, 1))  (k : zKont p l e R s m args below meth c QQ b0 D dA L xs M α h cells slots (pc + 1) (labs) (.inl (zi2b x) :: t) h) : W p l e R s m args below meth c H locs cells slots QQ (F0 m pc ls ((.inl x :: t).map (zcv α))) := by
  exact lv_i2b B.1 B.2.1 hd (zi2b_of x).symm (zK_st S k (zok_cons (zi_c _) S.tl.2.2.2.2.1))
theorem zo_i2c (B : zFr p l R b0 D dA α L xs s m args meth c M) {x : Int} (S : zSt b0 D dA L xs M s α h H locs ls labs (.inl x :: t)) (hd : decode (zby M) pc = .ok (.i2c, 1))  (k : zKont p l e R s m args below meth c QQ b0 D dA L xs M α h cells slots (pc + 1) (labs) (.inl (zi2c x) :: t) h) : W p l e R s m args below meth c H locs cells slots QQ (F0 m pc ls ((.inl x :: t).map (zcv α))) := by
  exact lv_i2c B.1 B.2.1 hd (zi2c_of x).symm (zK_st S k (zok_cons (zi_c _) S.tl.2.2.2.2.1))
theorem zo_dup_i (B : zFr p l R b0 D dA α L xs s m args meth c M) {x : Int} (S : zSt b0 D dA L xs M s α h H locs ls labs (.inl x :: t)) (hd : decode (zby M) pc = .ok (.dup, 1))  (k : zKont p l e R s m args below meth c QQ b0 D dA L xs M α h cells slots (pc + 1) (labs) (.inl x :: .inl x :: t) h) : W p l e R s m args below meth c H locs cells slots QQ (F0 m pc ls ((.inl x :: t).map (zcv α))) := by
  exact lv_dup B.1 B.2.1 hd rfl (zK_st S k (zok_cons S.hd S.2.2.2.2.1))
theorem zo_dup_a (B : zFr p l R b0 D dA α L xs s m args meth c M) {x : Nat} (S : zSt b0 D dA L xs M s α h H locs ls labs (.inr (.inr x) :: t)) (hd : decode (zby M) pc = .ok (.dup, 1))  (k : zKont p l e R s m args below meth c QQ b0 D dA L xs M α h cells slots (pc + 1) (labs) (.inr (.inr x) :: .inr (.inr x) :: t) h) : W p l e R s m args below meth c H locs cells slots QQ (F0 m pc ls ((.inr (.inr x) :: t).map (zcv α))) := by
  exact lv_dup B.1 B.2.1 hd (by simp only [zcv]; first | rfl | (cases α x <;> rfl)) (zK_st S k (zok_cons S.hd S.2.2.2.2.1))
theorem zo_dup2 (B : zFr p l R b0 D dA α L xs s m args meth c M) {x : Int} {y : Nat} (S : zSt b0 D dA L xs M s α h H locs ls labs (.inl x :: .inr (.inr y) :: t)) (hd : decode (zby M) pc = .ok (.dup2, 1))  (k : zKont p l e R s m args below meth c QQ b0 D dA L xs M α h cells slots (pc + 1) (labs) (.inl x :: .inr (.inr y) :: .inl x :: .inr (.inr y) :: t) h) : W p l e R s m args below meth c H locs cells slots QQ (F0 m pc ls ((.inl x :: .inr (.inr y) :: t).map (zcv α))) := by
  exact lv_dup2_11 B.1 B.2.1 hd rfl (by simp only [zcv]; first | rfl | (cases α y <;> rfl)) (zK_st S k (zok_cons S.hd (zok_cons S.tl.hd S.2.2.2.2.1)))
theorem zo_dup_x1 (B : zFr p l R b0 D dA α L xs s m args meth c M) {x : Int} {y : Nat} (S : zSt b0 D dA L xs M s α h H locs ls labs (.inl x :: .inr (.inr y) :: t)) (hd : decode (zby M) pc = .ok (.dup_x1, 1))  (k : zKont p l e R s m args below meth c QQ b0 D dA L xs M α h cells slots (pc + 1) (labs) (.inl x :: .inr (.inr y) :: .inl x :: t) h) : W p l e R s m args below meth c H locs cells slots QQ (F0 m pc ls ((.inl x :: .inr (.inr y) :: t).map (zcv α))) := by
  exact lv_dup_x1 B.1 B.2.1 hd rfl (by simp only [zcv]; first | rfl | (cases α y <;> rfl)) (zK_st S k (zok_cons S.hd (zok_cons S.tl.hd (zok_cons S.hd S.tl.tl.2.2.2.2.1))))
theorem zo_pop_i (B : zFr p l R b0 D dA α L xs s m args meth c M) {x : Int} (S : zSt b0 D dA L xs M s α h H locs ls labs (.inl x :: t)) (hd : decode (zby M) pc = .ok (.pop, 1))  (k : zKont p l e R s m args below meth c QQ b0 D dA L xs M α h cells slots (pc + 1) (labs) (t) h) : W p l e R s m args below meth c H locs cells slots QQ (F0 m pc ls ((.inl x :: t).map (zcv α))) := by
  exact lv_pop B.1 B.2.1 hd rfl (zK_st S k S.tl.2.2.2.2.1)
theorem zo_pop_a (B : zFr p l R b0 D dA α L xs s m args meth c M) {x : Nat} (S : zSt b0 D dA L xs M s α h H locs ls labs (.inr (.inr x) :: t)) (hd : decode (zby M) pc = .ok (.pop, 1))  (k : zKont p l e R s m args below meth c QQ b0 D dA L xs M α h cells slots (pc + 1) (labs) (t) h) : W p l e R s m args below meth c H locs cells slots QQ (F0 m pc ls ((.inr (.inr x) :: t).map (zcv α))) := by
  exact lv_pop B.1 B.2.1 hd (by simp only [zcv]; first | rfl | (cases α x <;> rfl)) (zK_st S k S.tl.2.2.2.2.1)
theorem zo_goto (B : zFr p l R b0 D dA α L xs s m args meth c M) {off : Int} (hoff : 0 ≤ (pc : Int) + off) (S : zSt b0 D dA L xs M s α h H locs ls labs (t)) (hd : decode (zby M) pc = .ok (.goto off, 3))  (k : zKont p l e R s m args below meth c QQ b0 D dA L xs M α h cells slots (zat pc off) (labs) (t) h) : W p l e R s m args below meth c H locs cells slots QQ (F0 m pc ls ((t).map (zcv α))) := by
  have ht : (pc : Int) + off = ((zat pc off : Nat) : Int) := (Int.toNat_of_nonneg hoff).symm
  exact lv_goto B.1 B.2.1 hd ht (zK_st S k S.2.2.2.2.1)
theorem zo_if_eq (B : zFr p l R b0 D dA α L xs s m args meth c M) {x off : Int} (hoff : 0 ≤ (pc : Int) + off) (S : zSt b0 D dA L xs M s α h H locs ls labs (.inl x :: t)) (hd : decode (zby M) pc = .ok (.ifCond .eq off, 3))  (k : zKont p l e R s m args below meth c QQ b0 D dA L xs M α h cells slots (if x = 0 then zat pc off else pc + 3) (labs) (t) h) : W p l e R s m args below meth c H locs cells slots QQ (F0 m pc ls ((.inl x :: t).map (zcv α))) := by
  have ht : (pc : Int) + off = ((zat pc off : Nat) : Int) := (Int.toNat_of_nonneg hoff).symm
  have q := zi_eq S.hd zc_0
  refine lv_if_eq B.1 B.2.1 hd ht (fun hh => ?_) (fun hh => ?_)
  · rw [if_pos (q.mp hh)] at k; exact zK_st S k S.tl.2.2.2.2.1
  · rw [if_neg (fun z => hh (q.mpr z))] at k; exact zK_st S k S.tl.2.2.2.2.1
theorem zo_if_ne (B : zFr p l R b0 D dA α L xs s m args meth c M) {x off : Int} (hoff : 0 ≤ (pc : Int) + off) (S : zSt b0 D dA L xs M s α h H locs ls labs (.inl x :: t)) (hd : decode (zby M) pc = .ok (.ifCond .ne off, 3))  (k : zKont p l e R s m args below meth c QQ b0 D dA L xs M α h cells slots (if x ≠ 0 then zat pc off else pc + 3) (labs) (t) h) : W p l e R s m args below meth c H locs cells slots QQ (F0 m pc ls ((.inl x :: t).map (zcv α))) := by
  have ht : (pc : Int) + off = ((zat pc off : Nat) : Int) := (Int.toNat_of_nonneg hoff).symm
  have q := not_congr (zi_eq S.hd zc_0)
  refine lv_if_ne B.1 B.2.1 hd ht (fun hh => ?_) (fun hh => ?_)
  · rw [if_pos (q.mp hh)] at k; exact zK_st S k S.tl.2.2.2.2.1
  · rw [if_neg (fun z => (q.mpr z) hh)] at k; exact zK_st S k S.tl.2.2.2.2.1
theorem zo_if_lt (B : zFr p l R b0 D dA α L xs s m args meth c M) {x off : Int} (hoff : 0 ≤ (pc : Int) + off) (S : zSt b0 D dA L xs M s α h H locs ls labs (.inl x :: t)) (hd : decode (zby M) pc = .ok (.ifCond .lt off, 3))  (k : zKont p l e R s m args below meth c QQ b0 D dA L xs M α h cells slots (if x < 0 then zat pc off else pc + 3) (labs) (t) h) : W p l e R s m args below meth c H locs cells slots QQ (F0 m pc ls ((.inl x :: t).map (zcv α))) := by
  have ht : (pc : Int) + off = ((zat pc off : Nat) : Int) := (Int.toNat_of_nonneg hoff).symm
  have q := zi_lt S.hd zc_0
  refine lv_if_lt B.1 B.2.1 hd ht (fun hh => ?_) (fun hh => ?_)
  · rw [if_pos (q.mp hh)] at k; exact zK_st S k S.tl.2.2.2.2.1
  · rw [if_neg (fun z => hh (q.mpr z))] at k; exact zK_st S k S.tl.2.2.2.2.1
theorem zo_if_ge (B : zFr p l R b0 D dA α L xs s m args meth c M) {x off : Int} (hoff : 0 ≤ (pc : Int) + off) (S : zSt b0 D dA L xs M s α h H locs ls labs (.inl x :: t)) (hd : decode (zby M) pc = .ok (.ifCond .ge off, 3))  (k : zKont p l e R s m args below meth c QQ b0 D dA L xs M α h cells slots (if 0 ≤ x then zat pc off else pc + 3) (labs) (t) h) : W p l e R s m args below meth c H locs cells slots QQ (F0 m pc ls ((.inl x :: t).map (zcv α))) := by
  have ht : (pc : Int) + off = ((zat pc off : Nat) : Int) := (Int.toNat_of_nonneg hoff).symm
  have q := zi_le zc_0 S.hd
  refine lv_if_ge B.1 B.2.1 hd ht (fun hh => ?_) (fun hh => ?_)
  · rw [if_pos (q.mp hh)] at k; exact zK_st S k S.tl.2.2.2.2.1
  · rw [if_neg (fun z => hh (q.mpr z))] at k; exact zK_st S k S.tl.2.2.2.2.1
theorem zo_if_gt (B : zFr p l R b0 D dA α L xs s m args meth c M) {x off : Int} (hoff : 0 ≤ (pc : Int) + off) (S : zSt b0 D dA L xs M s α h H locs ls labs (.inl x :: t)) (hd : decode (zby M) pc = .ok (.ifCond .gt off, 3))  (k : zKont p l e R s m args below meth c QQ b0 D dA L xs M α h cells slots (if 0 < x then zat pc off else pc + 3) (labs) (t) h) : W p l e R s m args below meth c H locs cells slots QQ (F0 m pc ls ((.inl x :: t).map (zcv α))) := by
  have ht : (pc : Int) + off = ((zat pc off : Nat) : Int) := (Int.toNat_of_nonneg hoff).symm
  have q := zi_lt zc_0 S.hd
  refine lv_if_gt B.1 B.2.1 hd ht (fun hh => ?_) (fun hh => ?_)
  · rw [if_pos (q.mp hh)] at k; exact zK_st S k S.tl.2.2.2.2.1
  · rw [if_neg (fun z => hh (q.mpr z))] at k; exact zK_st S k S.tl.2.2.2.2.1
theorem zo_if_le (B : zFr p l R b0 D dA α L xs s m args meth c M) {x off : Int} (hoff : 0 ≤ (pc : Int) + off) (S : zSt b0 D dA L xs M s α h H locs ls labs (.inl x :: t)) (hd : decode (zby M) pc = .ok (.ifCond .le off, 3))  (k : zKont p l e R s m args below meth c QQ b0 D dA L xs M α h cells slots (if x ≤ 0 then zat pc off else pc + 3) (labs) (t) h) : W p l e R s m args below meth c H locs cells slots QQ (F0 m pc ls ((.inl x :: t).map (zcv α))) := by
  have ht : (pc : Int) + off = ((zat pc off : Nat) : Int) := (Int.toNat_of_nonneg hoff).symm
  have q := zi_le S.hd zc_0
  refine lv_if_le B.1 B.2.1 hd ht (fun hh => ?_) (fun hh => ?_)
  · rw [if_pos (q.mp hh)] at k; exact zK_st S k S.tl.2.2.2.2.1
  · rw [if_neg (fun z => hh (q.mpr z))] at k; exact zK_st S k S.tl.2.2.2.2.1
theorem zo_icmp_eq (B : zFr p l R b0 D dA α L xs s m args meth c M) {x y off : Int} (hoff : 0 ≤ (pc : Int) + off) (S : zSt b0 D dA L xs M s α h H locs ls labs (.inl y :: .inl x :: t)) (hd : decode (zby M) pc = .ok (.if_icmp .eq off, 3))  (k : zKont p l e R s m args below meth c QQ b0 D dA L xs M α h cells slots (if x = y then zat pc off else pc + 3) (labs) (t) h) : W p l e R s m args below meth c H locs cells slots QQ (F0 m pc ls ((.inl y :: .inl x :: t).map (zcv α))) := by
  have ht : (pc : Int) + off = ((zat pc off : Nat) : Int) := (Int.toNat_of_nonneg hoff).symm
  have q := zi_eq S.tl.hd S.hd
  refine lv_icmp_eq B.1 B.2.1 hd ht (fun hh => ?_) (fun hh => ?_)
  · rw [if_pos (q.mp hh)] at k; exact zK_st S k S.tl.tl.2.2.2.2.1
  · rw [if_neg (fun z => hh (q.mpr z))] at k; exact zK_st S k S.tl.tl.2.2.2.2.1
theorem zo_icmp_ne (B : zFr p l R b0 D dA α L xs s m args meth c M) {x y off : Int} (hoff : 0 ≤ (pc : Int) + off) (S : zSt b0 D dA L xs M s α h H locs ls labs (.inl y :: .inl x :: t)) (hd : decode (zby M) pc = .ok (.if_icmp .ne off, 3))  (k : zKont p l e R s m args below meth c QQ b0 D dA L xs M α h cells slots (if x ≠ y then zat pc off else pc + 3) (labs) (t) h) : W p l e R s m args below meth c H locs cells slots QQ (F0 m pc ls ((.inl y :: .inl x :: t).map (zcv α))) := by
  have ht : (pc : Int) + off = ((zat pc off : Nat) : Int) := (Int.toNat_of_nonneg hoff).symm
  have q := not_congr (zi_eq S.tl.hd S.hd)
  refine lv_icmp_ne B.1 B.2.1 hd ht (fun hh => ?_) (fun hh => ?_)
  · rw [if_pos (q.mp hh)] at k; exact zK_st S k S.tl.tl.2.2.2.2.1
  · rw [if_neg (fun z => (q.mpr z) hh)] at k; exact zK_st S k S.tl.tl.2.2.2.2.1
theorem zo_icmp_lt (B : zFr p l R b0 D dA α L xs s m args meth c M) {x y off : Int} (hoff : 0 ≤ (pc : Int) + off) (S : zSt b0 D dA L xs M s α h H locs ls labs (.inl y :: .inl x :: t)) (hd : decode (zby M) pc = .ok (.if_icmp .lt off, 3))  (k : zKont p l e R s m args below meth c QQ b0 D dA L xs M α h cells slots (if x < y then zat pc off else pc + 3) (labs) (t) h) : W p l e R s m args below meth c H locs cells slots QQ (F0 m pc ls ((.inl y :: .inl x :: t).map (zcv α))) := by
  have ht : (pc : Int) + off = ((zat pc off : Nat) : Int) := (Int.toNat_of_nonneg hoff).symm
  have q := zi_lt S.tl.hd S.hd
  refine lv_icmp_lt B.1 B.2.1 hd ht (fun hh => ?_) (fun hh => ?_)
  · rw [if_pos (q.mp hh)] at k; exact zK_st S k S.tl.tl.2.2.2.2.1
  · rw [if_neg (fun z => hh (q.mpr z))] at k; exact zK_st S k S.tl.tl.2.2.2.2.1
theorem zo_icmp_ge (B : zFr p l R b0 D dA α L xs s m args meth c M) {x y off : Int} (hoff : 0 ≤ (pc : Int) + off) (S : zSt b0 D dA L xs M s α h H locs ls labs (.inl y :: .inl x :: t)) (hd : decode (zby M) pc = .ok (.if_icmp .ge off, 3))  (k : zKont p l e R s m args below meth c QQ b0 D dA L xs M α h cells slots (if y ≤ x then zat pc off else pc + 3) (labs) (t) h) : W p l e R s m args below meth c H locs cells slots QQ (F0 m pc ls ((.inl y :: .inl x :: t).map (zcv α))) := by
  have ht : (pc : Int) + off = ((zat pc off : Nat) : Int) := (Int.toNat_of_nonneg hoff).symm
  have q := zi_le S.hd S.tl.hd
  refine lv_icmp_ge B.1 B.2.1 hd ht (fun hh => ?_) (fun hh => ?_)
  · rw [if_pos (q.mp hh)] at k; exact zK_st S k S.tl.tl.2.2.2.2.1
  · rw [if_neg (fun z => hh (q.mpr z))] at k; exact zK_st S k S.tl.tl.2.2.2.2.1
theorem zo_icmp_gt (B : zFr p l R b0 D dA α L xs s m args meth c M) {x y off : Int} (hoff : 0 ≤ (pc : Int) + off) (S : zSt b0 D dA L xs M s α h H locs ls labs (.inl y :: .inl x :: t)) (hd : decode (zby M) pc = .ok (.if_icmp .gt off, 3))  (k : zKont p l e R s m args below meth c QQ b0 D dA L xs M α h cells slots (if y < x then zat pc off else pc + 3) (labs) (t) h) : W p l e R s m args below meth c H locs cells slots QQ (F0 m pc ls ((.inl y :: .inl x :: t).map (zcv α))) := by
  have ht : (pc : Int) + off = ((zat pc off : Nat) : Int) := (Int.toNat_of_nonneg hoff).symm
  have q := zi_lt S.hd S.tl.hd
  refine lv_icmp_gt B.1 B.2.1 hd ht (fun hh => ?_) (fun hh => ?_)
  · rw [if_pos (q.mp hh)] at k; exact zK_st S k S.tl.tl.2.2.2.2.1
  · rw [if_neg (fun z => hh (q.mpr z))] at k; exact zK_st S k S.tl.tl.2.2.2.2.1
theorem zo_icmp_le (B : zFr p l R b0 D dA α L xs s m args meth c M) {x y off : Int} (hoff : 0 ≤ (pc : Int) + off) (S : zSt b0 D dA L xs M s α h H locs ls labs (.inl y :: .inl x :: t)) (hd : decode (zby M) pc = .ok (.if_icmp .le off, 3))  (k : zKont p l e R s m args below meth c QQ b0 D dA L xs M α h cells slots (if x ≤ y then zat pc off else pc + 3) (labs) (t) h) : W p l e R s m args below meth c H locs cells slots QQ (F0 m pc ls ((.inl y :: .inl x :: t).map (zcv α))) := by
  have ht : (pc : Int) + off = ((zat pc off : Nat) : Int) := (Int.toNat_of_nonneg hoff).symm
  have q := zi_le S.tl.hd S.hd
  refine lv_icmp_le B.1 B.2.1 hd ht (fun hh => ?_) (fun hh => ?_)
  · rw [if_pos (q.mp hh)] at k; exact zK_st S k S.tl.tl.2.2.2.2.1
  · rw [if_neg (fun z => hh (q.mpr z))] at k; exact zK_st S k S.tl.tl.2.2.2.2.1
theorem zo_tsw (B : zFr p l R b0 D dA α L xs s m args meth c M) {x d lo hi : Int} {offs : Array Int} {len : Nat} (hsz : (offs.size : Int) = hi - lo + 1) (hp : ∀ o ∈ offs.toList, 0 ≤ (pc : Int) + o) (hpd : 0 ≤ (pc : Int) + d) (S : zSt b0 D dA L xs M s α h H locs ls labs (.inl x :: t)) (hd : decode (zby M) pc = .ok (.tableswitch d lo hi offs, len))  (k : zKont p l e R s m args below meth c QQ b0 D dA L xs M α h cells slots (zat pc (if x < lo ∨ hi < x then d else offs.toList.getD (x - lo).toNat 0)) (labs) (t) h) : W p l e R s m args below meth c H locs cells slots QQ (F0 m pc ls ((.inl x :: t).map (zcv α))) := by
  have hx : (Int32.ofInt x).toInt = x := zi_t S.hd
  by_cases hh : x < lo ∨ hi < x
  · rw [if_pos hh] at k
    exact lv_tableOut B.1 B.2.1 hd (by rw [hx]; exact hh) (Int.toNat_of_nonneg hpd).symm (zK_st S k S.tl.2.2.2.2.1)
  · rw [if_neg hh] at k
    have hlt : (x - lo).toNat < offs.size := by omega
    have e1 : offs.toList.getD (x - lo).toNat 0 = offs[(x - lo).toNat] := by
      rw [List.getD_eq_getElem?_getD, Array.getElem?_toList, Array.getElem?_eq_getElem hlt]; rfl
    rw [e1] at k
    exact lv_tableIn B.1 B.2.1 hd (by rw [hx]; omega) (by rw [hx]; omega) (by rw [hx]; exact Array.getElem?_eq_getElem hlt) (Int.toNat_of_nonneg (hp _ (Array.mem_toList_iff.mpr (Array.getElem_mem hlt)))).symm (zK_st S k S.tl.2.2.2.2.1)
theorem zo_lsw (B : zFr p l R b0 D dA α L xs s m args meth c M) {x d : Int} {ps : Array (Int × Int)} {len : Nat} (hso : (ps.toList.zip (ps.toList.drop 1)).all (fun (a, next) => a.1 < next.1) = true) (hp : ∀ o ∈ ps.toList, 0 ≤ (pc : Int) + o.2) (hpd : 0 ≤ (pc : Int) + d) (S : zSt b0 D dA L xs M s α h H locs ls labs (.inl x :: t)) (hd : decode (zby M) pc = .ok (.lookupswitch d ps, len))  (k : zKont p l e R s m args below meth c QQ b0 D dA L xs M α h cells slots (zat pc (zlook ps.toList d x)) (labs) (t) h) : W p l e R s m args below meth c H locs cells slots QQ (F0 m pc ls ((.inl x :: t).map (zcv α))) := by
  have hx : (Int32.ofInt x).toInt = x := zi_t S.hd
  exact lv_lookup B.1 B.2.1 hd hso (by rw [hx]; exact zlook_eq ps.toList d x) (Int.toNat_of_nonneg (zlook_pos ps.toList d x hp hpd)).symm (zK_st S k S.tl.2.2.2.2.1)
end ZSTEP
