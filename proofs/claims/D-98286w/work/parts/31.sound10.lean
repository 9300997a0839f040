/-! SOUNDNESS 10: a method's contract, its entry -/
theorem zcv_cat2 {α : zAd} (v : zV) : (zcv α v).category = match v with
  | .inr (.inl _) => 2
  | _ => 1 := by
  rcases v with x | x | a
  · rfl
  · rfl
  · show (va_rf (α a)).category = 1
    cases α a <;> rfl
theorem zsl_cons (v : Value) (vs : List Value) : (lg_sl (v :: vs)).length = (if v.category = 2 then 2 else 1) + (lg_sl vs).length := by
  show (List.flatMap _ (v :: vs)).length = _
  rw [List.flatMap_cons, List.length_append]
  by_cases h : v.category = 2
  · rw [if_pos h, if_pos h]; rfl
  · rw [if_neg h, if_neg h]; rfl
theorem zsl_len {α : zAd} : ∀ (as : List zV), (lg_sl (as.map (zcv α))).length = zcat as
  | [] => rfl
  | .inl x :: r => by
    rw [List.map_cons, zsl_cons, zsl_len r, zcv_cat2]
    show 1 + zcat r = zcat r + 1
    omega
  | .inr (.inl x) :: r => by
    rw [List.map_cons, zsl_cons, zsl_len r, zcv_cat2]
    show 2 + zcat r = zcat r + 2
    omega
  | .inr (.inr x) :: r => by
    rw [List.map_cons, zsl_cons, zsl_len r, zcv_cat2]
    show 1 + zcat r = zcat r + 1
    omega
theorem zlay_args {α : zAd} : ∀ (as : List zV) (i k : Nat) (v : zV), (zlay as)[k]? = some (some v) → (i + k, zcv α v) ∈ lv_args i (as.map (zcv α))
  | [], i, k, v, h => by cases h
  | .inl x :: r, i, k, v, h => by
    rw [List.map_cons, lv_args, zcv_cat2]
    cases k with
    | zero => cases h; exact List.mem_cons_self
    | succ k =>
      have := zlay_args (α := α) r (i + 1) k v h
      rw [show i + 1 + k = i + (k + 1) by omega] at this
      exact List.mem_cons_of_mem _ this
  | .inr (.inr x) :: r, i, k, v, h => by
    rw [List.map_cons, lv_args, zcv_cat2]
    cases k with
    | zero => cases h; exact List.mem_cons_self
    | succ k =>
      have := zlay_args (α := α) r (i + 1) k v h
      rw [show i + 1 + k = i + (k + 1) by omega] at this
      exact List.mem_cons_of_mem _ this
  | .inr (.inl x) :: r, i, k, v, h => by
    rw [List.map_cons, lv_args, zcv_cat2]
    match k, h with
    | 0, h => cases h; exact List.mem_cons_self
    | 1, h => cases h
    | k + 2, h =>
      have := zlay_args (α := α) r (i + 2) k v h
      rw [show i + 2 + k = i + (k + 2) by omega] at this
      exact List.mem_cons_of_mem _ this
theorem zlay_mem : ∀ (as : List zV) (k : Nat) (v : zV), (zlay as)[k]? = some (some v) → v ∈ as
  | [], k, v, h => by cases h
  | .inl x :: r, k, v, h => by
    cases k with
    | zero => cases h; exact List.mem_cons_self
    | succ k => exact List.mem_cons_of_mem _ (zlay_mem r k v h)
  | .inr (.inr x) :: r, k, v, h => by
    cases k with
    | zero => cases h; exact List.mem_cons_self
    | succ k => exact List.mem_cons_of_mem _ (zlay_mem r k v h)
  | .inr (.inl x) :: r, k, v, h => by
    match k, h with
    | 0, h => cases h; exact List.mem_cons_self
    | 1, h => cases h
    | k + 2, h => exact List.mem_cons_of_mem _ (zlay_mem r k v h)
theorem zpad_len : ∀ (n : Nat) (l : List (Option zV)), (zpad n l).length = n
  | 0, _ => rfl
  | n + 1, [] => congrArg (· + 1) (zpad_len n [])
  | n + 1, _ :: r => congrArg (· + 1) (zpad_len n r)
theorem zpad_at : ∀ (n : Nat) (l : List (Option zV)) (k : Nat) (v : zV), (zpad n l)[k]? = some (some v) → l[k]? = some (some v)
  | 0, _, _, _, h => by cases h
  | n + 1, [], k, v, h => by
    cases k with
    | zero => cases h
    | succ k => have := zpad_at n [] k v h; cases this
  | n + 1, _ :: r, k, v, h => by
    cases k with
    | zero => exact h
    | succ k => exact zpad_at n r k v h
theorem zent_lc {α : zAd} {M : Nat} {as : List zV} (hl : zcat as ≤ zml M) (m : MethodId) : ∃ ls : Array Slot, entryFrame m (as.map (zcv α)).toArray (zml M) = F0 m 0 ls [] ∧ zLc α ls (zml M) (zent M as) := by
  refine ⟨_, lg_entry_eq m (as.map (zcv α)) (zml M), zpad_len _ _, lv_args 0 (as.map (zcv α)), lv_entry _ (by rw [zsl_len]; exact hl), fun k v h => ?_⟩
  have := zlay_args (α := α) as 0 k v (zpad_at _ _ _ _ h)
  rwa [Nat.zero_add] at this
/-- what the tables say of a method -/
def zMt (M : Nat) : Prop := (match zhd M with
    | none => Cond.code (znm M) (zby M) (zml M) (zrt M) ∈ lw_all
    | some hh => Cond.codeWith (znm M) (zby M) (zml M) (zrt M) hh ∈ lw_all) ∧ Cond.initialized (znm M).cls ∈ lw_all ∧ plainName (znm M).cls = true ∧ zow M = (znm M).cls ∧
  ((znm M).cls ≠ "java/lang/invoke/MethodHandle" ∧ (znm M).cls ≠ "java/lang/invoke/VarHandle") ∧ zml M ≤ 29
def zcallees (r : List Nat) : List Nat := match r with
  | [] => []
  | [_, q] => [q]
  | [_, q, _] => [q]
  | _ :: _ :: vs => (zpairs vs).map (fun w => w.2)
  | _ => []
/-- what is asked of the methods that an entry calls -/
def zLev (M : Nat) (e : zEn) : Prop := ∀ q ∈ zcallees e.2.2, (match e.1 with
  | .invokestatic _ => True
  | .invokevirtual _ => True
  | .invokespecial _ => True
  | _ => False) → zMt q ∧ (q = M ∨ zlv q + zcm q + 1 ≤ zlv M)
def zwd (M : Nat) : List Cond := match zhd M with
  | none => ws_ (znm M) (zby M) (zml M) (zrt M)
  | some hh => wsW_ (znm M) (zby M) (zml M) (zrt M) hh
def zrm (M c mc : Nat) : Room := { frames := zlv M + c + 16, cells := mc, slots := 64 * mc, locals := 48 * (zlv M + c) + 1200 }
/-- a handler's entry, and what is caught -/
def zHnd (M : Nat) : Prop := match zhd M with
  | none => ∀ pc, zhand M pc = none
  | some hh => ∃ (x : ExceptionTableEntry) (ci : Nat) (q9 : vw_C), tableOf hh = [x] ∧ zcl[ci]? = some q9 ∧ (∀ pc, zhand M pc = if covers x pc = true then some (ci, x.handlerPc) else none) ∧ x.catchType ≠ 0 ∧ Cond.classLink (zow M) x.catchType q9.1 ∈ lw_all ∧ Cond.castable q9.1 q9.1 ∈ znw
def zCN (h : zH) (a : Nat) : Option String := (zcl[(h.2.1 a).1]?).map (fun q => q.1)
section CONTR
variable (b0 : Nat) (D : va_G) (dA : Nat → ClassId) (L : Nat) (xs : Nat → Int32)
def zPc (α : zAd) (h : zH) (as : List zV) : Array Value → State → Prop := fun args U => args = (as.map (zcv α)).toArray ∧ zRel b0 D dA α h U.heap ∧ zCtx b0 D dA α L xs U U.heap ∧ b0 ≤ U.heap.size
def zFin (α : zAd) (h h' : zH) (st t : State) (α' : zAd) : Prop := va_F (zA b0) st t ∧ (∀ a, a < h.1 → α' a = α a) ∧ zRel b0 D dA α' h' t.heap ∧ zCst L xs h'
def zQc (α : zAd) (h : zH) (r : zRes) (h' : zH) : Array Value → State → Outcome → State → Prop := fun _ st o t => match r with
  | .inl v => ∃ α', zFin b0 D dA L xs α h h' st t α' ∧ o = .returned (v.map (zcv α')) ∧ ∀ w, v = some w → zVok h'.1 w
  | .inr _ => False
def zXc (α : zAd) (h : zH) (r : zRes) (h' : zH) : String → Addr → State → State → Prop := fun E q st t => match r with
  | .inl _ => False
  | .inr a => ∃ α', zFin b0 D dA L xs α h h' st t α' ∧ α' a = some q ∧ zown h' a ∧ zCN h' a = some E
theorem zPc_blind (α : zAd) (h : zH) (as : List zV) : FrameBlind (zPc b0 D dA L xs α h as) := fun a U g mk hp => by
  obtain ⟨h1, h2, h3, h4⟩ := hp
  exact ⟨h1, h2, zCtx.to (U := U.calling g mk a) h3 (State.WarmedH.refl U) (Nat.le_refl _) (fun _ _ _ => rfl), h4⟩
/-- what is asked of a frame's exception table -/
def zTb (M : Nat) (c : Code) (r : zRes) : Prop := (zhd M ≠ none ∨ ∃ a, r = .inr a) → c.exceptionTable.toList = tableOf ((zhd M).getD [])
/-- the frames' law at the fuel n -/
def zP (l : Launch) (n : Nat) : Prop := ∀ (c M pc : Nat) (labs : List (Option zV)) (st : List zV) (h : zH) (r : zRes) (h' : zH), zF n c M pc labs st h (fun r1 h1 => r1 = r ∧ h1 = h') →
  ∀ (p : Program) (e : Env) (R : Room) (s : State) (m : MethodId) (args : Array Value) (below : List Frame) (meth : Method) (c9 : Code) (α0 : zAd) (h0 : zH) (α : zAd) (H : Heap) (locs : List Loc) (cells slots : Nat) (ls : Array Slot) (mc ms : Nat),
  zFr p l R b0 D dA α0 L xs s m args meth c9 M → zSt b0 D dA L xs M s α h H locs ls labs st → h0.1 ≤ h.1 → 64 ≤ h0.1 → (∀ a, a < h0.1 → α a = α0 a) → zTb M c9 r → zlv M + c + 16 ≤ R.frames → 48 * (zlv M + c) + 1200 ≤ R.locals →
  mc ≤ R.cells → ms ≤ R.slots → cells + (h'.1 - h.1) ≤ mc → slots + 64 * (h'.1 - h.1) ≤ ms →
  W p l e R s m args below meth c9 H locs cells slots (vx_MQ below (zQc b0 D dA L xs α0 h0 r h') (zXc b0 D dA L xs α0 h0 r h') args s mc ms (zA b0)) (F0 m pc ls (st.map (zcv α)))
variable {b0 D dA L xs}
theorem zfr_of {p : Program} {l : Launch} (hl : l.stackTraces = false) {M : Nat} (hM : zMt M) {S : Spec} {maxL : Nat} {e : Env} {s s₁ : State} {m : MethodId} {args : Array Value} {below : List Frame} {meth : Method} {c9 : Code} {α : zAd} {R : Room}
    (B : BodyLoose p l (znm M) S (zby M) maxL (zrt M) e s m args below meth c9 s₁) (hml : c9.maxLocals = zml M) (hw : ∀ w ∈ lw_all, w.before args s = true) (hX : zCtx b0 D dA α L xs s s.heap) (hb : b0 ≤ s.heap.size) (h1 : 16 ≤ R.frames) (h2 : 1200 ≤ R.locals) : zFr p l R b0 D dA α L xs s m args meth c9 M :=
  ⟨B.exec, B.bytes, B.returns, B.notSynchronized, hml, by rw [hM.2.2.2.1]; exact findClass_of_methodNamed B.named, hw, fun hn => by rw [(name_of_methodNamed B.named B.method).1]; exact hn, hl, hX, hb, h1, h2⟩
/-- a method's contract, of what is shown of frames -/
theorem zmet {l : Launch} (hl : l.stackTraces = false) {n : Nat} (IH : zP b0 D dA L xs l n) {M : Nat} (hM : zMt M) {c : Nat} {as : List zV} {h h' : zH} {r : zRes} {α : zAd} (hf : zF n c M 0 (zent M as) [] h (fun r1 h1 => r1 = r ∧ h1 = h')) (hlen : zcat as ≤ zml M) (hC : zCst L xs h) (hv : ∀ v ∈ as, zVok h.1 v) :
    vx_Met l (znm M) (zwd M) (zrm M c (h'.1 - h.1)) (zPc b0 D dA L xs α h as) (zQc b0 D dA L xs α h r h') (zXc b0 D dA L xs α h r h') (h'.1 - h.1) (64 * (h'.1 - h.1)) (zA b0) := by
  have key : ∀ (p : Program) (e : Env) (s : State) (m : MethodId) (args : Array Value) (below : List Frame) (meth : Method) (c9 : Code), zFr p l (zrm M c (h'.1 - h.1)) b0 D dA α L xs s m args meth c9 M → zTb M c9 r → args = (as.map (zcv α)).toArray → zRel b0 D dA α h s.heap →
      W p l e (zrm M c (h'.1 - h.1)) s m args below meth c9 s.heap [] 0 0 (vx_MQ below (zQc b0 D dA L xs α h r h') (zXc b0 D dA L xs α h r h') args s (h'.1 - h.1) (64 * (h'.1 - h.1)) (zA b0)) (entryFrame m args (zml M)) := by
    intro p e s m args below meth c9 B htb ha hR
    subst ha
    obtain ⟨ls, e1, e2⟩ := zent_lc (α := α) hlen m
    rw [e1]
    exact IH c M 0 (zent M as) [] h r h' hf p e (zrm M c (h'.1 - h.1)) s m _ below meth c9 α h α s.heap [] 0 0 ls _ _ B ⟨hR, va_S.rf, hC, e2, fun v hv => absurd hv List.not_mem_nil, fun k v hk => hv v (zlay_mem _ _ _ (zpad_at _ _ _ _ hk))⟩
      (Nat.le_refl _) hR.1.1 (fun _ _ => rfl) htb (Nat.le_refl _) (Nat.le_refl _) (Nat.le_refl _) (Nat.le_refl _) (by omega) (by omega)
  have h16 : 16 ≤ (zrm M c (h'.1 - h.1)).frames := by show 16 ≤ zlv M + c + 16; omega
  have h12 : 1200 ≤ (zrm M c (h'.1 - h.1)).locals := by show 1200 ≤ 48 * (zlv M + c) + 1200; omega
  cases hz : zhd M with
  | none =>
    have ew : zwd M = ws_ (znm M) (zby M) (zml M) (zrt M) := by unfold zwd; rw [hz]
    refine vx_ofW hM.2.2.1 ew (fun p e s m args below meth c9 s₁ B hml htab hP => ?_)
    obtain ⟨ha, hR, hX, hb⟩ := hP
    have hw : ∀ w ∈ lw_all, w.before args s = true := fun w hw => atoms_spec (ws := zwd M) B.pre _ (by rw [ew]; exact List.mem_cons_of_mem _ hw)
    refine key p e s m args below meth c9 (zfr_of hl hM B hml hw hX hb h16 h12) (fun _ => ?_) ha hR
    rw [hz]
    show _ = []
    exact List.eq_nil_iff_forall_not_mem.mpr htab
  | some hh =>
    have ew : zwd M = wsW_ (znm M) (zby M) (zml M) (zrt M) hh := by unfold zwd; rw [hz]
    refine vx_ofWH hM.2.2.1 ew (fun p e s m args below meth c9 s₁ B hml hP => ?_)
    obtain ⟨ha, hR, hX, hb⟩ := hP
    have hw : ∀ w ∈ zwd M, w.before args s = true := atoms_spec (ws := zwd M) B.pre
    refine key p e s m args below meth c9 (zfr_of hl hM B hml (fun w hw' => hw w (by rw [ew]; exact List.mem_cons_of_mem _ hw')) hX hb h16 h12) (fun _ => ?_) ha hR
    rw [hz]
    exact vx_table (x := znm M) B (hw (Cond.codeWith (znm M) (zby M) (zml M) (zrt M) hh) (by rw [ew]; exact List.mem_cons_self))
end CONTR
