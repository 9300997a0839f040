/-! SOUNDNESS 5: statics, constants, new cells, arrays, casts -/
def zLgs (own : String) (idx len : Nat) (r : List Nat) : Prop := len = 3 ∧
  ((r = [0, 1] ∧ Cond.fieldLink own idx "java/lang/String" "COMPACT_STRINGS" "Z" ∈ lw_all) ∨ (r = [2, 61] ∧ Cond.fieldLink own idx Bundle.tN "UNASSIGNED_STACK" Bundle.steD ∈ lw_all) ∨
   (r = [2, 62] ∧ Cond.fieldLink own idx Bundle.tN "SUPPRESSED_SENTINEL" Bundle.listD ∈ lw_all) ∨ (r = [2, 63] ∧ Cond.fieldLink own idx "jdk/internal/util/Preconditions" "SIOOBE_FORMATTER" "Ljava/util/function/BiFunction;" ∈ lw_all))
def zLldc (own : String) (idx : Nat) (r : List Nat) : Prop :=
  (∃ v : Nat, r = [0, v] ∧ v < 2147483648 ∧ Cond.constant own idx (Int32.ofNat v) ∈ lw_all) ∨ (∃ (i : Nat) (tx : String), i < 26 ∧ r = [2, 2 + 2 * i] ∧ (own, idx, tx, i) ∈ zstrs) ∨ (∃ v : Nat, r = [1, v] ∧ v < 2147483648 ∧ Cond.constantLong own idx (Int64.ofNat v) ∈ lw_all)
def zLnew (own : String) (idx len : Nat) (r : List Nat) : Prop := len = 3 ∧ ∃ (ci N : Nat) (C : String) (T : u_T), r = [ci, N] ∧ zcl[ci]? = some (C, T, N) ∧ 0 < ci ∧ ci < 24 ∧ N ≤ 64 ∧ Cond.classLink own idx C ∈ lw_all ∧ Cond.instantiable C N ∈ lw_all
def zLnewa (at' : ArrayType) (len : Nat) (r : List Nat) : Prop := len = 2 ∧ ∃ u, u < 5 ∧ r = [100 + u] ∧ newarray.typeOf at' = zft u ∧ Cond.arrayClass (newarray.typeOf at') ∈ lw_all
def zLanew (own : String) (idx len : Nat) (r : List Nat) : Prop := len = 3 ∧ ∃ (u : Nat) (C : String), u < 8 ∧ r = [105 + u] ∧ zcomps[u]? = some C ∧ Cond.classLink own idx C ∈ lw_all
section ZNEW
variable {p : Program} {l : Launch} {e : Env} {R : Room} {s : State} {m : MethodId} {args : Array Value} {below : List Frame} {meth : Method} {c : Code} {QQ : State → Prop} {b0 : Nat} {D : va_G} {dA : Nat → ClassId} {L : Nat} {xs : Nat → Int32} {M : Nat} {α : zAd} {h : zH} {H : Heap} {locs : List Loc} {cells slots : Nat} {ls : Array Slot} {labs : List (Option zV)} {pc : Nat} {t : List zV}
theorem zo_getstatic (B : zFr p l R b0 D dA α L xs s m args meth c M) {idx len : Nat} {r : List Nat} (hL : zLgs (zow M) idx len r) (S : zSt b0 D dA L xs M s α h H locs ls labs t) (hd : decode (zby M) pc = .ok (.getstatic idx, len)) {v : zV}
    (hv : (r = [0, 1] → v = .inl ((1 : Nat) : Int)) ∧ ∀ a, r = [2, a] → v = .inr (.inr a)) (k : zKont p l e R s m args below meth c QQ b0 D dA L xs M α h cells slots (pc + len) labs (v :: t) h) :
    W p l e R s m args below meth c H locs cells slots QQ (F0 m pc ls (t.map (zcv α))) := by
  obtain ⟨rfl, hL⟩ := hL
  obtain ⟨g1, g2, -, g4, -, g6⟩ := B.ctx.2.2.2.2.2.1
  have h64 := S.1.1.1
  rcases hL with ⟨rfl, hl⟩ | ⟨rfl, hl⟩ | ⟨rfl, hl⟩ | ⟨rfl, hl⟩
  · cases hv.1 rfl
    exact va_gets B.1 B.2.1 g1 S.2.1 B.own (B.ts _ hl) (fun _ z => z) hd (zK_st S k (zok_cons ⟨by decide, by decide⟩ S.2.2.2.2.1))
  · cases hv.2 _ rfl
    exact va_gets B.1 B.2.1 g2 S.2.1 B.own (B.ts _ hl) (fun _ z => z) hd (zK_st S k (zok_cons (show 61 < h.1 by omega) S.2.2.2.2.1))
  · cases hv.2 _ rfl
    exact va_gets B.1 B.2.1 g4 S.2.1 B.own (B.ts _ hl) (fun _ z => z) hd (zK_st S k (zok_cons (show 62 < h.1 by omega) S.2.2.2.2.1))
  · cases hv.2 _ rfl
    exact va_gets B.1 B.2.1 g6 S.2.1 B.own (B.ts _ hl) (fun _ z => z) hd (zK_st S k (zok_cons (show 63 < h.1 by omega) S.2.2.2.2.1))
theorem zldc_w {own tx : String} {index q : Nat} {cc : ByteArray} {rest : List Value} (hexec : p.tables.exec = Jvm.exec) (hb : c.code = cc) (hown : s.vm.findClass own = some m.cls) (hZ : vk_R own index tx q s) (hdg : decode cc pc = .ok (.ldc_w index, 3))
    (k : W p l e R s m args below meth c H locs cells slots QQ (F0 m (pc + 3) ls (.ref q :: rest))) : W p l e R s m args below meth c H locs cells slots QQ (F0 m pc ls rest) := by
  intro T hT X
  obtain ⟨t, a1, b1⟩ := k T hT X
  obtain ⟨k0, cf, i, a', hk, hcf, hcp, -, hr, hev'⟩ := Cond.stringRef_spec (args := #[]) hown hZ.1
  cases hZ.2.symm.trans hev'
  obtain ⟨k', hk', he⟩ := X.warmed.alike.2.2 _ _ hk
  have hr' : k'.resolved[index]? = some (some (.string q)) := by
    rcases X.warmed.entry hk hk' index with h | ⟨h, -⟩
    · rw [h]; exact hr
    · rw [hr] at h; cases h
  refine ⟨t, ?_, b1⟩
  have hdg' : decode c.code (F0 m pc ls rest).pc = .ok (.ldc_w index, 3) := by rw [hb]; exact hdg
  jvm_step X.here [hexec, hdg', ldc_w.wp_string (e := e) (s := T) (f := F0 m pc ls rest) X.here.top hk' (by rw [he]; exact hcf) hcp hr']
  exact a1
theorem zo_ldc (B : zFr p l R b0 D dA α L xs s m args meth c M) {idx : Nat} {r : List Nat} (hL : zLldc (zow M) idx r) (S : zSt b0 D dA L xs M s α h H locs ls labs t) (hd : decode (zby M) pc = .ok (.ldc idx, 2)) {v : zV}
    (hv : (∀ x : Nat, r = [0, x] → v = .inl (x : Int)) ∧ (∀ a, r = [2, a] → v = .inr (.inr a)) ∧ ∀ x, r ≠ [1, x]) (k : zKont p l e R s m args below meth c QQ b0 D dA L xs M α h cells slots (pc + 2) labs (v :: t) h) :
    W p l e R s m args below meth c H locs cells slots QQ (F0 m pc ls (t.map (zcv α))) := by
  rcases hL with ⟨x, rfl, hx, hl⟩ | ⟨i, tx, hi, rfl, hl⟩ | ⟨x, rfl, -, -⟩
  · cases hv.1 x rfl
    have kk := zK_st S k (zok_cons (show zC32 _ by unfold zC32; omega) S.2.2.2.2.1)
    simp only [List.map_cons, zcv, zi_n] at kk
    exact lv_ldc B.1 B.2.1 B.own (B.ts _ hl) hd kk
  · cases hv.2.1 _ rfl
    obtain ⟨ak, e1, e2⟩ := B.ctx.2.2.2.2.1 _ hl
    have kk := zK_st S k (zok_cons (show 2 + 2 * i < h.1 by have := S.1.1.1; omega) S.2.2.2.2.1)
    simp only [List.map_cons, zcv] at kk
    rw [e1] at kk
    exact va_ldcS B.1 B.2.1 B.own e2 hd kk
  · exact absurd rfl (hv.2.2 x)
theorem zo_ldc_w (B : zFr p l R b0 D dA α L xs s m args meth c M) {idx : Nat} {r : List Nat} (hL : zLldc (zow M) idx r) (S : zSt b0 D dA L xs M s α h H locs ls labs t) (hd : decode (zby M) pc = .ok (.ldc_w idx, 3)) {v : zV}
    (hv : (∀ x : Nat, r = [0, x] → v = .inl (x : Int)) ∧ (∀ a, r = [2, a] → v = .inr (.inr a)) ∧ ∀ x, r ≠ [1, x]) (k : zKont p l e R s m args below meth c QQ b0 D dA L xs M α h cells slots (pc + 3) labs (v :: t) h) :
    W p l e R s m args below meth c H locs cells slots QQ (F0 m pc ls (t.map (zcv α))) := by
  rcases hL with ⟨x, rfl, hx, hl⟩ | ⟨i, tx, hi, rfl, hl⟩ | ⟨x, rfl, -, -⟩
  · cases hv.1 x rfl
    have kk := zK_st S k (zok_cons (show zC32 _ by unfold zC32; omega) S.2.2.2.2.1)
    simp only [List.map_cons, zcv, zi_n] at kk
    exact lv_ldcw B.1 B.2.1 B.own (B.ts _ hl) hd kk
  · cases hv.2.1 _ rfl
    obtain ⟨ak, e1, e2⟩ := B.ctx.2.2.2.2.1 _ hl
    have kk := zK_st S k (zok_cons (show 2 + 2 * i < h.1 by have := S.1.1.1; omega) S.2.2.2.2.1)
    simp only [List.map_cons, zcv] at kk
    rw [e1] at kk
    exact zldc_w B.1 B.2.1 B.own e2 hd kk
  · exact absurd rfl (hv.2.2 x)
theorem zo_ldc2 (B : zFr p l R b0 D dA α L xs s m args meth c M) {idx : Nat} {x : Nat} (hL : zLldc (zow M) idx [1, x]) (S : zSt b0 D dA L xs M s α h H locs ls labs t) (hd : decode (zby M) pc = .ok (.ldc2_w idx, 3))
    (k : zKont p l e R s m args below meth c QQ b0 D dA L xs M α h cells slots (pc + 3) labs (.inr (.inl (x : Int)) :: t) h) :
    W p l e R s m args below meth c H locs cells slots QQ (F0 m pc ls (t.map (zcv α))) := by
  rcases hL with ⟨y, hy, hx, hl⟩ | ⟨i, tx, hi, hy, hl⟩ | ⟨y, hy, hx, hl⟩
  · cases hy
  · cases hy
  · cases hy
    have kk := zK_st S k (zok_cons (show zC64 _ by unfold zC64; omega) S.2.2.2.2.1)
    simp only [List.map_cons, zcv, Int64.ofInt_eq_ofNat] at kk
    exact lv_ldc2 B.1 B.2.1 B.own (B.ts _ hl) hd kk
/-! new cells -/
theorem zup_self {β : Type} (f : Nat → β) (k : Nat) (v : β) : zup f k v k = v := if_pos rfl
theorem zup_ne {β : Type} (f : Nat → β) {k j : Nat} (v : β) (h : j ≠ k) : zup f k v j = f j := if_neg h
/-- a new cell of kind (k, len), w addresses wide -/
def znew (h : zH) (k len w : Nat) : zH := (h.1 + w, zup h.2.1 h.1 (k, len), zup h.2.2.1 h.1 (fun _ => 0), zup h.2.2.2 h.1 (fun _ => 0))
theorem zinv_new (I : zInv α h) {q k len w : Nat} (hw : 0 < w) (hk : k ≠ 0) (h1 : k < 100 → ∃ r, zcl[k]? = some r ∧ len = r.2.2) (h2 : 100 ≤ k → k < 113 ∧ len ≤ 1000000) : zInv (zup α h.1 (some q)) (znew h k len w) := by
  obtain ⟨i1, i2, i3, i4, i5, i6, i7, i8, i9⟩ := I
  have hne : ∀ {a : Nat}, a ≠ h.1 → (znew h k len w).2.1 a = h.2.1 a := fun ha => zup_ne _ _ ha
  have hself : (znew h k len w).2.1 h.1 = (k, len) := zup_self _ _ _
  refine ⟨show 64 ≤ h.1 + w by omega, (zup_ne _ _ (by omega)).trans i2, fun a ha => ?_, by rw [hne (by omega)]; exact i4, fun a ha hb => ?_, fun a ha => ?_, fun a j => ?_, fun a j => ?_, fun a j => ?_⟩
  · have ha' : h.1 + w ≤ a := ha
    rw [hne (by omega)]
    exact i3 a (by omega)
  · by_cases hz : a = h.1
    · subst hz
      rw [hself] at hb ⊢
      exact h1 hb
    · rw [hne hz] at ha hb ⊢
      exact i5 a ha hb
  · by_cases hz : a = h.1
    · subst hz
      rw [hself] at ha ⊢
      exact h2 ha
    · rw [hne hz] at ha ⊢
      exact i6 a ha
  · show zC64 (zup h.2.2.2 h.1 (fun _ => 0) a j)
    by_cases hz : a = h.1
    · rw [hz, zup_self]; exact ⟨by decide, by decide⟩
    · rw [zup_ne _ _ hz]; exact i7 a j
  · show zcan ((znew h k len w).2.1 a).1 j (zup h.2.2.2 h.1 (fun _ => 0) a j)
    by_cases hz : a = h.1
    · rw [hz, zup_self]; exact ⟨fun _ _ => zc_0, fun _ _ => zc_0⟩
    · rw [zup_ne _ _ hz, hne hz]; exact i8 a j
  · show zup h.2.2.1 h.1 (fun _ => 0) a j < h.1 + w
    by_cases hz : a = h.1
    · rw [hz, zup_self]; show 0 < h.1 + w; omega
    · rw [zup_ne _ _ hz]; have := i9 a j; omega
theorem zcst_new (C : zCst L xs h) (h64 : 64 ≤ h.1) (k len w : Nat) : zCst L xs (znew h k len w) := fun a ha => by
  have hz : a ≠ h.1 := by omega
  obtain ⟨c1, c2, c3⟩ := C a ha
  exact ⟨(zup_ne _ _ hz).trans c1, (zup_ne _ _ hz).trans c2, (zup_ne _ _ hz).trans c3⟩
theorem zlc_agree {α α' : zAd} {ls : Array Slot} {nL n : Nat} {labs : List (Option zV)} (hl : zLc α ls nL labs) (hα : ∀ a, a < n → α' a = α a) (hv : ∀ (k : Nat) (v : zV), labs[k]? = some (some v) → zVok n v) : zLc α' ls nL labs := by
  obtain ⟨h0, lv, h1, h2⟩ := hl
  refine ⟨h0, lv, h1, fun k v hk => ?_⟩
  have := h2 k v hk
  have e : zcv α' v = zcv α v := by
    rcases v with x | x | a
    · rfl
    · rfl
    · show va_rf (α' a) = va_rf (α a)
      rw [hα a (hv k _ hk)]
  rw [e]
  exact this
theorem zmap_agree {α α' : zAd} {n : Nat} {st : List zV} (hα : ∀ a, a < n → α' a = α a) (hv : ∀ v ∈ st, zVok n v) : st.map (zcv α') = st.map (zcv α) := by
  apply List.map_congr_left
  intro v hm
  rcases v with x | x | a
  · rfl
  · rfl
  · show va_rf (α' a) = va_rf (α a)
    rw [hα a (hv _ hm)]
theorem zvok_mono {n n' : Nat} (hn : n ≤ n') {v : zV} (h : zVok n v) : zVok n' v := by
  rcases v with x | x | a
  · exact h
  · exact h
  · exact Nat.lt_of_lt_of_le h hn
theorem znew_end (S : zSt b0 D dA L xs M s α h H locs ls labs t) {q k len w : Nat} {e9 : va_E} {H1 : Heap} {locs1 : List Loc} {cells1 slots1 : Nat} (hw : 0 < w) (hk : k ≠ 0) (h1 : k < 100 → ∃ r, zcl[k]? = some r ∧ len = r.2.2) (h2 : 100 ≤ k → k < 113 ∧ len ≤ 1000000)
    (hP : va_P D zcl (zws α dA h ++ [(q, e9)]) H1) (hD : va_D (zA b0) (zws α dA h ++ [(q, e9)])) (hS : va_S (zA b0) s.heap H1 locs1) (he : zen0 (zup α h.1 (some q)) dA k len (fun _ => 0) (fun _ => 0) = e9) (hc : cells1 ≤ cells + w) (hs : slots1 ≤ slots + 64 * w) {pc' : Nat}
    (kk : zKont p l e R s m args below meth c QQ b0 D dA L xs M α h cells slots pc' labs (.inr (.inr h.1) :: t) (znew h k len w)) : W p l e R s m args below meth c H1 locs1 cells1 slots1 QQ (F0 m pc' ls (.ref q :: t.map (zcv α))) := by
  have h64 := S.1.1.1
  have hα : ∀ a, a < h.1 → zup α h.1 (some q) a = α a := fun a ha => zup_ne _ _ (by omega)
  have hrel : zRel b0 D dA (zup α h.1 (some q)) (znew h k len w) H1 := by
    refine zrel_new S.1 hP hD (zinv_new S.1.1 hw hk h1 h2) (fun b hb => ⟨zup_ne _ _ hb, zup_ne _ _ hb, zup_ne _ _ hb⟩) ?_
    unfold zen
    rw [show (znew h k len w).2.1 h.1 = (k, len) from zup_self _ _ _, show (znew h k len w).2.2.1 h.1 = (fun _ => 0) from zup_self _ _ _, show (znew h k len w).2.2.2 h.1 = (fun _ => 0) from zup_self _ _ _]
    exact he
  have hst : ∀ v ∈ t, zVok (znew h k len w).1 v := fun v hv => zvok_mono (show h.1 ≤ h.1 + w by omega) (S.2.2.2.2.1 v hv)
  have := kk (zup α h.1 (some q)) H1 locs1 cells1 slots1 ls hα ⟨hrel, hS, zcst_new S.2.2.1 h64 k len w, zlc_agree S.2.2.2.1 hα S.2.2.2.2.2, zok_cons (show h.1 < h.1 + w by omega) hst, fun k v hv => zvok_mono (show h.1 ≤ h.1 + w by omega) (S.2.2.2.2.2 k v hv)⟩
    (by show cells1 ≤ cells + (h.1 + w - h.1); omega) (by show slots1 ≤ slots + 64 * (h.1 + w - h.1); omega) (show h.1 ≤ h.1 + w by omega)
  rw [List.map_cons, zmap_agree hα S.2.2.2.2.1, show zcv (zup α h.1 (some q)) (.inr (.inr h.1)) = .ref q by show va_rf (zup α h.1 (some q) h.1) = _; rw [zup_self]; rfl] at this
  exact this
theorem zdef0 {α : zAd} (h0 : α 0 = none) {ty : FieldType} (hf : ty ≠ .float ∧ ty ≠ .double ∧ ty ≠ .char ∧ ty ≠ .short) : defaultValue ty = zval α (zck ty) 0 0 := by
  cases ty with
  | object C => show Value.null = va_rf (α 0); rw [h0]; rfl
  | array z => show Value.null = va_rf (α 0); rw [h0]; rfl
  | float => exact absurd rfl hf.1
  | double => exact absurd rfl hf.2.1
  | char => exact absurd rfl hf.2.2.1
  | short => exact absurd rfl hf.2.2.2
  | _ => rfl
theorem zo_new (B : zFr p l R b0 D dA α L xs s m args meth c M) {ci N idx len : Nat} (hL : zLnew (zow M) idx len [ci, N]) (S : zSt b0 D dA L xs M s α h H locs ls labs t) (hd : decode (zby M) pc = .ok (.new idx, len)) (hcl : cells + 1 ≤ R.cells) (hsl : slots + 64 ≤ R.slots)
    (k : zKont p l e R s m args below meth c QQ b0 D dA L xs M α h cells slots (pc + len) labs (.inr (.inr h.1) :: t) (znew h ci N 1)) : W p l e R s m args below meth c H locs cells slots QQ (F0 m pc ls (t.map (zcv α))) := by
  obtain ⟨rfl, ci', N', C, T, hr, h1, c1, c2, hN, hlk, hin⟩ := hL
  obtain ⟨rfl, rfl⟩ : ci = ci' ∧ N = N' := by simpa using hr
  obtain ⟨ok1, ok2, ⟨ty0, ok3⟩, -, ok5⟩ := zcl_ok _ (List.mem_of_getElem? h1)
  have hα0 := S.1.1.2.1
  have hfk : ∀ j, j < N → zfk ci j = zck (ty0 j) := fun j hj => by
    unfold zfk
    rw [h1]
    show (match parseFieldDescriptor (T j).2.2.1 with | some ty => zck ty | none => 2) = _
    rw [ok3 j hj]
  have hno := zcl_ty ci C T N h1
  refine va_new (ci := ci) (fs := (List.range N).map (fun j => zval α (zfk ci j) 0 0)) B.1 B.2.1 B.ts ok1 ty0 ok3 B.own (B.ts _ hlk) (B.ts _ hin) (B.ts _ ok5) B.K (zws_P S.1) (zws_D S.1) S.2.1 B.hA h1 (fun j hj => ?_) hcl (show slots + N ≤ R.slots by omega) hd (fun q H1 hP hD hS => ?_)
  · unfold vp_V
    rw [List.getD_eq_getElem?_getD, zrange _ hj]
    show _ = zval α (zfk ci j) 0 0
    rw [hfk j hj]
    exact zdef0 hα0 (hno j hj _ (ok3 j hj))
  · refine znew_end S (by decide) (by omega) (fun _ => ⟨_, h1, rfl⟩) (fun z => by omega) hP hD hS ?_ (Nat.le_refl _) (show slots + N ≤ slots + 64 * 1 by omega) k
    unfold zen0
    rw [show Nat.ble 100 ci = false by cases e9 : Nat.ble 100 ci with | false => rfl | true => exact absurd (Nat.le_of_ble_eq_true e9) (by omega)]
    show (Sum.inr _ : va_E) = _
    congr 2
    apply List.map_congr_left
    intro j hj
    have h64 := S.1.1.1
    unfold zval
    split <;> first | rfl | (show va_rf (zup α h.1 (some q) 0) = va_rf (α 0); rw [zup_ne _ _ (by omega)])
/-! arrays -/
theorem zra_id {u : Nat} {cA : ClassId} (hu : u < 13) (hK : va_K D zcl (ztys dA) s) {tys' : List (ClassId × FieldType)} (hK' : va_K D zcl (tys' ++ [(cA, zft u)]) s) : cA = dA u := by
  have h1 := (hK.2 u _ (ztys_at hu)).2
  have h2 := (hK'.2 tys'.length (cA, zft u) (by simp)).2
  dsimp only at h1 h2
  unfold va_RA at h1 h2
  cases hz : zft u with
  | object C =>
    rw [hz] at h1 h2
    obtain ⟨_, _, -, -, -, e1⟩ := h1
    obtain ⟨_, _, -, -, -, e2⟩ := h2
    exact Option.some.inj (e2.symm.trans e1)
  | _ => rw [hz] at h1 h2; exact Option.some.inj (h2.symm.trans h1)
theorem zwt_le (n : Nat) : n ≤ 64 * zwt n := by unfold zwt; omega
theorem zwt_pos (n : Nat) : 0 < zwt n := by unfold zwt; omega
theorem zo_newa (B : zFr p l R b0 D dA α L xs s m args meth c M) {at' : ArrayType} {u len : Nat} {x : Int} (hL : zLnewa at' len [100 + u]) (hx : 0 ≤ x ∧ x ≤ 1000000) (S : zSt b0 D dA L xs M s α h H locs ls labs (.inl x :: t)) (hd : decode (zby M) pc = .ok (.newarray at', len)) (hcl : cells + zwt x.toNat ≤ R.cells) (hsl : slots + 64 * zwt x.toNat ≤ R.slots)
    (k : zKont p l e R s m args below meth c QQ b0 D dA L xs M α h cells slots (pc + len) labs (.inr (.inr h.1) :: t) (znew h (100 + u) x.toNat (zwt x.toNat))) : W p l e R s m args below meth c H locs cells slots QQ (F0 m pc ls ((.inl x :: t).map (zcv α))) := by
  obtain ⟨rfl, u', hu, hr, hty, har⟩ := hL
  obtain rfl : u = u' := by simpa using hr
  have hxc : zC32 x := S.hd
  have hcl9 := zi_clamp hxc hx.1
  have hw := zwt_le x.toNat
  have hw0 := zwt_pos x.toNat
  have hnn : ¬ Int32.ofInt x < 0 := fun q => by have := (zi_lt hxc zc_0).mp q; omega
  have hb : componentBytes (zft u) ≤ 8 := by
    rcases (show u = 0 ∨ u = 1 ∨ u = 2 ∨ u = 3 ∨ u = 4 by omega) with rfl | rfl | rfl | rfl | rfl <;> decide
  have hbytes : x.toNat * componentBytes (zft u) ≤ 536870912 := by
    have : x.toNat * componentBytes (zft u) ≤ 1000000 * 8 := Nat.mul_le_mul (by omega) hb
    omega
  have ha0 : ∀ cA : ClassId, vp_cell cA (x.toNat, zarr α (100 + u) (fun _ => 0) (fun _ => 0)) = arrV cA x.toNat (fun _ => defaultValue (zft u)) := by
    intro cA
    rcases (show u = 0 ∨ u = 1 ∨ u = 2 ∨ u = 3 ∨ u = 4 by omega) with rfl | rfl | rfl | rfl | rfl <;> rfl
  refine va_newa (ty := zft u) (a0 := (x.toNat, zarr α (100 + u) (fun _ => 0) (fun _ => 0))) B.1 B.2.1 (B.ts _ har) hty B.K (zws_P S.1) (zws_D S.1) S.2.1 B.hA ha0 hnn hcl9 hbytes (by omega) (by omega) hd (fun q cA H1 hK' hP hD hS => ?_)
  obtain rfl := zra_id (by omega) B.K hK'
  refine znew_end S.tl hw0 (by omega) (fun z => by omega) (fun _ => ⟨by omega, by omega⟩) hP hD hS ?_ (by omega) (by omega) k
  unfold zen0
  rw [show Nat.ble 100 (100 + u) = true from Nat.ble_eq_true_of_le (by omega), Nat.add_sub_cancel_left]
  show (Sum.inl _ : va_E) = _
  congr 3
  rcases (show u = 0 ∨ u = 1 ∨ u = 2 ∨ u = 3 ∨ u = 4 by omega) with rfl | rfl | rfl | rfl | rfl <;> rfl
theorem zo_newq (B : zFr p l R b0 D dA α L xs s m args meth c M) {idx u len : Nat} {x : Int} (hL : zLanew (zow M) idx len [105 + u]) (hx : 0 ≤ x ∧ x ≤ 1000000) (S : zSt b0 D dA L xs M s α h H locs ls labs (.inl x :: t)) (hd : decode (zby M) pc = .ok (.anewarray idx, len)) (hcl : cells + zwt x.toNat ≤ R.cells) (hsl : slots + 64 * zwt x.toNat ≤ R.slots)
    (k : zKont p l e R s m args below meth c QQ b0 D dA L xs M α h cells slots (pc + len) labs (.inr (.inr h.1) :: t) (znew h (105 + u) x.toNat (zwt x.toNat))) : W p l e R s m args below meth c H locs cells slots QQ (F0 m pc ls ((.inl x :: t).map (zcv α))) := by
  obtain ⟨rfl, u', C, hu, hr, hC, hlk⟩ := hL
  obtain rfl : u = u' := by simpa using hr
  have hxc : zC32 x := S.hd
  have hw := zwt_le x.toNat
  have hw0 := zwt_pos x.toNat
  have hnn : ¬ Int32.ofInt x < 0 := fun q => by have := (zi_lt hxc zc_0).mp q; omega
  have hft : zft (5 + u) = .object C := by
    show zft (5 + u) = _
    rw [Nat.add_comm]
    show FieldType.object (zcomps.getD u "") = _
    rw [List.getD_eq_getElem?_getD, hC]; rfl
  refine va_newq (C := C) (N' := x.toNat) B.1 B.2.1 B.own (B.ts _ hlk) (B.ctx.2.2.1 C (List.mem_of_getElem? hC)) B.K (zws_P S.1) (zws_D S.1) S.2.1 B.hA hnn (zi_clamp hxc hx.1) (by omega) (by omega) (by omega) hd (fun q cA H1 hK' hP hD hS => ?_)
  rw [← hft] at hK'
  obtain rfl := zra_id (by omega) B.K hK'
  refine znew_end S.tl hw0 (by omega) (fun z => by omega) (fun _ => ⟨by omega, by omega⟩) hP hD hS ?_ (by omega) (by omega) k
  unfold zen0
  rw [show Nat.ble 100 (105 + u) = true from Nat.ble_eq_true_of_le (by omega), show 105 + u - 100 = 5 + u by omega]
  show (Sum.inl _ : va_E) = _
  congr 3
  unfold zarr
  rw [show Nat.ble (105 + u) 103 = false by cases e9 : Nat.ble (105 + u) 103 with | false => rfl | true => exact absurd (Nat.le_of_ble_eq_true e9) (by omega), show Nat.ble (105 + u) 104 = false by cases e9 : Nat.ble (105 + u) 104 with | false => rfl | true => exact absurd (Nat.le_of_ble_eq_true e9) (by omega)]
  show (Sum.inr (Sum.inr (Sum.inr (Sum.inr _))) : (Nat → Int32) ⊕ (Nat → Int64) ⊕ (Nat → UInt32) ⊕ (Nat → UInt64) ⊕ (Nat → Option Nat)) = _
  congr 4
  funext j
  show zup α h.1 (some q) 0 = none
  have h64 := S.1.1.1
  rw [zup_ne _ _ (by omega)]
  exact S.1.1.2.1
end ZNEW
