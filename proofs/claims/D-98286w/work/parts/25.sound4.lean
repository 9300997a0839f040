/-! SOUNDNESS 4: objects' fields, statics, constants -/
/-- field f of class ci: its type, declarer, name, descriptor, final -/
def zFld (ci N f : Nat) (ty : FieldType) (O n d : String) (fin : Bool) : Prop := ∃ (C : String) (T : u_T), zcl[ci]? = some (C, T, N) ∧ f < N ∧ (T f).1 = O ∧ (T f).2.1 = n ∧ (T f).2.2.1 = d ∧ (T f).2.2.2 = fin ∧ parseFieldDescriptor d = some ty ∧ 0 < ci ∧ ci < 100
def zLnk (own : String) (idx : Nat) (O n d : String) : Prop := Cond.fieldLink own idx O n d ∈ lw_all ∨ ∃ host, Cond.fieldLinkNest own idx O n d host ∈ znw
theorem zFld.fk {ci N f : Nat} {ty : FieldType} {O n d : String} {fin : Bool} (F : zFld ci N f ty O n d fin) : zfk ci f = zck ty := by
  obtain ⟨C, T, h1, h2, h3, h4, h5, h6, h7, -⟩ := F
  unfold zfk
  rw [h1]
  show (match parseFieldDescriptor (T f).2.2.1 with | some ty => zck ty | none => 2) = _
  rw [h5, h7]
theorem zrange {α : Type} {N f : Nat} (g : Nat → α) (hf : f < N) : ((List.range N).map g)[f]? = some (g f) := by
  rw [List.getElem?_map, List.getElem?_range hf]; rfl
theorem zrange_set {α : Type} {N f : Nat} (g : Nat → α) (v : α) (hf : f < N) : ((List.range N).map g).set f v = (List.range N).map (fun j => if j = f then v else g j) := by
  apply List.ext_getElem?
  intro i
  rw [List.getElem?_set, List.getElem?_map, List.getElem?_map]
  by_cases hi : f = i
  · subst hi
    simp [hf]
  · rw [if_neg hi]
    by_cases hN : i < N
    · rw [List.getElem?_range hN]
      simp [Ne.symm hi]
    · rw [List.getElem?_eq_none (by simp; omega)]; rfl
theorem zen_obj {α : zAd} {dA : Nat → ClassId} {h : zH} {a ci N : Nat} (hK : h.2.1 a = (ci, N)) (hc : ci < 100) : zen α dA h a = .inr (ci, (List.range N).map (fun f => zval α (zfk ci f) (h.2.2.1 a f) (h.2.2.2 a f))) := by
  unfold zen zen0
  rw [hK]
  show (match Nat.ble 100 ci with | true => _ | false => _) = _
  rw [show Nat.ble 100 ci = false by cases e : Nat.ble 100 ci with | false => rfl | true => exact absurd (Nat.le_of_ble_eq_true e) (by omega)]
theorem zen_arr {α : zAd} {dA : Nat → ClassId} {h : zH} {a k N : Nat} (hK : h.2.1 a = (k, N)) (hc : 100 ≤ k) : zen α dA h a = .inl (dA (k - 100), N, zarr α k (h.2.2.1 a) (h.2.2.2 a)) := by
  unfold zen zen0
  rw [hK]
  show (match Nat.ble 100 k with | true => _ | false => _) = _
  rw [show Nat.ble 100 k = true from Nat.ble_eq_true_of_le hc]
def zgv (u r : Nat) (i : Int) : zV := match u with
  | 1 => .inr (.inl i)
  | 2 => .inr (.inr r)
  | _ => .inl i
section ZHEAP
variable {p : Program} {l : Launch} {e : Env} {R : Room} {s : State} {m : MethodId} {args : Array Value} {below : List Frame} {meth : Method} {c : Code} {QQ : State → Prop} {b0 : Nat} {D : va_G} {dA : Nat → ClassId} {L : Nat} {xs : Nat → Int32} {M : Nat} {α : zAd} {h : zH} {H : Heap} {locs : List Loc} {cells slots : Nat} {ls : Array Slot} {labs : List (Option zV)} {pc : Nat} {t : List zV}
theorem zSt.obj {st : List zV} (S : zSt b0 D dA L xs M s α h H locs ls labs st) {a : Nat} (h64 : 64 ≤ a) (h0 : (h.2.1 a).1 ≠ 0) : ∃ q k : Nat, α a = some q ∧ (zws α dA h)[k]? = some (q, zen α dA h a) := by
  obtain ⟨q, hq, -⟩ := S.1.2.1 a ⟨h64, h0⟩
  obtain ⟨k, hk⟩ := zws_at (dA := dA) S.1.1 ⟨h64, h0⟩ hq
  exact ⟨q, k, hq, hk⟩
theorem zFr.K (B : zFr p l R b0 D dA α L xs s m args meth c M) : va_K D zcl (ztys dA) s := B.2.2.2.2.2.2.2.2.2.1.1
theorem zFr.ts (B : zFr p l R b0 D dA α L xs s m args meth c M) : ∀ w ∈ lw_all, w.before args s = true := B.2.2.2.2.2.2.1
theorem zFr.own (B : zFr p l R b0 D dA α L xs s m args meth c M) : s.vm.findClass (zow M) = some m.cls := B.2.2.2.2.2.1
theorem zFr.ctx (B : zFr p l R b0 D dA α L xs s m args meth c M) : zCtx b0 D dA α L xs s s.heap := B.2.2.2.2.2.2.2.2.2.1
theorem zFr.nw (B : zFr p l R b0 D dA α L xs s m args meth c M) : ∀ w ∈ znw, va_Nw w s := B.ctx.2.1
theorem zFr.hA (B : zFr p l R b0 D dA α L xs s m args meth c M) : ∀ q, s.heap.size ≤ q → zA b0 q := fun q hq => Nat.le_trans B.2.2.2.2.2.2.2.2.2.2.1 hq
/-- every kind but 0 has a cell -/
theorem zSt.addr (B : zFr p l R b0 D dA α L xs s m args meth c M) {st : List zV} (S : zSt b0 D dA L xs M s α h H locs ls labs st) {a : Nat} (h0 : (h.2.1 a).1 ≠ 0) : ∃ q : Nat, α a = some q := by
  by_cases h64 : 64 ≤ a
  · obtain ⟨q, -, hq, -⟩ := S.obj h64 h0
    exact ⟨q, hq⟩
  · have h1 := (S.2.2.1 a (by omega)).1
    rw [h1] at h0
    unfold zK0 at h0
    by_cases a1 : a = 1
    · obtain ⟨b, hb, -⟩ := B.ctx.2.2.2.2.2.2
      exact ⟨b, by rw [a1]; exact hb⟩
    · rw [if_neg a1] at h0
      by_cases a2 : 2 ≤ a ∧ a < 54
      · obtain ⟨ak, av, e1, e2, -⟩ := B.ctx.2.2.2.1 ((a - 2) / 2) (by omega)
        by_cases a3 : a % 2 = 0
        · exact ⟨ak, by rw [← e1]; congr 1; omega⟩
        · exact ⟨av, by rw [← e2]; congr 1; omega⟩
      · rw [if_neg a2] at h0
        exact absurd rfl h0
theorem zlnk_get (B : zFr p l R b0 D dA α L xs s m args meth c M) {ci N f idx q0 q : Nat} {ty : FieldType} {O n d : String} {fin : Bool} (F : zFld ci N f ty O n d fin) (hl : zLnk (zow M) idx O n d) {ws : va_W} (hP : va_P D zcl ws H) {fs : List Value} (he : ws[q0]? = some (q, .inr (ci, fs))) {v : Value} (hv : fs[f]? = some v) {rest : List Value} (hd : decode (zby M) pc = .ok (.getfield idx, 3))
    (kk : W p l e R s m args below meth c H locs cells slots QQ (F0 m (pc + 3) ls (v :: rest))) : W p l e R s m args below meth c H locs cells slots QQ (F0 m pc ls (.ref q :: rest)) := by
  obtain ⟨C, T, h1, h2, rfl, rfl, rfl, rfl, -⟩ := F
  have ok := zcl_ok _ (List.mem_of_getElem? h1)
  rcases hl with hl | ⟨host, hl⟩
  · exact va_get B.1 B.2.1 B.ts ok.1 B.own B.K hP q0 he h1 f h2 (B.ts _ hl) (fun _ z => z) hv hd kk
  · exact va_getN B.1 B.2.1 B.ts ok.1 B.own B.K hP q0 he h1 f h2 (va_Nw.use rfl (B.nw _ hl)) (fun _ z => z) hv hd kk
/-- a field of a cell that was made is read -/
theorem zgetf (B : zFr p l R b0 D dA α L xs s m args meth c M) {a ci N f idx : Nat} {ty : FieldType} {O n d : String} {fin : Bool} (F : zFld ci N f ty O n d fin) (hl : zLnk (zow M) idx O n d) (h64 : 64 ≤ a) (hK : h.2.1 a = (ci, N)) (S : zSt b0 D dA L xs M s α h H locs ls labs (.inr (.inr a) :: t)) (hd : decode (zby M) pc = .ok (.getfield idx, 3))
    (kk : W p l e R s m args below meth c H locs cells slots QQ (F0 m (pc + 3) ls (zval α (zck ty) (h.2.2.1 a f) (h.2.2.2 a f) :: t.map (zcv α)))) : W p l e R s m args below meth c H locs cells slots QQ (F0 m pc ls ((.inr (.inr a) :: t).map (zcv α))) := by
  have F' := F
  obtain ⟨C, T, h1, h2, -, -, -, -, -, c1, c2⟩ := F'
  obtain ⟨q, k, hq, hk⟩ := S.obj h64 (by rw [hK]; show ci ≠ 0; omega)
  rw [zen_obj hK c2] at hk
  show W p l e R s m args below meth c H locs cells slots QQ (F0 m pc ls (va_rf (α a) :: t.map (zcv α)))
  rw [hq]
  refine zlnk_get B F hl (zws_P S.1) hk (zrange _ h2) hd ?_
  rw [F.fk]
  exact kk
/-- a field of a String constant is read -/
theorem zgetc (B : zFr p l R b0 D dA α L xs s m args meth c M) {a f idx : Nat} {ty : FieldType} {O n d : String} {fin : Bool} (F : zFld 23 4 f ty O n d fin) (hl : zLnk (zow M) idx O n d) (h64 : a < 64) (hf : f ≤ 1) (hK : h.2.1 a = (23, 4)) (S : zSt b0 D dA L xs M s α h H locs ls labs (.inr (.inr a) :: t)) (hd : decode (zby M) pc = .ok (.getfield idx, 3)) (hnest : ∀ host, Cond.fieldLinkNest (zow M) idx O n d host ∉ znw)
    (kk : W p l e R s m args below meth c H locs cells slots QQ (F0 m (pc + 3) ls (zval α (zck ty) (h.2.2.1 a f) (h.2.2.2 a f) :: t.map (zcv α)))) : W p l e R s m args below meth c H locs cells slots QQ (F0 m pc ls ((.inr (.inr a) :: t).map (zcv α))) := by
  obtain ⟨z1, z2, z3⟩ := S.2.2.1 a h64
  rw [z1] at hK
  have ha : (2 ≤ a ∧ a < 54) ∧ a % 2 = 0 := by
    unfold zK0 at hK
    by_cases a1 : a = 1
    · rw [if_pos a1] at hK; cases hK
    · rw [if_neg a1] at hK
      by_cases a2 : 2 ≤ a ∧ a < 54
      · rw [if_pos a2] at hK
        by_cases a3 : a % 2 = 0
        · exact ⟨a2, a3⟩
        · rw [if_neg a3] at hK; cases hK
      · rw [if_neg a2] at hK; cases hK
  obtain ⟨ak, av, e1, e2, -, e4, e5, -⟩ := B.ctx.2.2.2.1 ((a - 2) / 2) (by omega)
  have i1 : 2 + 2 * ((a - 2) / 2) = a := by omega
  have i2 : 3 + 2 * ((a - 2) / 2) = a + 1 := by omega
  rw [i1] at e1
  rw [i2] at e2
  have hlk : Cond.fieldLink (zow M) idx O n d ∈ lw_all := hl.elim id (fun ⟨host, q⟩ => absurd q (hnest host))
  show W p l e R s m args below meth c H locs cells slots QQ (F0 m pc ls (va_rf (α a) :: t.map (zcv α)))
  rw [e1]
  obtain ⟨C, T, h1, h2, rfl, rfl, rfl, rfl, h7, -⟩ := F
  cases h1
  rw [z2, z3, show zr0 a = (fun j => if j = 0 then a + 1 else 0) from if_pos ha, show zi0 xs a = fun _ => 0 from by unfold zi0; rw [if_neg (by omega), if_neg (by omega)]] at kk
  match f, hf with
  | 0, _ =>
    cases (show parseFieldDescriptor "[B" = some (.array .byte) by decide +kernel).symm.trans h7
    refine vk_getf (v := .ref av) B.1 B.2.1 e5 S.2.1 B.own (B.ts _ hlk) (fun _ z => z) hd ?_
    have kk' : W p l e R s m args below meth c H locs cells slots QQ (F0 m (pc + 3) ls (va_rf (α (a + 1)) :: t.map (zcv α))) := kk
    rw [e2] at kk'
    exact kk'
  | 1, _ =>
    cases (show parseFieldDescriptor "B" = some .byte by decide +kernel).symm.trans h7
    exact vk_getf (v := .int 0) B.1 B.2.1 e4 S.2.1 B.own (B.ts _ hlk) (fun _ z => z) hd kk
/-- getfield: what the tables say -/
def zLget (own : String) (idx len : Nat) (r : List Nat) : Prop := len = 3 ∧ ∃ (ci N f u : Nat) (ty : FieldType) (O n d : String) (fin : Bool), r = [ci, N, f, u] ∧ zFld ci N f ty O n d fin ∧ zLnk own idx O n d ∧ (u = zck ty ∨ u = 5 ∧ zck ty = 0) ∧ (ci = 23 → (u = 5 ∨ f ≤ 1) ∧ ∀ host, Cond.fieldLinkNest own idx O n d host ∉ znw)
theorem zgetv {a ci N f : Nat} {st : List zV} {ty : FieldType} {O n d : String} {fin : Bool} (F : zFld ci N f ty O n d fin) (hK : h.2.1 a = (ci, N)) (S : zSt b0 D dA L xs M s α h H locs ls labs st) :
    (zck ty = 0 → zC32 (h.2.2.2 a f)) ∧ zC64 (h.2.2.2 a f) ∧ h.2.2.1 a f < h.1 := by
  obtain ⟨-, -, -, -, -, -, i7, i8, i9⟩ := S.1.1
  refine ⟨fun hz => ?_, i7 a f, i9 a f⟩
  have h1 := (i8 a f).1
  rw [hK] at h1
  obtain ⟨C, T, -, -, -, -, -, -, -, -, c2⟩ := id F
  exact h1 c2 (F.fk.trans hz)
theorem zo_getfield (B : zFr p l R b0 D dA α L xs s m args meth c M) {a ci N f u idx len : Nat} (hL : zLget (zow M) idx len [ci, N, f, u]) (hK : h.2.1 a = (ci, N)) (h5 : u = 5 → 64 ≤ a) (S : zSt b0 D dA L xs M s α h H locs ls labs (.inr (.inr a) :: t)) (hd : decode (zby M) pc = .ok (.getfield idx, len)) {v : zV}
    (hv : v = zgv u (h.2.2.1 a f) (h.2.2.2 a f)) (k : zKont p l e R s m args below meth c QQ b0 D dA L xs M α h cells slots (pc + len) labs (v :: t) h) :
    W p l e R s m args below meth c H locs cells slots QQ (F0 m pc ls ((.inr (.inr a) :: t).map (zcv α))) := by
  obtain ⟨rfl, ci', N', f', u', ty, O, n, d, fin, hr, F, hl, hu, hs⟩ := hL
  obtain ⟨rfl, rfl, rfl, rfl⟩ : ci = ci' ∧ N = N' ∧ f = f' ∧ u = u' := by simpa using hr
  obtain ⟨g1, g2, g3⟩ := zgetv F hK S
  have key : zVok h.1 v ∧ zcv α v = zval α (zck ty) (h.2.2.1 a f) (h.2.2.2 a f) := by
    rcases hu with rfl | ⟨rfl, hz⟩
    · have : zck ty = 0 ∨ zck ty = 1 ∨ zck ty = 2 := by cases ty <;> simp [zck]
      rcases this with z | z | z <;> rw [z] at hv ⊢ <;> subst hv
      · exact ⟨g1 z, rfl⟩
      · exact ⟨g2, rfl⟩
      · exact ⟨g3, rfl⟩
    · subst hv
      rw [hz]
      exact ⟨g1 hz, rfl⟩
  have kk := zK_st S k (zok_cons key.1 S.tl.2.2.2.2.1)
  rw [List.map_cons, key.2] at kk
  by_cases h64 : 64 ≤ a
  · exact zgetf B F hl h64 hK S hd kk
  · have z1 := (S.2.2.1 a (by omega)).1
    obtain ⟨C, T, q1, q2, -, -, -, -, -, c1, c2⟩ := id F
    have hc : ci = 23 ∧ N = 4 := by
      rw [hK] at z1
      unfold zK0 at z1
      split at z1
      · cases z1; omega
      · split at z1
        · split at z1
          · cases z1; exact ⟨rfl, rfl⟩
          · cases z1; omega
        · cases z1; omega
    obtain ⟨rfl, rfl⟩ := hc
    obtain ⟨hs1, hs2⟩ := hs rfl
    rcases hs1 with rfl | hs1
    · exact absurd (h5 rfl) h64
    · exact zgetc B F hl (by omega) hs1 hK S hd hs2 kk
/-! putfield -/
/-- a field's new content, by the kind of putfield -/
def zpv (u : Nat) (v : zV) (h : zH) (a f : Nat) : zH := match v with
  | .inl x => (h.1, h.2.1, h.2.2.1, zst h.2.2.2 a f x)
  | .inr (.inl x) => (h.1, h.2.1, h.2.2.1, zst h.2.2.2 a f x)
  | .inr (.inr x) => (h.1, h.2.1, zst h.2.2.1 a f x, h.2.2.2)
def zput (u : Nat) (ty : FieldType) : Prop := match u with
  | 0 => ty = .int
  | 1 => ty = .long
  | 2 => (∃ C, ty = .object C) ∨ ∃ z, ty = .array z
  | 3 => ty = .boolean
  | _ => u = 4 ∧ ty = .byte
/-- the value fits -/
def zfit (u : Nat) (ty : FieldType) (v : zV) : Prop := match v with
  | .inl x => (u = 0 ∧ ty = .int) ∨ (u = 3 ∧ ty = .boolean ∧ (x = 0 ∨ x = 1)) ∨ (u = 4 ∧ ty = .byte ∧ zi2b x = x)
  | .inr (.inl _) => ty = .long
  | .inr (.inr _) => (∃ C, ty = .object C) ∨ ∃ z, ty = .array z
theorem zfit_ok {u : Nat} {ty : FieldType} {v : zV} (hf : zfit u ty v) : narrow ty (zcv α v) = zcv α v ∧ fits ty (zcv α v) = true ∧ (match v with | .inl _ => zck ty = 0 | .inr (.inl _) => zck ty = 1 | .inr (.inr _) => zck ty = 2) := by
  rcases v with x | x | a
  · rcases hf with ⟨-, rfl⟩ | ⟨-, rfl, hx⟩ | ⟨-, rfl, hx⟩
    · exact ⟨rfl, rfl, rfl⟩
    · rcases hx with rfl | rfl
      · exact ⟨show narrow .boolean (Value.int (Int32.ofInt 0)) = Value.int (Int32.ofInt 0) by decide, show fits .boolean (Value.int (Int32.ofInt 0)) = true by decide, rfl⟩
      · exact ⟨show narrow .boolean (Value.int (Int32.ofInt 1)) = Value.int (Int32.ofInt 1) by decide, show fits .boolean (Value.int (Int32.ofInt 1)) = true by decide, rfl⟩
    · have h1 : (Int32.ofInt x).toInt8.toInt32 = Int32.ofInt x := by rw [← zi2b_of, hx]
      refine ⟨?_, ?_, rfl⟩
      · show Value.int _ = Value.int _
        rw [h1]
      · show fits .byte (.int (Int32.ofInt x)) = true
        rw [← h1]
        exact pk_fb _
  · cases hf
    exact ⟨rfl, rfl, rfl⟩
  · simp only [zcv]
    rcases hf with ⟨C, rfl⟩ | ⟨z, rfl⟩ <;> cases α a <;> exact ⟨rfl, rfl, rfl⟩
theorem zst_at {β : Type} (f : Nat → Nat → β) (a j : Nat) (v : β) (b k : Nat) : zst f a j v b k = if b = a ∧ k = j then v else f b k := by
  unfold zst zup
  by_cases hb : b = a
  · subst hb
    by_cases hk : k = j <;> simp [hk]
  · simp [hb]
theorem zst_ne {β : Type} (f : Nat → Nat → β) (a j : Nat) (v : β) {b : Nat} (hb : b ≠ a) : zst f a j v b = f b := by
  unfold zst zup
  rw [if_neg hb]
/-- what is kept when one slot of a cell is written with a number -/
theorem zinv_i {h : zH} (I : zInv α h) {a j : Nat} {x : Int} (h64 : zC64 x) (hc : zcan (h.2.1 a).1 j x) : zInv α (h.1, h.2.1, h.2.2.1, zst h.2.2.2 a j x) := by
  obtain ⟨i1, i2, i3, i4, i5, i6, i7, i8, i9⟩ := I
  refine ⟨i1, i2, i3, i4, i5, i6, fun b k => ?_, fun b k => ?_, i9⟩
  · show zC64 (zst h.2.2.2 a j x b k)
    rw [zst_at]
    split
    · exact h64
    · exact i7 b k
  · show zcan (h.2.1 b).1 k (zst h.2.2.2 a j x b k)
    rw [zst_at]
    split
    · next q => rw [q.1, q.2]; exact hc
    · exact i8 b k
theorem zinv_r {h : zH} (I : zInv α h) {a j x : Nat} (hx : x < h.1) : zInv α (h.1, h.2.1, zst h.2.2.1 a j x, h.2.2.2) := by
  obtain ⟨i1, i2, i3, i4, i5, i6, i7, i8, i9⟩ := I
  refine ⟨i1, i2, i3, i4, i5, i6, i7, i8, fun b k => ?_⟩
  show zst h.2.2.1 a j x b k < h.1
  rw [zst_at]
  split
  · exact hx
  · exact i9 b k
theorem zcst_i {h : zH} (I : zCst L xs h) {a j : Nat} {x : Int} (h64 : 64 ≤ a) : zCst L xs (h.1, h.2.1, h.2.2.1, zst h.2.2.2 a j x) := fun b hb => ⟨(I b hb).1, (I b hb).2.1, by show zst h.2.2.2 a j x b = _; rw [zst_ne _ _ _ _ (by omega)]; exact (I b hb).2.2⟩
theorem zcst_r {h : zH} (I : zCst L xs h) {a j x : Nat} (h64 : 64 ≤ a) : zCst L xs (h.1, h.2.1, zst h.2.2.1 a j x, h.2.2.2) := fun b hb => ⟨(I b hb).1, by show zst h.2.2.1 a j x b = _; rw [zst_ne _ _ _ _ (by omega)]; exact (I b hb).2.1, (I b hb).2.2⟩
theorem zen_ne {h h' : zH} {dA : Nat → ClassId} {b : Nat} (e1 : h'.2.1 b = h.2.1 b) (e2 : h'.2.2.1 b = h.2.2.1 b) (e3 : h'.2.2.2 b = h.2.2.2 b) : zen α dA h' b = zen α dA h b := by
  unfold zen
  rw [e1, e2, e3]
/-- putfield: what the tables say -/
def zLput (own : String) (isI : Bool) (idx len : Nat) (r : List Nat) : Prop := len = 3 ∧ ∃ (ci N f u : Nat) (ty : FieldType) (O n d : String) (fin : Bool), r = [ci, N, f, u] ∧ zFld ci N f ty O n d fin ∧ zLnk own idx O n d ∧ zput u ty ∧ (fin = true → isI = true ∧ O = own ∧ Cond.fieldLink own idx O n d ∈ lw_all)
theorem zo_putfield (B : zFr p l R b0 D dA α L xs s m args meth c M) {a ci N f u idx len : Nat} (hL : zLput (zow M) (decide ((znm M).name = "<init>")) idx len [ci, N, f, u]) (hK : h.2.1 a = (ci, N)) (h64 : 64 ≤ a) {v : zV} (hf : ∀ ty O n d fin, zFld ci N f ty O n d fin → zput u ty → zfit u ty v)
    (S : zSt b0 D dA L xs M s α h H locs ls labs (v :: .inr (.inr a) :: t)) (hd : decode (zby M) pc = .ok (.putfield idx, len)) (k : zKont p l e R s m args below meth c QQ b0 D dA L xs M α h cells slots (pc + len) labs t (zpv u v h a f)) :
    W p l e R s m args below meth c H locs cells slots QQ (F0 m pc ls ((v :: .inr (.inr a) :: t).map (zcv α))) := by
  obtain ⟨rfl, ci', N', f', u', ty, O, n, d, fin, hr, F, hl, hu, hs⟩ := hL
  obtain ⟨rfl, rfl, rfl, rfl⟩ : ci = ci' ∧ N = N' ∧ f = f' ∧ u = u' := by simpa using hr
  obtain ⟨g1, g2, g3⟩ := zfit_ok (α := α) (hf _ _ _ _ _ F hu)
  obtain ⟨C, T, h1, h2, rfl, rfl, rfl, rfl, h7, c1, c2⟩ := id F
  obtain ⟨q, k0, hq, hk⟩ := S.obj h64 (by rw [hK]; show ci ≠ 0; omega)
  have hk' := hk
  rw [zen_obj hK c2] at hk
  obtain ⟨ok1, ok2, ⟨ty0, ok3⟩, -⟩ := zcl_ok _ (List.mem_of_getElem? h1)
  have hlen : f < ((List.range N).map (fun j => zval α (zfk ci j) (h.2.2.1 a j) (h.2.2.2 a j))).length := by simpa using h2
  have fin' : ∀ (H1 : Heap) (locs1 : List Loc), va_P D zcl ((zws α dA h).set k0 (q, .inr (ci, ((List.range N).map (fun j => zval α (zfk ci j) (h.2.2.1 a j) (h.2.2.2 a j))).set f (zcv α v)))) H1 → va_S (zA b0) s.heap H1 locs1 →
      W p l e R s m args below meth c H1 locs1 cells slots QQ (F0 m (pc + 3) ls (t.map (zcv α))) := by
    intro H1 locs1 hP1 hS1
    have hown : zown h a := ⟨h64, by rw [hK]; show ci ≠ 0; omega⟩
    have hfk := F.fk
    rcases v with x | x | x
    · have hx : zC32 x := S.hd
      have hrel : zRel b0 D dA α (h.1, h.2.1, h.2.2.1, zst h.2.2.2 a f x) H1 := by
        refine zrel_upd S.1 hown hq hk' hP1 (zinv_i S.1.1 (zC_64 hx) ⟨fun _ _ => hx, fun _ _ => hx⟩) rfl ?_ (fun b hb => zen_ne rfl rfl (zst_ne _ _ _ _ hb))
        rw [zen_obj (h := (h.1, h.2.1, h.2.2.1, zst h.2.2.2 a f x)) hK c2, zrange_set _ _ h2]
        congr 2
        apply List.map_congr_left
        intro j hj
        by_cases hjf : j = f
        · subst hjf
          simp only [zst_at, and_self, if_true]
          rw [hfk, g3]; rfl
        · simp only [zst_at, hjf, and_false, if_false]
      exact k α H1 locs1 cells slots ls (fun _ _ => rfl) ⟨hrel, hS1, zcst_i S.2.2.1 h64, S.2.2.2.1, S.tl.tl.2.2.2.2.1, S.2.2.2.2.2⟩ (by omega) (by omega) (Nat.le_refl _)
    · have hx : zC64 x := S.hd
      have hrel : zRel b0 D dA α (h.1, h.2.1, h.2.2.1, zst h.2.2.2 a f x) H1 := by
        refine zrel_upd S.1 hown hq hk' hP1 (zinv_i S.1.1 hx ⟨fun _ z => ?_, fun z => ?_⟩) rfl ?_ (fun b hb => zen_ne rfl rfl (zst_ne _ _ _ _ hb))
        · rw [hK] at z
          have z' : zfk ci f = 0 := z
          rw [hfk, g3] at z'; cases z'
        · rw [hK] at z
          have : 100 ≤ ci := z
          omega
        rw [zen_obj (h := (h.1, h.2.1, h.2.2.1, zst h.2.2.2 a f x)) hK c2, zrange_set _ _ h2]
        congr 2
        apply List.map_congr_left
        intro j hj
        by_cases hjf : j = f
        · subst hjf
          simp only [zst_at, and_self, if_true]
          rw [hfk, g3]; rfl
        · simp only [zst_at, hjf, and_false, if_false]
      exact k α H1 locs1 cells slots ls (fun _ _ => rfl) ⟨hrel, hS1, zcst_i S.2.2.1 h64, S.2.2.2.1, S.tl.tl.2.2.2.2.1, S.2.2.2.2.2⟩ (by omega) (by omega) (Nat.le_refl _)
    · have hx : x < h.1 := S.hd
      have hrel : zRel b0 D dA α (h.1, h.2.1, zst h.2.2.1 a f x, h.2.2.2) H1 := by
        refine zrel_upd S.1 hown hq hk' hP1 (zinv_r S.1.1 hx) rfl ?_ (fun b hb => zen_ne rfl (zst_ne _ _ _ _ hb) rfl)
        rw [zen_obj (h := (h.1, h.2.1, zst h.2.2.1 a f x, h.2.2.2)) hK c2, zrange_set _ _ h2]
        congr 2
        apply List.map_congr_left
        intro j hj
        by_cases hjf : j = f
        · subst hjf
          simp only [zst_at, and_self, if_true]
          rw [hfk, g3]; rfl
        · simp only [zst_at, hjf, and_false, if_false]
      exact k α H1 locs1 cells slots ls (fun _ _ => rfl) ⟨hrel, hS1, zcst_r S.2.2.1 h64, S.2.2.2.1, S.tl.tl.2.2.2.2.1, S.2.2.2.2.2⟩ (by omega) (by omega) (Nat.le_refl _)
  show W p l e R s m args below meth c H locs cells slots QQ (F0 m pc ls (zcv α v :: va_rf (α a) :: t.map (zcv α)))
  rw [hq]
  cases hfb : (T f).2.2.2 with
  | true =>
    obtain ⟨j1, j2, j3⟩ := hs hfb
    exact va_putF B.1 B.2.1 B.ts ok1 ty0 ok3 ok2 B.own B.K (zws_P S.1) (zws_D S.1) S.2.1 k0 hk h1 f h2 (B.ts _ j3) (fun _ z => z) hfb (B.2.2.2.2.2.2.2.1 (of_decide_eq_true j1)) j2 h7 g1 g2 hlen hd (fun H1 locs1 a1 _ a3 => fin' H1 locs1 a1 a3)
  | false =>
    rcases hl with hl | ⟨host, hl⟩
    · exact va_put B.1 B.2.1 B.ts ok1 ty0 ok3 ok2 B.own B.K (zws_P S.1) (zws_D S.1) S.2.1 k0 hk h1 f h2 (B.ts _ hl) (fun _ z => z) hfb h7 g1 g2 hlen hd (fun H1 locs1 a1 _ a3 => fin' H1 locs1 a1 a3)
    · exact va_putN B.1 B.2.1 B.ts ok1 ty0 ok3 ok2 B.own B.K (zws_P S.1) (zws_D S.1) S.2.1 k0 hk h1 f h2 (va_Nw.use rfl (B.nw _ hl)) (fun _ z => z) hfb h7 g1 g2 hlen hd (fun H1 locs1 a1 _ a3 => fin' H1 locs1 a1 a3)
end ZHEAP
