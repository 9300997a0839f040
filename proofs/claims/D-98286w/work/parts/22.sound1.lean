/-! SOUNDNESS 1: how a heap of the abstract machine lies in the machine's heap -/
abbrev zAd : Type := Nat → Option Nat
def zcv (α : zAd) : zV → Value
  | .inl x => .int (Int32.ofInt x)
  | .inr (.inl x) => .long (Int64.ofInt x)
  | .inr (.inr a) => va_rf (α a)
def zVok (n : Nat) : zV → Prop
  | .inl x => zC32 x
  | .inr (.inl x) => zC64 x
  | .inr (.inr a) => a < n
def zck (ty : FieldType) : Nat := match ty with
  | .int => 0
  | .boolean => 0
  | .byte => 0
  | .long => 1
  | _ => 2
/-- a field's kind: 0 a number of 32 bits, 1 a long, 2 a reference -/
def zfk (k f : Nat) : Nat := match zcl[k]? with
  | none => 0
  | some q => match parseFieldDescriptor (q.2.1 f).2.2.1 with
    | some ty => zck ty
    | none => 2
def zval (α : zAd) (t r : Nat) (i : Int) : Value := match t with
  | 0 => .int (Int32.ofInt i)
  | 1 => .long (Int64.ofInt i)
  | _ => va_rf (α r)
def zarr (α : zAd) (k : Nat) (r : Nat → Nat) (i : Nat → Int) : (Nat → Int32) ⊕ (Nat → Int64) ⊕ (Nat → UInt32) ⊕ (Nat → UInt64) ⊕ (Nat → Option Nat) := match Nat.ble k 103, Nat.ble k 104 with
  | true, _ => .inl (fun j => Int32.ofInt (i j))
  | _, true => .inr (.inl (fun j => Int64.ofInt (i j)))
  | _, _ => .inr (.inr (.inr (.inr (fun j => α (r j)))))
def zen0 (α : zAd) (dA : Nat → ClassId) (k len : Nat) (r : Nat → Nat) (i : Nat → Int) : va_E := match Nat.ble 100 k with
  | true => .inl (dA (k - 100), len, zarr α k r i)
  | false => .inr (k, (List.range len).map (fun f => zval α (zfk k f) (r f) (i f)))
def zen (α : zAd) (dA : Nat → ClassId) (h : zH) (a : Nat) : va_E := zen0 α dA (h.2.1 a).1 (h.2.1 a).2 (h.2.2.1 a) (h.2.2.2 a)
def zft (t : Nat) : FieldType := match t with
  | 0 => .int
  | 1 => .byte
  | 2 => .boolean
  | 3 => .char
  | 4 => .long
  | t + 5 => .object (zcomps.getD t "")
def ztys (dA : Nat → ClassId) : List (ClassId × FieldType) := (List.range 13).map (fun t => (dA t, zft t))
theorem ztys_at {dA : Nat → ClassId} {t : Nat} (ht : t < 13) : (ztys dA)[t]? = some (dA t, zft t) := by
  rw [ztys, List.getElem?_map, List.getElem?_range ht]; rfl
def zcan (k j : Nat) (x : Int) : Prop := (k < 100 → zfk k j = 0 → zC32 x) ∧ (100 ≤ k → k ≤ 103 → zC32 x)
def zInv (α : zAd) (h : zH) : Prop :=
  64 ≤ h.1 ∧ α 0 = none ∧ (∀ a, h.1 ≤ a → (h.2.1 a).1 = 0) ∧ (h.2.1 0).1 = 0 ∧
  (∀ a, (h.2.1 a).1 ≠ 0 → (h.2.1 a).1 < 100 → ∃ q, zcl[(h.2.1 a).1]? = some q ∧ (h.2.1 a).2 = q.2.2) ∧
  (∀ a, 100 ≤ (h.2.1 a).1 → (h.2.1 a).1 < 113 ∧ (h.2.1 a).2 ≤ 1000000) ∧
  (∀ a j, zC64 (h.2.2.2 a j)) ∧ (∀ a j, zcan (h.2.1 a).1 j (h.2.2.2 a j)) ∧ (∀ a j, h.2.2.1 a j < h.1)
def zown (h : zH) (a : Nat) : Prop := 64 ≤ a ∧ (h.2.1 a).1 ≠ 0
def zRel (b0 : Nat) (D : va_G) (dA : Nat → ClassId) (α : zAd) (h : zH) (H : Heap) : Prop :=
  zInv α h ∧ (∀ a, zown h a → ∃ q, α a = some q ∧ b0 ≤ q ∧ va_at D zcl (q, zen α dA h a) H) ∧ (∀ a b, zown h a → zown h b → α a = α b → a = b)
def zdom (h : zH) : List Nat := (List.range h.1).filter (fun a => decide (64 ≤ a ∧ (h.2.1 a).1 ≠ 0))
def zws (α : zAd) (dA : Nat → ClassId) (h : zH) : va_W := (zdom h).map (fun a => ((α a).getD 0, zen α dA h a))
def zA (b0 : Nat) : Nat → Prop := fun q => b0 ≤ q
theorem zInv.lt {α : zAd} {h : zH} (I : zInv α h) {a : Nat} (ha : (h.2.1 a).1 ≠ 0) : a < h.1 := by
  rcases Nat.lt_or_ge a h.1 with q | q
  · exact q
  · exact absurd (I.2.2.1 a q) ha
theorem zdom_mem {α : zAd} {h : zH} (I : zInv α h) {a : Nat} : a ∈ zdom h ↔ zown h a := by
  unfold zdom zown
  rw [List.mem_filter, List.mem_range, decide_eq_true_iff]
  exact ⟨fun x => x.2, fun x => ⟨I.lt x.2, x⟩⟩
theorem zdom_nd (h : zH) : (zdom h).Nodup := List.Pairwise.filter _ List.nodup_range
theorem zws_of {α : zAd} {dA : Nat → ClassId} {h : zH} (I : zInv α h) {k : Nat} {p : Nat × va_E} (hk : (zws α dA h)[k]? = some p) : ∃ a : Nat, (zdom h)[k]? = some a ∧ zown h a ∧ p = ((α a).getD 0, zen α dA h a) := by
  unfold zws at hk
  rw [List.getElem?_map] at hk
  cases e : (zdom h)[k]? with
  | none => rw [e] at hk; cases hk
  | some a =>
    rw [e] at hk
    exact ⟨a, rfl, (zdom_mem I).mp (List.mem_of_getElem? e), (Option.some.inj hk).symm⟩
theorem zws_at {α : zAd} {dA : Nat → ClassId} {h : zH} (I : zInv α h) {a q : Nat} (ha : zown h a) (hq : α a = some q) : ∃ k : Nat, (zws α dA h)[k]? = some (q, zen α dA h a) := by
  obtain ⟨k, hk⟩ := List.getElem?_of_mem ((zdom_mem I).mpr ha)
  exact ⟨k, by rw [zws, List.getElem?_map, hk]; simp [hq]⟩
theorem zws_P {b0 : Nat} {D : va_G} {dA : Nat → ClassId} {α : zAd} {h : zH} {H : Heap} (R : zRel b0 D dA α h H) : va_P D zcl (zws α dA h) H := by
  intro k p hk
  obtain ⟨a, -, ha, rfl⟩ := zws_of R.1 hk
  obtain ⟨q, hq, -, h1⟩ := R.2.1 a ha
  rw [hq]
  exact h1
theorem zws_D {b0 : Nat} {D : va_G} {dA : Nat → ClassId} {α : zAd} {h : zH} {H : Heap} (R : zRel b0 D dA α h H) : va_D (zA b0) (zws α dA h) := by
  refine ⟨fun i j p q hi hj e => ?_, fun k p hk => ?_⟩
  · obtain ⟨a, h1, ha, rfl⟩ := zws_of R.1 hi
    obtain ⟨b, h2, hb, rfl⟩ := zws_of R.1 hj
    obtain ⟨qa, hqa, -⟩ := R.2.1 a ha
    obtain ⟨qb, hqb, -⟩ := R.2.1 b hb
    have e : qa = qb := by simpa [hqa, hqb] using e
    have hab := R.2.2 a b ha hb (by rw [hqa, hqb, e])
    subst hab
    exact (List.getElem?_inj (List.getElem?_eq_some_iff.mp h1).1 (zdom_nd h)).mp (h1.trans h2.symm)
  · obtain ⟨a, h1, ha, rfl⟩ := zws_of R.1 hk
    obtain ⟨qa, hqa, hb, -⟩ := R.2.1 a ha
    rw [hqa]
    exact hb
/-- a write to the cell a -/
theorem zrel_upd {b0 : Nat} {D : va_G} {dA : Nat → ClassId} {α : zAd} {h h' : zH} {H H1 : Heap} (R : zRel b0 D dA α h H) {a q k : Nat} {e : va_E} (ha : zown h a) (hq : α a = some q) (hk : (zws α dA h)[k]? = some (q, zen α dA h a))
    (hP : va_P D zcl ((zws α dA h).set k (q, e)) H1) (hI : zInv α h') (hK : h'.2.1 = h.2.1) (he : zen α dA h' a = e) (ho : ∀ b, b ≠ a → zen α dA h' b = zen α dA h b) : zRel b0 D dA α h' H1 := by
  have hown : ∀ b, zown h' b → zown h b := fun b hb => by unfold zown at hb ⊢; rw [hK] at hb; exact hb
  have hlt := (List.getElem?_eq_some_iff.mp hk).1
  refine ⟨hI, fun b hb => ?_, fun x y hx hy => R.2.2 x y (hown x hx) (hown y hy)⟩
  obtain ⟨qb, hqb, hb0, -⟩ := R.2.1 b (hown b hb)
  refine ⟨qb, hqb, hb0, ?_⟩
  by_cases hba : b = a
  · subst hba
    cases hq.symm.trans hqb
    rw [he]
    exact hP k _ (List.getElem?_set_self hlt)
  · obtain ⟨j, hj⟩ := zws_at (dA := dA) R.1 (hown b hb) hqb
    have hjk : k ≠ j := by
      intro hjk
      subst hjk
      rw [hk] at hj
      have this : q = qb := congrArg Prod.fst (Option.some.inj hj)
      exact hba (R.2.2 b a (hown b hb) ha (by rw [hqb, hq, ← this]))
    rw [ho b hba]
    exact hP j _ (by rw [List.getElem?_set_ne hjk]; exact hj)
theorem zen0_agree {α α' : zAd} {dA : Nat → ClassId} {n k len : Nat} {r : Nat → Nat} {i : Nat → Int} (hα : ∀ a, a < n → α' a = α a) (hr : ∀ j, r j < n) : zen0 α' dA k len r i = zen0 α dA k len r i := by
  have e1 : ∀ j, α' (r j) = α (r j) := fun j => hα _ (hr j)
  simp only [zen0, zarr, zval, e1]
/-- a new cell at the address n -/
theorem zrel_new {b0 : Nat} {D : va_G} {dA : Nat → ClassId} {α : zAd} {h h' : zH} {H H1 : Heap} (R : zRel b0 D dA α h H) {q : Nat} {e : va_E}
    (hP : va_P D zcl (zws α dA h ++ [(q, e)]) H1) (hD : va_D (zA b0) (zws α dA h ++ [(q, e)])) (hI : zInv (zup α h.1 (some q)) h')
    (hK : ∀ b, b ≠ h.1 → h'.2.1 b = h.2.1 b ∧ h'.2.2.1 b = h.2.2.1 b ∧ h'.2.2.2 b = h.2.2.2 b) (he : zen (zup α h.1 (some q)) dA h' h.1 = e) : zRel b0 D dA (zup α h.1 (some q)) h' H1 := by
  have h64 := R.1.1
  have hown : ∀ b, b ≠ h.1 → zown h' b → zown h b := fun b hb hb' => by unfold zown at hb' ⊢; rw [(hK b hb).1] at hb'; exact hb'
  have hlt : ∀ b, zown h b → b < h.1 := fun b hb => R.1.lt hb.2
  have hα : ∀ b, b < h.1 → zup α h.1 (some q) b = α b := fun b hb => if_neg (by omega)
  have hent : ∀ b, b ≠ h.1 → zen (zup α h.1 (some q)) dA h' b = zen α dA h b := fun b hb => by
    obtain ⟨e1, e2, e3⟩ := hK b hb
    unfold zen
    rw [e1, e2, e3]
    exact zen0_agree hα (fun j => R.1.2.2.2.2.2.2.2.2 b j)
  have hlast : (zws α dA h ++ [(q, e)])[(zws α dA h).length]? = some (q, e) := by simp
  have old : ∀ b, zown h b → ∃ (qb j : Nat), α b = some qb ∧ j < (zws α dA h).length ∧ (zws α dA h ++ [(q, e)])[j]? = some (qb, zen α dA h b) := by
    intro b hb
    obtain ⟨qb, hqb, -⟩ := R.2.1 b hb
    obtain ⟨j, hj⟩ := zws_at (dA := dA) R.1 hb hqb
    have hl := (List.getElem?_eq_some_iff.mp hj).1
    exact ⟨qb, j, hqb, hl, by rw [List.getElem?_append_left hl]; exact hj⟩
  refine ⟨hI, fun b hb => ?_, fun x y hx hy e0 => ?_⟩
  · by_cases hbn : b = h.1
    · subst hbn
      exact ⟨q, if_pos rfl, hD.2 _ _ hlast, by rw [he]; exact hP _ _ hlast⟩
    · have hb' := hown b hbn hb
      obtain ⟨qb, j, hqb, hl, hj⟩ := old b hb'
      exact ⟨qb, by rw [hα b (hlt b hb')]; exact hqb, hD.2 _ _ hj, by rw [hent b hbn]; exact hP _ _ hj⟩
  · by_cases hxn : x = h.1 <;> by_cases hyn : y = h.1
    · rw [hxn, hyn]
    · exfalso
      have hy' := hown y hyn hy
      obtain ⟨qb, j, hqb, hl, hj⟩ := old y hy'
      rw [hα y (hlt y hy'), hxn, show zup α h.1 (some q) h.1 = some q from if_pos rfl, hqb] at e0
      have := hD.1 _ _ _ _ hj hlast (Option.some.inj e0).symm
      omega
    · exfalso
      have hx' := hown x hxn hx
      obtain ⟨qb, j, hqb, hl, hj⟩ := old x hx'
      rw [hα x (hlt x hx'), hyn, show zup α h.1 (some q) h.1 = some q from if_pos rfl, hqb] at e0
      have := hD.1 _ _ _ _ hj hlast (Option.some.inj e0)
      omega
    · have hx' := hown x hxn hx
      have hy' := hown y hyn hy
      rw [hα x (hlt x hx'), hα y (hlt y hy')] at e0
      exact R.2.2 x y hx' hy' e0
