/-! SOUNDNESS 2: the context of a run, the state's relation, what the tables must say -/
/-- the constants' cells: 1 the script, 2 + 2 i a String constant, 3 + 2 i its bytes, 61 .. 63 statics -/
def zK0 (L : Nat) (a : Nat) : Nat × Nat := if a = 1 then (100, L) else if 2 ≤ a ∧ a < 54 then (if a % 2 = 0 then (23, 4) else (101, zsl ((a - 3) / 2))) else (0, 0)
def zr0 (a : Nat) : Nat → Nat := if (2 ≤ a ∧ a < 54) ∧ a % 2 = 0 then (fun j => if j = 0 then a + 1 else 0) else fun _ => 0
def zi0 (xs : Nat → Int32) (a : Nat) : Nat → Int := if a = 1 then (fun j => (xs j).toInt) else if (2 ≤ a ∧ a < 54) ∧ a % 2 = 1 then (fun j => zsb ((a - 3) / 2) j) else fun _ => 0
def zCst (L : Nat) (xs : Nat → Int32) (h : zH) : Prop := ∀ a, a < 64 → h.2.1 a = zK0 L a ∧ h.2.2.1 a = zr0 a ∧ h.2.2.2 a = zi0 xs a
def zStr (α : zAd) (A : Nat → Prop) (U : State) (H : Heap) (i : Nat) : Prop := ∃ ak av, α (2 + 2 * i) = some ak ∧ α (3 + 2 * i) = some av ∧ va_O "java/lang/String" ak A U H ∧ va_OF "java/lang/String" "coder" "B" (.int 0) ak A U H ∧ va_OF "java/lang/String" "value" "[B" (.ref av) ak A U H ∧ va_T .byte av (zsl i) (fun j => .int (Int32.ofInt (zsb i j))) A U H
def zSta (α : zAd) (A : Nat → Prop) (U : State) (H : Heap) : Prop :=
  va_Z "java/lang/String" "COMPACT_STRINGS" "Z" (.int 1) A U H ∧ va_Z Bundle.tN "UNASSIGNED_STACK" Bundle.steD (va_rf (α 61)) A U H ∧ vx_L Bundle.tN "UNASSIGNED_STACK" Bundle.steD A U H ∧
  va_Z Bundle.tN "SUPPRESSED_SENTINEL" Bundle.listD (va_rf (α 62)) A U H ∧ vx_L Bundle.tN "SUPPRESSED_SENTINEL" Bundle.listD A U H ∧
  va_Z "jdk/internal/util/Preconditions" "SIOOBE_FORMATTER" "Ljava/util/function/BiFunction;" (va_rf (α 63)) A U H
def zScr (α : zAd) (A : Nat → Prop) (L : Nat) (xs : Nat → Int32) (U : State) (H : Heap) : Prop := ∃ b, α 1 = some b ∧ ¬ A b ∧ b < H.size ∧ va_X b L xs U H
def zCtx (b0 : Nat) (D : va_G) (dA : Nat → ClassId) (α : zAd) (L : Nat) (xs : Nat → Int32) (U : State) (H : Heap) : Prop :=
  va_K D zcl (ztys dA) U ∧ (∀ w ∈ znw, va_Nw w U) ∧ (∀ C ∈ zcomps, va_AO C U) ∧ (∀ i, i < 26 → zStr α (zA b0) U H i) ∧
  (∀ q ∈ zstrs, ∃ ak, α (2 + 2 * q.2.2.2) = some ak ∧ vk_R q.1 q.2.1 q.2.2.1 ak U) ∧ zSta α (zA b0) U H ∧ zScr α (zA b0) L xs U H
theorem zNw.to {w : Cond} (k : zNwK w) {s U : State} (hW : s.WarmedH U.vm) (h : va_Nw w s) : va_Nw w U := by
  rcases k with ⟨a, i, x, g, rfl⟩ | ⟨a, i, b, n, d, g, rfl⟩ | ⟨a, b, rfl⟩ | ⟨x, rfl⟩
  · exact va_Nw.warmM hW h
  · exact va_Nw.warmF hW h
  · exact va_Nw.warmC hW h
  · exact va_Nw.warmD hW h
theorem zCtx.to {b0 : Nat} {D : va_G} {dA : Nat → ClassId} {α : zAd} {L : Nat} {xs : Nat → Int32} {s U : State} {H0 H : Heap} (C : zCtx b0 D dA α L xs s H0) (hW : s.WarmedH U.vm) (hsz : H0.size ≤ H.size) (hq : ∀ a : Nat, a < H0.size → ¬ zA b0 a → H[a]? = H0[a]?) : zCtx b0 D dA α L xs U H := by
  have hvm := hW.alike
  obtain ⟨h1, h2, h3, h4, h5, ⟨g1, g2, g3, g4, g5, g6⟩, b, f1, f2, f3, f4⟩ := C
  refine ⟨va_K.moved hvm h1, fun w hw => zNw.to (znw_k w hw) hW (h2 w hw), fun C hC => va_AO.moved hvm (h3 C hC), fun i hi => ?_, fun q hq' => ?_,
    ⟨va_Z.moved hvm (g1.kept hq), va_Z.moved hvm (g2.kept hq), (g3.kept hq).moved hvm, va_Z.moved hvm (g4.kept hq), (g5.kept hq).moved hvm, va_Z.moved hvm (g6.kept hq)⟩, b, f1, f2, Nat.lt_of_lt_of_le f3 hsz, va_X.moved hvm ?_⟩
  · obtain ⟨ak, av, e1, e2, e3, e4, e5, e6⟩ := h4 i hi
    exact ⟨ak, av, e1, e2, va_O.moved hvm (e3.kept hq), va_OF.moved hvm (e4.kept hq), va_OF.moved hvm (e5.kept hq), va_T.moved hvm (e6.kept hq)⟩
  · obtain ⟨ak, e1, e2⟩ := h5 q hq'
    exact ⟨ak, e1, vk_R.warm hW e2⟩
  · obtain ⟨scr, e1, e2⟩ := f4
    exact ⟨scr, by rw [hq b f3 f2]; exact e1, e2⟩
theorem zCtx.agree {b0 : Nat} {D : va_G} {dA : Nat → ClassId} {α α' : zAd} {L : Nat} {xs : Nat → Int32} {U : State} {H : Heap} (C : zCtx b0 D dA α L xs U H) (hα : ∀ a, a < 64 → α' a = α a) : zCtx b0 D dA α' L xs U H := by
  obtain ⟨h1, h2, h3, h4, h5, h6, h7⟩ := C
  refine ⟨h1, h2, h3, fun i hi => ?_, fun q hq => ?_, ?_, ?_⟩
  · unfold zStr
    rw [hα _ (by omega), hα _ (by omega)]
    exact h4 i hi
  · rw [hα _ (by have := zstrs_lt q hq; omega)]
    exact h5 q hq
  · unfold zSta
    rw [hα _ (by decide), hα _ (by decide), hα _ (by decide)]
    exact h6
  · unfold zScr
    rw [hα _ (by decide)]
    exact h7
