/-! SOUNDNESS 11: calls -/
theorem zcall_s {h : zH} {st : List zV} {n q : Nat} {g : Prop} {M' : Nat} {as rest : List zV} (hs : zcall h st [n, q] = some (g, .inr (.inl (M', as, rest)))) : ztake n [] st = some (as, rest) ∧ zcat rest ≤ 8 ∧ M' = q := by
  unfold zcall at hs
  dsimp only at hs
  split at hs
  · next heq =>
    split at hs
    · next hb => cases hs; exact ⟨heq, Nat.le_of_ble_eq_true hb, rfl⟩
    · cases hs
  · cases hs
theorem zcall_v {h : zH} {st : List zV} {n q ci : Nat} {g : Prop} {M' : Nat} {as rest : List zV} (hs : zcall h st [n, q, ci] = some (g, .inr (.inl (M', as, rest)))) : ∃ a as', as = .inr (.inr a) :: as' ∧ ztake n [] st = some (as, rest) ∧ zcat rest ≤ 8 ∧ M' = q ∧ g = ((h.2.1 a).1 = ci) := by
  unfold zcall at hs
  dsimp only at hs
  split at hs
  · next heq =>
    split at hs
    · next hb => cases hs; exact ⟨_, _, rfl, heq, Nat.le_of_ble_eq_true hb, rfl, rfl⟩
    · cases hs
  · cases hs
theorem zcall_d {h : zH} {st : List zV} {n z : Nat} {vs : List Nat} (h2 : 2 ≤ vs.length) {g : Prop} {M' : Nat} {as rest : List zV} (hs : zcall h st (n :: z :: vs) = some (g, .inr (.inl (M', as, rest)))) : ∃ a as', as = .inr (.inr a) :: as' ∧ ztake n [] st = some (as, rest) ∧ zcat rest ≤ 8 ∧ zfind vs (h.2.1 a).1 = some M' := by
  match vs, h2 with
  | v1 :: v2 :: vs, _ =>
    unfold zcall at hs
    dsimp only at hs
    split at hs
    · next heq =>
      split at hs
      · next hb =>
        unfold zdisp at hs
        split at hs
        · next hf => cases hs; exact ⟨_, _, rfl, heq, Nat.le_of_ble_eq_true hb, hf⟩
        · cases hs
      · cases hs
    · cases hs
theorem zcallI_i {h : zH} {st : List zV} {n q : Nat} {g : Prop} {M' : Nat} {as rest : List zV} (hs : zcallI h st [n, q] = some (g, .inr (.inl (M', as, rest)))) : ∃ a as', as = .inr (.inr a) :: as' ∧ ztake n [] st = some (as, rest) ∧ zcat rest ≤ 8 ∧ M' = q ∧ g = (64 ≤ a ∧ (h.2.1 a).1 ≠ 0) := by
  unfold zcallI at hs
  dsimp only at hs
  split at hs
  · next heq =>
    split at hs
    · next hb => cases hs; exact ⟨_, _, rfl, heq, Nat.le_of_ble_eq_true hb, rfl, rfl⟩
    · cases hs
  · cases hs
theorem zself_spec {M' M c : Nat} {as : List zV} (h : zself M' M c as) : zcat as ≤ zml M' ∧ (M' = M → 0 < c) := by
  unfold zself at h
  split at h
  · next h1 h2 => exact ⟨Nat.le_of_ble_eq_true h1, fun _ => h⟩
  · next h1 h2 => exact ⟨Nat.le_of_ble_eq_true h1, fun e => by rw [e, Nat.beq_refl] at h2; cases h2⟩
  · exact h.elim
theorem znext_le {M' M c : Nat} {as : List zV} (h : zself M' M c as) (hl : M' = M ∨ zlv M' + zcm M' + 1 ≤ zlv M) : zlv M' + znext M' M c + 1 ≤ zlv M + c := by
  obtain ⟨-, h2⟩ := zself_spec h
  unfold znext
  split
  · next hb =>
    have e := Nat.eq_of_beq_eq_true hb
    have := h2 e
    subst e
    omega
  · next hb =>
    rcases hl with e | hl
    · rw [e, Nat.beq_refl] at hb; cases hb
    · omega
theorem zroom_a {a b c d f : Nat} (h1 : a + c + 1 ≤ b + d) (h2 : b + d + 16 ≤ f) : a + c + 16 + 1 ≤ f := by omega
set_option maxRecDepth 20000 in
theorem zroom_b {a b c d m f : Nat} (h1 : a + c + 1 ≤ b + d) (h3 : m ≤ 29) (h2 : 48 * (b + d) + 1200 ≤ f) : 8 + (m + 11) + (48 * (a + c) + 1200) ≤ f := by omega
section ZCALL
variable {p : Program} {l : Launch} {e : Env} {R : Room} {s : State} {m : MethodId} {args : Array Value} {below : List Frame} {meth : Method} {c9 : Code} {b0 : Nat} {D : va_G} {dA : Nat → ClassId} {L : Nat} {xs : Nat → Int32} {M : Nat} {α : zAd} {h h1 : zH} {H : Heap} {locs : List Loc} {cells slots : Nat} {ls : Array Slot} {labs : List (Option zV)} {pc : Nat} {t : List zV} {r1 : zRes} {M' c c' mc1 ms1 : Nat} {as rest : List zV}
theorem zPc_at (B : zFr p l R b0 D dA α L xs s m args meth c9 M) {st : List zV} (S : zSt b0 D dA L xs M s α h H locs ls labs st) {As : List Value} (hA : As = as.map (zcv α)) : ∀ U : State, U.heap = H → s.WarmedH U.vm → zPc b0 D dA L xs α h as As.toArray U := by
  intro U e1 hW
  subst e1
  exact ⟨by rw [hA], S.1, zCtx.to B.ctx hW S.2.1.1 S.2.1.2.1, Nat.le_trans B.2.2.2.2.2.2.2.2.2.2.1 S.2.1.1⟩
/-- what a call of M' gives, in the caller's frame -/
def zRunOf (p : Program) (l : Launch) (e : Env) (R : Room) (s : State) (m : MethodId) (args : Array Value) (below : List Frame) (meth : Method) (c9 : Code) (b0 : Nat) (D : va_G) (dA : Nat → ClassId) (L : Nat) (xs : Nat → Int32) (α : zAd) (h : zH) (r1 : zRes) (h1 : zH) (H : Heap) (locs : List Loc) (cells slots : Nat) (pc : Nat) (ls : Array Slot) (st rest : List zV) : Prop :=
  vx_Run p l e R s m args below meth c9 H locs cells slots (h1.1 - h.1) (64 * (h1.1 - h.1)) (F0 m pc ls (st.map (zcv α))) (rest.map (zcv α)) (zQc b0 D dA L xs α h r1 h1 #[]) (zXc b0 D dA L xs α h r1 h1) (zA b0)
theorem zgoods {M' : Nat} (hM : zMt M') : GoodIn lw_all (zwd M') := by
  unfold zwd
  have := hM.1
  cases hz : zhd M' with
  | none => rw [hz] at this; exact lw_meth this
  | some hh => rw [hz] at this; exact lw_methW this
theorem zfix (B : zFr p l R b0 D dA α L xs s m args meth c9 M) : CallFix p m c9 (zby M) (zml M) s args lw_all (zow M) := ⟨B.1, B.2.1, B.2.2.2.2.1, B.own, B.ts⟩
theorem zls_size {ls : Array Slot} {labs : List (Option zV)} (hl : zLc α ls (zml M) labs) : ls.size = zml M := by
  obtain ⟨-, lv, h1, -⟩ := hl
  exact h1.1
theorem zmapcall {st as rest : List zV} (h : st = as.reverse ++ rest) : st.map (zcv α) = (as.map (zcv α)).reverse ++ rest.map (zcv α) := by
  rw [h, List.map_append, List.map_reverse]
theorem zroom (hlev : zlv M' + c' + 1 ≤ zlv M + c) {mc1 : Nat} (hM : zml M' ≤ 29) (hfr : zlv M + c + 16 ≤ R.frames) (hlo : 48 * (zlv M + c) + 1200 ≤ R.locals) : (zrm M' c' mc1).frames + 1 ≤ R.frames ∧ 8 + (zml M' + 11) + (zrm M' c' mc1).locals ≤ R.locals :=
  ⟨zroom_a hlev hfr, zroom_b hlev hM hlo⟩
/-- a static call -/
theorem zcallS (B : zFr p l R b0 D dA α L xs s m args meth c9 M) {st : List zV} (S : zSt b0 D dA L xs M s α h H locs ls labs st) {idx len n : Nat} {g : Prop} {rr : List Nat} (hL : zLsta (zow M) idx len rr) (hr0 : rr ≠ []) (hd : decode (zby M) pc = .ok (.invokestatic idx, len)) (hs : zcall h st rr = some (g, .inr (.inl (M', as, rest)))) (hM : zMt M') (hlev : zlv M' + c' + 1 ≤ zlv M + c) (hfr : zlv M + c + 16 ≤ R.frames) (hlo : 48 * (zlv M + c) + 1200 ≤ R.locals)
    (hMet : vx_Met l (znm M') (zwd M') (zrm M' c' (h1.1 - h.1)) (zPc b0 D dA L xs α h as) (zQc b0 D dA L xs α h r1 h1) (zXc b0 D dA L xs α h r1 h1) (h1.1 - h.1) (64 * (h1.1 - h.1)) (zA b0)) (hcl : cells + (h1.1 - h.1) ≤ R.cells) (hsl : slots + 64 * (h1.1 - h.1) ≤ R.slots) :
    (len = 3 ∧ st = as.reverse ++ rest) ∧ zRunOf p l e R s m args below meth c9 b0 D dA L xs α h r1 h1 H locs cells slots pc ls st rest := by
  rcases hL with ⟨-, -, -, -, -, e0⟩ | ⟨-, rfl, n, q, rfl, hst, hde, hlk⟩ | ⟨-, -, -, -, -, rfl⟩
  · exact absurd e0 hr0
  rotate_left
  · exact absurd hs (fun h => by cases h)
  obtain ⟨ht, hr8, rfl⟩ := zcall_s hs
  obtain ⟨hn, hst1⟩ := ztake_st ht
  have hsz : ls.size = zml M := zls_size S.2.2.2.1
  have hpre : PreS s H (zPc b0 D dA L xs α h as) (as.map (zcv α)) := ⟨zPc_blind _ _ _ _ _ _ _ _, zPc_at B S rfl⟩
  have hlen : (as.map (zcv α)).length = n := by rw [List.length_map, hn]
  have hW8 : 2 * (F0 m pc ls (st.map (zcv α))).monitorRoom + ((rest.map (zcv α)).map fun v => v.category).sum ≤ 8 := by rw [zcat_sum]; exact Nat.le_trans (Nat.le_of_eq (Nat.zero_add _)) hr8
  have hR := zroom (R := R) (M := M) (mc1 := h1.1 - h.1) hlev hM.2.2.2.2.2 hfr hlo
  have hini : (Cond.initialized (znm M').cls).before args s = true := B.ts _ hM.2.1
  refine ⟨⟨rfl, hst1⟩, ?_⟩
  have hh0 := hM.1
  cases hz : zhd M' with
  | none =>
    rw [hz] at hh0
    have ew : zwd M' = ws_ (znm M') (zby M') (zml M') (zrt M') := by unfold zwd; rw [hz]
    rcases hlk with hlk | ⟨⟨host, hlk⟩, -⟩
    · exact (have z9 := vx_runS (zfix B) hMet (va_cwS n B.ts (by rw [ew]; exact lw_S hlk hst hM.2.1 hh0) ew rfl rfl ⟨hM.2.2.2.2.1.1, hM.2.2.2.2.1.2, hde⟩ hR) hpre rfl hlen hsz (zmapcall hst1) hW8 hd ⟨hcl, hsl⟩; z9)
    · exact (have z9 := vx_runSN (zfix B) hMet ⟨va_cnB n B.ts (zgoods hM) ew rfl rfl (B.nw _ hlk) hini ⟨hM.2.2.2.2.1.1, hM.2.2.2.2.1.2, hde⟩ hR, B.ts _ hst, trivial⟩ hpre rfl hlen hsz (zmapcall hst1) hW8 hd ⟨hcl, hsl⟩; z9)
  | some hh =>
    rw [hz] at hh0
    have ew : zwd M' = wsW_ (znm M') (zby M') (zml M') (zrt M') hh := by unfold zwd; rw [hz]
    rcases hlk with hlk | ⟨-, e0⟩
    · exact (have z9 := vx_runSX (zfix B) hMet (vx_cwSW n B.ts (by rw [ew]; exact lw_SW hlk hst hM.2.1 hh0) ew rfl rfl ⟨hM.2.2.2.2.1.1, hM.2.2.2.2.1.2, hde⟩ hR) hpre rfl hlen hsz (zmapcall hst1) hW8 hd ⟨hcl, hsl⟩; z9)
    · rw [hz] at e0; cases e0
/-- a constructor's call -/
theorem zcallC (B : zFr p l R b0 D dA α L xs s m args meth c9 M) {st : List zV} (S : zSt b0 D dA L xs M s α h H locs ls labs st) {idx len n : Nat} {g : Prop} {rr : List Nat} (hL : zLspe (zow M) idx len rr) (hr0 : rr ≠ []) (hd : decode (zby M) pc = .ok (.invokespecial idx, len)) (hs : zcallI h st rr = some (g, .inr (.inl (M', as, rest)))) (hg : g) (hM : zMt M') (hlev : zlv M' + c' + 1 ≤ zlv M + c) (hfr : zlv M + c + 16 ≤ R.frames) (hlo : 48 * (zlv M + c) + 1200 ≤ R.locals)
    (hMet : vx_Met l (znm M') (zwd M') (zrm M' c' (h1.1 - h.1)) (zPc b0 D dA L xs α h as) (zQc b0 D dA L xs α h r1 h1) (zXc b0 D dA L xs α h r1 h1) (h1.1 - h.1) (64 * (h1.1 - h.1)) (zA b0)) (hcl : cells + (h1.1 - h.1) ≤ R.cells) (hsl : slots + 64 * (h1.1 - h.1) ≤ R.slots) :
    (len = 3 ∧ st = as.reverse ++ rest) ∧ zRunOf p l e R s m args below meth c9 b0 D dA L xs α h r1 h1 H locs cells slots pc ls st rest := by
  rcases hL with ⟨-, -, -, -, e0⟩ | ⟨-, rfl, n, q, rfl, hin, hnm, hrt, hz, hde, hlk⟩
  · exact absurd e0 hr0
  obtain ⟨a, as', rfl, ht, hr8, rfl, rfl⟩ := zcallI_i hs
  obtain ⟨hn, hst1⟩ := ztake_st ht
  obtain ⟨qa, hqa⟩ := S.addr B hg.2
  have hsz : ls.size = zml M := zls_size S.2.2.2.1
  have eA : (Value.ref qa :: as'.map (zcv α)) = (.inr (.inr a) :: as').map (zcv α) := by rw [List.map_cons]; show _ = va_rf (α a) :: _; rw [hqa]; rfl
  have hpre : PreS s H (zPc b0 D dA L xs α h (.inr (.inr a) :: as')) (Value.ref qa :: as'.map (zcv α)) := ⟨zPc_blind _ _ _ _ _ _ _ _, zPc_at B S eA⟩
  have hlen : (as'.map (zcv α)).length = n := by rw [List.length_map]; simpa using hn
  have hW8 : 2 * (F0 m pc ls (st.map (zcv α))).monitorRoom + ((rest.map (zcv α)).map fun v => v.category).sum ≤ 8 := by rw [zcat_sum]; exact Nat.le_trans (Nat.le_of_eq (Nat.zero_add _)) hr8
  have hR := zroom (R := R) (M := M) (mc1 := h1.1 - h.1) hlev hM.2.2.2.2.2 hfr hlo
  have hini : (Cond.initialized (znm M').cls).before args s = true := B.ts _ hM.2.1
  have hstk : (F0 m pc ls (st.map (zcv α))).stack = (as'.map (zcv α)).reverse ++ .ref qa :: rest.map (zcv α) := by
    show st.map (zcv α) = _
    rw [zmapcall hst1, ← eA, List.reverse_cons, List.append_assoc]
    rfl
  refine ⟨⟨rfl, hst1⟩, ?_⟩
  have hh0 := hM.1
  rw [hz, hrt] at hh0
  have ew : zwd M' = ws_ (znm M') (zby M') (zml M') none := by unfold zwd; rw [hz, hrt]
  rcases hlk with hlk | ⟨host, hlk⟩
  · exact (have z9 := vx_runI (zfix B) hMet (cwI n B.ts (zgoods hM) ew rfl rfl hini (B.ts _ hlk) (B.ts _ hin) hnm ⟨hM.2.2.2.2.1.1, hM.2.2.2.2.1.2, hde⟩ hR) hpre rfl hlen hsz hstk hW8 hd ⟨hcl, hsl⟩; z9)
  · exact (have z9 := vx_runIN (zfix B) hMet ⟨va_cnB n B.ts (zgoods hM) ew rfl rfl (B.nw _ hlk) hini ⟨hM.2.2.2.2.1.1, hM.2.2.2.2.1.2, hde⟩ hR, hnm, B.ts _ hin⟩ hpre rfl hlen hsz hstk hW8 hd ⟨hcl, hsl⟩; z9)
/-- a call through an object -/
theorem zcallV (B : zFr p l R b0 D dA α L xs s m args meth c9 M) {st : List zV} (S : zSt b0 D dA L xs M s α h H locs ls labs st) {idx len n : Nat} {g : Prop} {rr : List Nat} (hL : zLvir (zow M) idx len rr) (hd : decode (zby M) pc = .ok (.invokevirtual idx, len)) (hs : zcall h st rr = some (g, .inr (.inl (M', as, rest)))) (hg : g) (hM : zMt M') (hlev : zlv M' + c' + 1 ≤ zlv M + c) (hfr : zlv M + c + 16 ≤ R.frames) (hlo : 48 * (zlv M + c) + 1200 ≤ R.locals)
    (hMet : vx_Met l (znm M') (zwd M') (zrm M' c' (h1.1 - h.1)) (zPc b0 D dA L xs α h as) (zQc b0 D dA L xs α h r1 h1) (zXc b0 D dA L xs α h r1 h1) (h1.1 - h.1) (64 * (h1.1 - h.1)) (zA b0)) (hcl : cells + (h1.1 - h.1) ≤ R.cells) (hsl : slots + 64 * (h1.1 - h.1) ≤ R.slots) :
    (len = 3 ∧ st = as.reverse ++ rest) ∧ zRunOf p l e R s m args below meth c9 b0 D dA L xs α h r1 h1 H locs cells slots pc ls st rest := by
  obtain ⟨rfl, hL⟩ := hL
  have hsz : ls.size = zml M := zls_size S.2.2.2.1
  have hR := zroom (R := R) (M := M) (mc1 := h1.1 - h.1) hlev hM.2.2.2.2.2 hfr hlo
  have hini : (Cond.initialized (znm M').cls).before args s = true := B.ts _ hM.2.1
  have hh0 := hM.1
  have main : ∀ {n a : Nat} {as' : List zV} {C : String}, as = .inr (.inr a) :: as' → ztake (n + 1) [] st = some (as, rest) → zcat rest ≤ 8 → ∀ {qa : Nat}, α a = some qa → (∃ cell : Cell, H[qa]? = some cell ∧ cell.vm.isStatics = false ∧ s.vm.findClass C = some cell.cls) →
      st = as.reverse ++ rest ∧ PreV s H C qa (zPc b0 D dA L xs α h as) (as'.map (zcv α)) ∧ (as'.map (zcv α)).length = n ∧ (F0 m pc ls (st.map (zcv α))).stack = (as'.map (zcv α)).reverse ++ .ref qa :: rest.map (zcv α) ∧ 2 * (F0 m pc ls (st.map (zcv α))).monitorRoom + ((rest.map (zcv α)).map fun v => v.category).sum ≤ 8 := by
    intro n a as' C e1 ht hr8 qa hqa hcell
    subst e1
    obtain ⟨hn, hst1⟩ := ztake_st ht
    have eA : (Value.ref qa :: as'.map (zcv α)) = (.inr (.inr a) :: as').map (zcv α) := by rw [List.map_cons]; show _ = va_rf (α a) :: _; rw [hqa]; rfl
    refine ⟨hst1, ⟨zPc_blind _ _ _ _ _ _ _ _, hcell, zPc_at B S eA⟩, by rw [List.length_map]; simpa using hn, ?_, by rw [zcat_sum]; exact Nat.le_trans (Nat.le_of_eq (Nat.zero_add _)) hr8⟩
    show st.map (zcv α) = _
    rw [zmapcall hst1, ← eA, List.reverse_cons, List.append_assoc]
    rfl
  rcases hL with ⟨n, q, ci, q9, rfl, hc9, hc1, hc2, hc3, hcls, hlk, hin, hsel, hde⟩ | ⟨n, z, vs, x, owner, rfl, hv2, hlk, hsame, how, hde, hdis⟩
  · obtain ⟨a, as', e1, ht, hr8, rfl, rfl⟩ := zcall_v hs
    have hK : (h.2.1 a).1 = ci := hg
    obtain ⟨qa, hqa⟩ := S.addr B (a := a) (by rw [hK]; omega)
    obtain ⟨hst1, hpre, hlen, hstk, hW8⟩ := main e1 ht hr8 hqa (zrecv B S hK hc1 hc2 hc9 hc3 hqa)
    refine ⟨⟨rfl, hst1⟩, ?_⟩
    cases hz : zhd M' with
    | none =>
      rw [hz] at hh0
      have ew : zwd M' = ws_ (znm M') (zby M') (zml M') (zrt M') := by unfold zwd; rw [hz]
      exact (have z9 := vx_runV (zfix B) hMet (cwV n B.ts (by rw [ew]; exact lw_V hlk hin hsel (by rw [← hcls]; exact hM.2.1) hh0) ew rfl rfl ⟨hcls, hM.2.2.2.2.1.1, hM.2.2.2.2.1.2, hde⟩ hR) hpre rfl hlen hsz hstk hW8 hd ⟨hcl, hsl⟩; z9)
    | some hh =>
      rw [hz] at hh0
      have ew : zwd M' = wsW_ (znm M') (zby M') (zml M') (zrt M') hh := by unfold zwd; rw [hz]
      exact (have z9 := vx_runVX (zfix B) hMet (vx_cwVW n B.ts (by rw [ew]; exact lw_VW hlk hin hsel (by rw [← hcls]; exact hM.2.1) hh0) ew rfl rfl ⟨hcls, hM.2.2.2.2.1.1, hM.2.2.2.2.1.2, hde⟩ hR) hpre rfl hlen hsz hstk hW8 hd ⟨hcl, hsl⟩; z9)
  · obtain ⟨a, as', e1, ht, hr8, hf⟩ := zcall_d hv2 hs
    obtain ⟨⟨q9, hc9, hc1, hc2, hc23, hz, hsel, hin, hdec⟩, -⟩ := hdis _ (zfind_mem vs _ _ hf)
    dsimp only at hc9 hc1 hc2 hc23 hz hsel hin
    obtain ⟨qa, hqa⟩ := S.addr B (a := a) (by omega)
    obtain ⟨hst1, hpre, hlen, hstk, hW8⟩ := main (C := q9.1) e1 ht hr8 hqa (zrecv B S rfl hc1 hc2 hc9 (fun e => absurd e hc23) hqa)
    refine ⟨⟨rfl, hst1⟩, ?_⟩
    rw [hz] at hh0
    have ew : zwd M' = ws_ (znm M') (zby M') (zml M') (zrt M') := by unfold zwd; rw [hz]
    have hdcl : va_Decl s ⟨owner, x.name, x.desc⟩ := by
      rcases hdec with ⟨d1, b9, m9, r9, d2⟩ | d1
      · exact va_Decl.of (B.ts _ d1) (B.ts _ d2)
      · exact va_Decl.abs (B.nw _ d1)
    have hcw : va_CU R s args (zow M) q9.1 owner idx x (znm M') (zby M') (zml M') (zrt M') (zwd M') (zrm M' c' (h1.1 - h.1)) (h1.1 - h.1) (64 * (h1.1 - h.1)) n :=
      ⟨⟨rfl, rfl, hR.1, hR.2, pay_in B.ts (zgoods hM), by rw [ew]; exact List.mem_cons_self⟩, B.ts _ hh0, hini, how, fun sig h2 => by
        have h3 := hde
        unfold zdesc at h3
        rw [h2] at h3
        exact (Option.some.inj h3).symm, B.ts _ hlk, B.ts _ hsame, hdcl, B.ts _ hsel, B.ts _ hin⟩
    exact (have z9 := vx_runU (zfix B) hMet hcw hpre rfl hlen hsz hstk hW8 hd ⟨hcl, hsl⟩; z9)
end ZCALL
