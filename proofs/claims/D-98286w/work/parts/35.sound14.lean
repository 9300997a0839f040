/-! SOUNDNESS 14: all runs -/
section ZALL
variable {b0 : Nat} {D : va_G} {dA : Nat → ClassId} {L : Nat} {xs : Nat → Int32} {l : Launch}
/-- what the tables say of all code -/
def zTab : Prop := (∀ (M pc : Nat) (e : zEn), zget (zcode M) pc = some e → zOK M pc e ∧ zLev M e) ∧ ∀ M, zHnd M
theorem zP_succ (hT : zTab) (hl : l.stackTraces = false) {n : Nat} (IH : zP b0 D dA L xs l n) : zP b0 D dA L xs l (n + 1) := by
  intro c M pc labs st h r h' hf p e R s m args below meth c9 α0 h0 α H locs cells slots ls mc ms B0 S hle h64 hα htb hfr hlo hmc hms hc hs
  have hCx : zCtx b0 D dA α L xs s s.heap := B0.ctx.agree (fun a ha => hα a (Nat.lt_of_lt_of_le ha h64))
  have B : zFr p l R b0 D dA α L xs s m args meth c9 M := by
    obtain ⟨x1, x2, x3, x4, x5, x6, x7, x8, x9, -, x10⟩ := B0
    exact ⟨x1, x2, x3, x4, x5, x6, x7, x8, x9, hCx, x10⟩
  have hll : h.1 ≤ h'.1 := zF_le _ _ _ _ _ _ _ _ _ hf
  unfold zF at hf
  split at hf
  · exact hf.elim
  · next g pc1 labs1 st1 h1 heq =>
    obtain ⟨hg, hf⟩ := hf
    have hle1 : h1.1 ≤ h'.1 := zF_le _ _ _ _ _ _ _ _ _ hf
    have hle2 : h.1 ≤ h1.1 := zstep_le heq
    cases hz : zget (zcode M) pc with
    | none => unfold zstep at heq; rw [hz] at heq; cases heq
    | some en =>
      obtain ⟨I, len, rr⟩ := en
      refine zone B S hz (hT.1 _ _ _ hz).1 heq hg (by omega) (by omega) ?_
      intro α' H' locs' cells' slots' ls' ha S' hc' hs' _
      exact IH c M pc1 labs1 st1 h1 r h' hf p e R s m args below meth c9 α0 h0 α' H' locs' cells' slots' ls' mc ms B0 S' (Nat.le_trans hle hle2) h64 (fun a ha0 => (ha a (Nat.lt_of_lt_of_le ha0 hle)).trans (hα a ha0)) htb hfr hlo hmc hms (by omega) (by omega)
  · next g M' as rest heq =>
    obtain ⟨hg, hself, hf⟩ := hf
    obtain ⟨r1, h1, q1, q2⟩ := zF_det _ _ _ _ _ _ _ _ hf
    have hl1 : h.1 ≤ h1.1 := zF_le _ _ _ _ _ _ _ _ _ q2
    have hl2 : h1.1 ≤ h'.1 := by
      split at q1
      · exact zF_le _ _ _ _ _ _ _ _ _ q1
      · exact zF_le _ _ _ _ _ _ _ _ _ q1
      · split at q1
        · exact zF_le _ _ _ _ _ _ _ _ _ q1.2
        · rw [q1.2]; exact Nat.le_refl _
    have hvs : ∀ (as' : List zV), st = as'.reverse ++ rest → ∀ v ∈ as', zVok h.1 v := fun as' e1 v hv => S.2.2.2.2.1 v (by rw [e1]; exact List.mem_append_left _ (List.mem_reverse.mpr hv))
    have hA := (zself_spec hself).1
    obtain ⟨len, rr, hcase⟩ := zstep_call heq
    rcases hcase with ⟨idx, hz, hr0, hs0⟩ | ⟨idx, hz, hs0⟩ | ⟨idx, hz, hr0, hs0⟩
    · obtain ⟨⟨hd, -, hL⟩, hLev⟩ := hT.1 _ _ _ hz
      have hq : M' ∈ zcallees rr := by
        rcases hL with ⟨-, -, -, -, -, e0⟩ | ⟨-, -, n9, q9, rfl, -⟩ | ⟨-, -, -, -, -, rfl⟩
        · exact absurd e0 hr0
        · obtain ⟨-, -, rfl⟩ := zcall_s hs0
          exact List.mem_singleton.mpr rfl
        · exact absurd hs0 (fun h => by cases h)
      obtain ⟨hM, hlev⟩ := hLev M' hq trivial
      have hst0 : st = as.reverse ++ rest := by
        rcases hL with ⟨-, -, -, -, -, e0⟩ | ⟨-, -, n9, q9, rfl, -⟩ | ⟨-, -, -, -, -, rfl⟩
        · exact absurd e0 hr0
        · exact (ztake_st (zcall_s hs0).1).2
        · exact absurd hs0 (fun h => by cases h)
      have hMet := zmet hl IH hM q2 hA S.2.2.1 (hvs as hst0) (α := α)
      exact zafter IH (hT.2 M) hst0 q1 B0 S hle h64 hα htb hfr hlo hmc hms hc hs hl1 hl2 (zcallS (n := 0) B S hL hr0 hd hs0 hM (znext_le hself hlev) hfr hlo hMet (by omega) (by omega)).2
    · obtain ⟨⟨hd, -, hL⟩, hLev⟩ := hT.1 _ _ _ hz
      have hq : M' ∈ zcallees rr ∧ st = as.reverse ++ rest := by
        obtain ⟨-, ⟨n9, q9, ci, q8, rfl, -⟩ | ⟨n9, z9, vs, x9, ow, rfl, hv2, -⟩⟩ := hL
        · obtain ⟨a, as', -, ht, -, rfl, -⟩ := zcall_v hs0
          exact ⟨List.mem_singleton.mpr rfl, (ztake_st ht).2⟩
        · obtain ⟨a, as', -, ht, -, hf9⟩ := zcall_d hv2 hs0
          refine ⟨?_, (ztake_st ht).2⟩
          match vs, hv2, hf9 with
          | v1 :: v2 :: vs, _, hf9 => exact List.mem_map.mpr ⟨_, zfind_mem _ _ _ hf9, rfl⟩
      obtain ⟨hM, hlev⟩ := hLev M' hq.1 trivial
      have hMet := zmet hl IH hM q2 hA S.2.2.1 (hvs as hq.2) (α := α)
      exact zafter IH (hT.2 M) hq.2 q1 B0 S hle h64 hα htb hfr hlo hmc hms hc hs hl1 hl2 (zcallV (n := 0) B S hL hd hs0 hg hM (znext_le hself hlev) hfr hlo hMet (by omega) (by omega)).2
    · obtain ⟨⟨hd, -, hL⟩, hLev⟩ := hT.1 _ _ _ hz
      have hq : M' ∈ zcallees rr ∧ st = as.reverse ++ rest := by
        rcases hL with ⟨-, -, -, -, e0⟩ | ⟨-, -, n9, q9, rfl, -⟩
        · exact absurd e0 hr0
        · obtain ⟨a, as', -, ht, -, rfl, -⟩ := zcallI_i hs0
          exact ⟨List.mem_singleton.mpr rfl, (ztake_st ht).2⟩
      obtain ⟨hM, hlev⟩ := hLev M' hq.1 trivial
      have hMet := zmet hl IH hM q2 hA S.2.2.1 (hvs as hq.2) (α := α)
      exact zafter IH (hT.2 M) hq.2 q1 B0 S hle h64 hα htb hfr hlo hmc hms hc hs hl1 hl2 (zcallC (n := 0) B S hL hr0 hd hs0 hg hM (znext_le hself hlev) hfr hlo hMet (by omega) (by omega)).2
  · next g r1 h1 heq =>
    obtain ⟨hg, hf⟩ := hf
    rcases zstep_end heq with ⟨rfl, len, u, hcase⟩ | ⟨idx, len, ci, hz, rfl, rfl, rfl⟩
    · have hv : ∀ {I : Instr} {v : Option zV}, zget (zcode M) pc = some (I, len, u) → (∀ pc nL, zchk nL pc I len = (len == 1)) → r1 = .inl v → ((∃ x, I = .ireturn ∧ st = [.inl x] ∧ v = some (.inl x) ∧ ((u = [0] ∧ g = True) ∨ (u = [1] ∧ g = (x = 0 ∨ x = 1)) ∨ (u = [2] ∧ g = (zi2b x = x)) ∨ (u = [3] ∧ g = (zi2c x = x)))) ∨ (∃ x, I = .lreturn ∧ st = [.inr (.inl x)] ∧ v = some (.inr (.inl x))) ∨ (∃ x, I = .areturn ∧ st = [.inr (.inr x)] ∧ v = some (.inr (.inr x))) ∨ (I = .return_ ∧ st = [] ∧ v = none)) →
          W p l e R s m args below meth c9 H locs cells slots (vx_MQ below (zQc b0 D dA L xs α0 h0 r h') (zXc b0 D dA L xs α0 h0 r h') args s mc ms (zA b0)) (F0 m pc ls (st.map (zcv α))) := by
        intro I v hz hck e1 hcs
        subst e1
        obtain ⟨rfl, rfl⟩ := hf
        obtain ⟨⟨hd, hc9, hL⟩, -⟩ := hT.1 _ _ _ hz
        dsimp only at hd hc9 hL
        rw [hck] at hc9
        exact zret_v B0 S hα (by omega) (by omega) hd (eq_of_beq hc9) hL hg hcs
      rcases hcase with ⟨x, hz, e1, e2, hu⟩ | ⟨x, hz, e1, e2⟩ | ⟨x, hz, e1, e2⟩ | ⟨hz, e1, e2⟩ | ⟨a, t, hz, e1, e2, e3⟩
      · exact hv hz (fun _ _ => rfl) e2 (Or.inl ⟨x, rfl, e1, rfl, hu⟩)
      · exact hv hz (fun _ _ => rfl) e2 (Or.inr (Or.inl ⟨x, rfl, e1, rfl⟩))
      · exact hv hz (fun _ _ => rfl) e2 (Or.inr (Or.inr (Or.inl ⟨x, rfl, e1, rfl⟩)))
      · exact hv hz (fun _ _ => rfl) e2 (Or.inr (Or.inr (Or.inr ⟨rfl, e1, rfl⟩)))
      · subst e1 e2
        obtain ⟨hh, rfl, rfl⟩ := hf
        obtain ⟨⟨hd, hc9, hL⟩, -⟩ := hT.1 _ _ _ hz
        dsimp only at hd hc9 hL
        have h1 : len = 1 := eq_of_beq hc9
        subst h1
        rw [e3] at hg
        have hE : ∃ E, zCN h1 a = some E := by
          obtain ⟨q9, hq9, -⟩ := S.1.1.2.2.2.2.1 a hg.1.2 hg.2
          exact ⟨q9.1, by unfold zCN; rw [hq9]; rfl⟩
        obtain ⟨E, hE⟩ := hE
        exact zret_t B0 B S hα (by omega) (by omega) hd hL htb hg.1 hE
    · obtain ⟨hh, rfl, rfl⟩ := hf
      obtain ⟨⟨hd, -, hL⟩, -⟩ := hT.1 _ _ _ hz
      rcases hL with ⟨-, -, ci', N', C, T, h9, -⟩ | ⟨ci', e9, rfl, hL⟩
      · cases h9
      · obtain rfl : ci = 24 := by simpa using e9
        have h1 : (znew h 24 0 1).1 = h.1 + 1 := rfl
        exact zret_n B0 B S hle hα (by omega) (by omega) hmc hms hd hL htb
theorem zP_all (hT : zTab) (hl : l.stackTraces = false) : ∀ n, zP b0 D dA L xs l n
  | 0 => fun c M pc labs st h r h' hf => hf.elim
  | n + 1 => zP_succ hT hl (zP_all hT hl n)
end ZALL
