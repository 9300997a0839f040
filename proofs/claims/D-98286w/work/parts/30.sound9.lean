/-! SOUNDNESS 9: a run that goes on: heaps grow; what ends a run -/
theorem zstep_le {tb : List (Nat × zEn)} {pc : Nat} {ls : List (Option zV)} {st : List zV} {h : zH} {g : Prop} {o : Nat × List (Option zV) × List zV × zH} (hs : zstep tb pc ls st h = some (g, .inl o)) : h.1 ≤ o.2.2.2.1 := by
  unfold zstep at hs
  split at hs
  · cases hs
  try dsimp only at hs
  split at hs <;> (try dsimp only at hs) <;> (repeat' (split at hs)) <;> (first | (cases hs; exact Nat.le_refl _) | (cases hs; done) | skip)
  · cases hs; exact Nat.le_succ _
  · cases hs; exact Nat.le_add_right _ _
  · cases hs; exact Nat.le_add_right _ _
  · exact absurd hs (zcall_no _ _ _ _)
  · exact absurd hs (zcall_no _ _ _ _)
  · exact absurd hs (zcallI_no _ _ _ _)
/-- a step that ends: a return, a throw, the pseudo throw -/
theorem zstep_end {tb : List (Nat × zEn)} {pc : Nat} {ls : List (Option zV)} {st : List zV} {h : zH} {g : Prop} {r : zRes} {h' : zH} (hs : zstep tb pc ls st h = some (g, .inr (.inr (r, h')))) :
    (h' = h ∧ ∃ (len : Nat) (u : List Nat), (∃ x, zget tb pc = some (.ireturn, len, u) ∧ st = [.inl x] ∧ r = .inl (some (.inl x)) ∧ ((u = [0] ∧ g = True) ∨ (u = [1] ∧ g = (x = 0 ∨ x = 1)) ∨ (u = [2] ∧ g = (zi2b x = x)) ∨ (u = [3] ∧ g = (zi2c x = x)))) ∨
      (∃ x, zget tb pc = some (.lreturn, len, u) ∧ st = [.inr (.inl x)] ∧ r = .inl (some (.inr (.inl x)))) ∨ (∃ x, zget tb pc = some (.areturn, len, u) ∧ st = [.inr (.inr x)] ∧ r = .inl (some (.inr (.inr x)))) ∨
      (zget tb pc = some (.return_, len, u) ∧ st = [] ∧ r = .inl none) ∨ (∃ a t, zget tb pc = some (.athrow, len, u) ∧ st = .inr (.inr a) :: t ∧ r = .inr a ∧ g = ((64 ≤ a ∧ (h.2.1 a).1 ≠ 0) ∧ (h.2.1 a).1 < 100))) ∨
    (∃ idx len ci, zget tb pc = some (.new idx, len, [ci]) ∧ st = [] ∧ r = .inr h.1 ∧ h' = znew h ci 0 1) := by
  have hcall : ∀ (r9 : List Nat), ¬ zcall h st r9 = some (g, .inr (.inr (r, h'))) := by
    intro r9 hs
    unfold zcall at hs
    split at hs
    · split at hs
      · split at hs <;> cases hs
      · cases hs
    · split at hs
      · split at hs <;> cases hs
      · cases hs
    · split at hs
      · split at hs
        · unfold zdisp at hs
          split at hs <;> cases hs
        · cases hs
      · cases hs
    · cases hs
  have hcallI : ∀ (r9 : List Nat), ¬ zcallI h st r9 = some (g, .inr (.inr (r, h'))) := by
    intro r9 hs
    unfold zcallI at hs
    split at hs
    · split at hs
      · split at hs <;> cases hs
      · cases hs
    · cases hs
  unfold zstep at hs
  split at hs
  · cases hs
  next I len u hg =>
  try dsimp only at hs
  split at hs <;> (try dsimp only at hs) <;> (repeat' (split at hs)) <;> (first | (cases hs; done) | (exact absurd hs (hcall _)) | (exact absurd hs (hcallI _)) | skip)
  · cases hs; exact Or.inr ⟨_, _, _, hg, rfl, rfl, rfl⟩
  · cases hs; exact Or.inl ⟨rfl, _, _, Or.inl ⟨_, hg, rfl, rfl, Or.inl ⟨rfl, rfl⟩⟩⟩
  · cases hs; exact Or.inl ⟨rfl, _, _, Or.inl ⟨_, hg, rfl, rfl, Or.inr (Or.inl ⟨rfl, rfl⟩)⟩⟩
  · cases hs; exact Or.inl ⟨rfl, _, _, Or.inl ⟨_, hg, rfl, rfl, Or.inr (Or.inr (Or.inl ⟨rfl, rfl⟩))⟩⟩
  · cases hs; exact Or.inl ⟨rfl, _, _, Or.inl ⟨_, hg, rfl, rfl, Or.inr (Or.inr (Or.inr ⟨rfl, rfl⟩))⟩⟩
  · cases hs; exact Or.inl ⟨rfl, _, _, Or.inr (Or.inl ⟨_, hg, rfl, rfl⟩)⟩
  · cases hs; exact Or.inl ⟨rfl, _, _, Or.inr (Or.inr (Or.inl ⟨_, hg, rfl, rfl⟩))⟩
  · cases hs; exact Or.inl ⟨rfl, _, _, Or.inr (Or.inr (Or.inr (Or.inl ⟨hg, rfl, rfl⟩)))⟩
  · cases hs; exact Or.inl ⟨rfl, _, _, Or.inr (Or.inr (Or.inr (Or.inr ⟨_, _, hg, rfl, rfl, rfl⟩)))⟩
theorem zF_le : ∀ (n c M pc : Nat) (ls : List (Option zV)) (st : List zV) (h : zH) (r : zRes) (h' : zH), zF n c M pc ls st h (fun r1 h1 => r1 = r ∧ h1 = h') → h.1 ≤ h'.1 := by
  intro n
  induction n with
  | zero => intro c M pc ls st h r h' hf; exact hf.elim
  | succ n ih =>
    intro c M pc ls st h r h' hf
    unfold zF at hf
    split at hf
    · exact hf.elim
    · next heq => exact Nat.le_trans (zstep_le heq) (ih _ _ _ _ _ _ _ _ hf.2)
    · next heq =>
      obtain ⟨r1, h1, q1, q2⟩ := zF_det _ _ _ _ _ _ _ _ hf.2.2
      refine Nat.le_trans (ih _ _ _ _ _ _ _ _ q2) ?_
      split at q1
      · exact ih _ _ _ _ _ _ _ _ q1
      · exact ih _ _ _ _ _ _ _ _ q1
      · split at q1
        · exact ih _ _ _ _ _ _ _ _ q1.2
        · rw [q1.2]; exact Nat.le_refl _
    · next heq =>
      have hle : ∀ {r2 : zRes} {h2 : zH} {g : Prop}, zstep (zcode M) pc ls st h = some (g, .inr (.inr (r2, h2))) → h.1 ≤ h2.1 := by
        intro r2 h2 g hs
        rcases zstep_end hs with ⟨rfl, -⟩ | ⟨idx, len, ci, -, -, -, rfl⟩
        · exact Nat.le_refl _
        · exact Nat.le_succ _
      split at hf
      · rw [← hf.2.2]; exact hle heq
      · rw [← hf.2.2.2]; exact hle heq
/-- a step that calls -/
theorem zstep_call {tb : List (Nat × zEn)} {pc : Nat} {ls : List (Option zV)} {st : List zV} {h : zH} {g : Prop} {M' : Nat} {as rest : List zV} (hs : zstep tb pc ls st h = some (g, .inr (.inl (M', as, rest)))) :
    ∃ (len : Nat) (r : List Nat), (∃ idx, zget tb pc = some (.invokestatic idx, len, r) ∧ r ≠ [] ∧ zcall h st r = some (g, .inr (.inl (M', as, rest)))) ∨ (∃ idx, zget tb pc = some (.invokevirtual idx, len, r) ∧ zcall h st r = some (g, .inr (.inl (M', as, rest)))) ∨
      (∃ idx, zget tb pc = some (.invokespecial idx, len, r) ∧ r ≠ [] ∧ zcallI h st r = some (g, .inr (.inl (M', as, rest)))) := by
  unfold zstep at hs
  split at hs
  · cases hs
  next I len r hg =>
  try dsimp only at hs
  split at hs <;> (try dsimp only at hs) <;> (repeat' (split at hs)) <;> (first | (cases hs; done) | skip)
  · next hr _ => exact ⟨_, _, Or.inl ⟨_, hg, hr, hs⟩⟩
  · exact ⟨_, _, Or.inr (Or.inl ⟨_, hg, hs⟩)⟩
  · next hr => exact ⟨_, _, Or.inr (Or.inr ⟨_, hg, hr, hs⟩)⟩
theorem ztake_eq : ∀ (n : Nat) (acc st as rest : List zV), ztake n acc st = some (as, rest) → as.length = n + acc.length ∧ ∃ d, d.length = n ∧ as = d.reverse ++ acc ∧ st = d ++ rest
  | 0, acc, st, as, rest, h => by cases h; exact ⟨by simp, [], rfl, rfl, rfl⟩
  | n + 1, acc, [], as, rest, h => by cases h
  | n + 1, acc, v :: st, as, rest, h => by
    obtain ⟨h1, d, h2, h3, h4⟩ := ztake_eq n (v :: acc) st as rest h
    refine ⟨by rw [h1]; simp; omega, v :: d, by simp [h2], by rw [h3]; simp, by rw [h4]; rfl⟩
theorem ztake_st {n : Nat} {st as rest : List zV} (h : ztake n [] st = some (as, rest)) : as.length = n ∧ st = as.reverse ++ rest := by
  obtain ⟨h1, d, h2, h3, h4⟩ := ztake_eq _ _ _ _ _ h
  exact ⟨by simpa using h1, by rw [h4, h3]; simp⟩
