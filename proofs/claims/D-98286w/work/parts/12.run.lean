/-! RUNS of the abstract machine: zF by fuel, zX without; a method's run zE -/
/-- a call within the levels, its arguments within the locals -/
def zself (M' M c : Nat) (as : List zV) : Prop := match Nat.ble (zcat as) (zml M'), Nat.beq M' M with
  | true, true => 0 < c
  | true, false => True
  | false, _ => False
def znext (M' M c : Nat) : Nat := match Nat.beq M' M with
  | true => c - 1
  | false => zcm M'
def zent (M : Nat) (as : List zV) : List (Option zV) := zpad (zml M) (zlay as)
def zF : Nat → Nat → Nat → Nat → List (Option zV) → List zV → zH → (zRes → zH → Prop) → Prop
  | 0, _, _, _, _, _, _, _ => False
  | n + 1, c, M, pc, ls, st, h, Q => match zstep (zcode M) pc ls st h with
    | none => False
    | some (g, .inl (pc', ls', st', h')) => g ∧ zF n c M pc' ls' st' h' Q
    | some (g, .inr (.inl (M', as, rest))) => g ∧ zself M' M c as ∧ zF n (znext M' M c) M' 0 (zent M' as) [] h (fun r h' => match r with
      | .inl none => zF n c M (pc + 3) ls rest h' Q
      | .inl (some v) => zF n c M (pc + 3) ls (v :: rest) h' Q
      | .inr a => match zhand M pc with
        | some (ci, t) => (h'.2.1 a).1 = ci ∧ zF n c M t ls [.inr (.inr a)] h' Q
        | none => Q (.inr a) h')
    | some (g, .inr (.inr (r, h'))) => g ∧ (match r with
      | .inl v => Q (.inl v) h'
      | .inr a => zhand M pc = none ∧ Q (.inr a) h')
theorem zF_mono : ∀ (n m c M pc : Nat) (ls : List (Option zV)) (st : List zV) (h : zH) (P Q : zRes → zH → Prop), n ≤ m → (∀ r h, P r h → Q r h) → zF n c M pc ls st h P → zF m c M pc ls st h Q := by
  intro n
  induction n with
  | zero => intro m c M pc ls st h P Q _ _ hf; exact hf.elim
  | succ n ih =>
    intro m c M pc ls st h P Q hnm hPQ hf
    obtain ⟨m, rfl⟩ : ∃ k, m = k + 1 := ⟨m - 1, by omega⟩
    have hnm : n ≤ m := by omega
    unfold zF at hf ⊢
    split at hf
    · exact hf.elim
    · exact ⟨hf.1, ih m c M _ _ _ _ P Q hnm hPQ hf.2⟩
    · refine ⟨hf.1, hf.2.1, ih m _ _ _ _ _ _ _ _ hnm ?_ hf.2.2⟩
      intro r h' hr
      split at hr
      · exact ih m c M _ _ _ _ P Q hnm hPQ hr
      · exact ih m c M _ _ _ _ P Q hnm hPQ hr
      · split at hr
        · exact ⟨hr.1, ih m c M _ _ _ _ P Q hnm hPQ hr.2⟩
        · exact hPQ _ _ hr
    · refine ⟨hf.1, ?_⟩
      split at hf
      · exact hPQ _ _ hf.2
      · exact ⟨hf.2.1, hPQ _ _ hf.2.2⟩
theorem zF_det : ∀ (n c M pc : Nat) (ls : List (Option zV)) (st : List zV) (h : zH) (P : zRes → zH → Prop), zF n c M pc ls st h P → ∃ r h', P r h' ∧ zF n c M pc ls st h (fun r1 h1 => r1 = r ∧ h1 = h') := by
  intro n
  induction n with
  | zero => intro c M pc ls st h P hf; exact hf.elim
  | succ n ih =>
    intro c M pc ls st h P hf
    unfold zF at hf
    split at hf
    · exact hf.elim
    · next heq =>
      obtain ⟨r, h', h1, h2⟩ := ih _ _ _ _ _ _ _ hf.2
      refine ⟨r, h', h1, ?_⟩
      unfold zF
      rw [heq]
      exact ⟨hf.1, h2⟩
    · next heq =>
      obtain ⟨r, h', h1, h2⟩ := ih _ _ _ _ _ _ _ hf.2.2
      split at h1
      · obtain ⟨r3, h3, h4, h5⟩ := ih _ _ _ _ _ _ _ h1
        refine ⟨r3, h3, h4, ?_⟩
        unfold zF
        rw [heq]
        refine ⟨hf.1, hf.2.1, zF_mono n n _ _ _ _ _ _ _ _ (Nat.le_refl _) ?_ h2⟩
        rintro r1 h1 ⟨rfl, rfl⟩
        exact h5
      · obtain ⟨r3, h3, h4, h5⟩ := ih _ _ _ _ _ _ _ h1
        refine ⟨r3, h3, h4, ?_⟩
        unfold zF
        rw [heq]
        refine ⟨hf.1, hf.2.1, zF_mono n n _ _ _ _ _ _ _ _ (Nat.le_refl _) ?_ h2⟩
        rintro r1 h1 ⟨rfl, rfl⟩
        exact h5
      · split at h1
        · next hh =>
          obtain ⟨r3, h3, h4, h5⟩ := ih _ _ _ _ _ _ _ h1.2
          refine ⟨r3, h3, h4, ?_⟩
          unfold zF
          rw [heq]
          refine ⟨hf.1, hf.2.1, zF_mono n n _ _ _ _ _ _ _ _ (Nat.le_refl _) ?_ h2⟩
          rintro r1 h2 ⟨rfl, rfl⟩
          simp only [hh]
          exact ⟨h1.1, h5⟩
        · next hh =>
          refine ⟨_, h', h1, ?_⟩
          unfold zF
          rw [heq]
          refine ⟨hf.1, hf.2.1, zF_mono n n _ _ _ _ _ _ _ _ (Nat.le_refl _) ?_ h2⟩
          rintro r1 h2 ⟨rfl, rfl⟩
          simp only [hh]
          first | exact ⟨trivial, rfl⟩ | trivial
    · next heq =>
      split at hf
      · refine ⟨_, _, hf.2, ?_⟩
        unfold zF
        rw [heq]
        exact ⟨hf.1, rfl, rfl⟩
      · refine ⟨_, _, hf.2.2, ?_⟩
        unfold zF
        rw [heq]
        exact ⟨hf.1, hf.2.1, rfl, rfl⟩
def zX (c M pc : Nat) (ls : List (Option zV)) (st : List zV) (h : zH) (Q : zRes → zH → Prop) : Prop := ∃ n, zF n c M pc ls st h Q
/-- a method's run, by what holds at its end -/
def zEQ (c M : Nat) (as : List zV) (h : zH) (Q : zRes → zH → Prop) : Prop := zX c M 0 (zent M as) [] h Q
/-- a method's run: its answer, its heap -/
def zE (c M : Nat) (as : List zV) (h : zH) (r : zRes) (h' : zH) : Prop := zEQ c M as h (fun r1 h1 => r1 = r ∧ h1 = h')
theorem zX.mono {c M pc : Nat} {ls : List (Option zV)} {st : List zV} {h : zH} {P Q : zRes → zH → Prop} (k : zX c M pc ls st h P) (hPQ : ∀ r h, P r h → Q r h) : zX c M pc ls st h Q :=
  k.elim fun n hn => ⟨n, zF_mono n n _ _ _ _ _ _ _ _ (Nat.le_refl _) hPQ hn⟩
theorem zEQ.mono {c M : Nat} {as : List zV} {h : zH} {P Q : zRes → zH → Prop} (k : zEQ c M as h P) (hPQ : ∀ r h, P r h → Q r h) : zEQ c M as h Q := zX.mono k hPQ
theorem zX.g {c M pc : Nat} {ls : List (Option zV)} {st : List zV} {h : zH} {Q : zRes → zH → Prop} {g : Prop} {pc' : Nat} {ls' : List (Option zV)} {st' : List zV} {h' : zH} (e : zstep (zcode M) pc ls st h = some (g, .inl (pc', ls', st', h'))) (hg : g) (k : zX c M pc' ls' st' h' Q) : zX c M pc ls st h Q := by
  obtain ⟨n, hn⟩ := k
  refine ⟨n + 1, ?_⟩
  unfold zF
  rw [e]
  exact ⟨hg, hn⟩
theorem zX.n {c M pc : Nat} {ls : List (Option zV)} {st : List zV} {h : zH} {Q : zRes → zH → Prop} {pc' : Nat} {ls' : List (Option zV)} {st' : List zV} {h' : zH} (e : zstep (zcode M) pc ls st h = some (True, .inl (pc', ls', st', h'))) (k : zX c M pc' ls' st' h' Q) : zX c M pc ls st h Q := zX.g e trivial k
theorem zX.callQ {c M pc : Nat} {ls : List (Option zV)} {st : List zV} {h : zH} {Q : zRes → zH → Prop} {g : Prop} {M' : Nat} {as rest : List zV} (e : zstep (zcode M) pc ls st h = some (g, .inr (.inl (M', as, rest)))) (hg : g) (hs : zself M' M c as)
    (k : zEQ (znext M' M c) M' as h (fun r h' => match r with
      | .inl none => zX c M (pc + 3) ls rest h' Q
      | .inl (some v) => zX c M (pc + 3) ls (v :: rest) h' Q
      | .inr a => match zhand M pc with
        | some (ci, t) => (h'.2.1 a).1 = ci ∧ zX c M t ls [.inr (.inr a)] h' Q
        | none => Q (.inr a) h')) : zX c M pc ls st h Q := by
  obtain ⟨n, hn⟩ := k
  obtain ⟨r, h', h1, h2⟩ := zF_det _ _ _ _ _ _ _ _ hn
  split at h1
  · obtain ⟨m, hm⟩ := h1
    refine ⟨max n m + 1, ?_⟩
    unfold zF
    rw [e]
    refine ⟨hg, hs, zF_mono n _ _ _ _ _ _ _ _ _ (Nat.le_max_left _ _) ?_ h2⟩
    rintro r1 h1 ⟨rfl, rfl⟩
    exact zF_mono m _ _ _ _ _ _ _ _ _ (Nat.le_max_right _ _) (fun _ _ h => h) hm
  · obtain ⟨m, hm⟩ := h1
    refine ⟨max n m + 1, ?_⟩
    unfold zF
    rw [e]
    refine ⟨hg, hs, zF_mono n _ _ _ _ _ _ _ _ _ (Nat.le_max_left _ _) ?_ h2⟩
    rintro r1 h1 ⟨rfl, rfl⟩
    exact zF_mono m _ _ _ _ _ _ _ _ _ (Nat.le_max_right _ _) (fun _ _ h => h) hm
  · split at h1
    · next hh =>
      obtain ⟨h0, m, hm⟩ := h1
      refine ⟨max n m + 1, ?_⟩
      unfold zF
      rw [e]
      refine ⟨hg, hs, zF_mono n _ _ _ _ _ _ _ _ _ (Nat.le_max_left _ _) ?_ h2⟩
      rintro r1 h1 ⟨rfl, rfl⟩
      simp only [hh]
      exact ⟨h0, zF_mono m _ _ _ _ _ _ _ _ _ (Nat.le_max_right _ _) (fun _ _ h => h) hm⟩
    · next hh =>
      refine ⟨n + 1, ?_⟩
      unfold zF
      rw [e]
      refine ⟨hg, hs, zF_mono n _ _ _ _ _ _ _ _ _ (Nat.le_refl _) ?_ h2⟩
      rintro r1 h2 ⟨rfl, rfl⟩
      simp only [hh]
      exact h1
/-- a call whose answer is known -/
theorem zX.callV {c M pc : Nat} {ls : List (Option zV)} {st : List zV} {h h' : zH} {Q : zRes → zH → Prop} {g : Prop} {M' : Nat} {as rest : List zV} {v : zV} (e : zstep (zcode M) pc ls st h = some (g, .inr (.inl (M', as, rest)))) (hg : g) (hs : zself M' M c as)
    (k : zE (znext M' M c) M' as h (.inl (some v)) h') (kk : zX c M (pc + 3) ls (v :: rest) h' Q) : zX c M pc ls st h Q :=
  zX.callQ e hg hs (zEQ.mono k (by rintro r h1 ⟨rfl, rfl⟩; exact kk))
theorem zX.callN {c M pc : Nat} {ls : List (Option zV)} {st : List zV} {h h' : zH} {Q : zRes → zH → Prop} {g : Prop} {M' : Nat} {as rest : List zV} (e : zstep (zcode M) pc ls st h = some (g, .inr (.inl (M', as, rest)))) (hg : g) (hs : zself M' M c as)
    (k : zE (znext M' M c) M' as h (.inl none) h') (kk : zX c M (pc + 3) ls rest h' Q) : zX c M pc ls st h Q :=
  zX.callQ e hg hs (zEQ.mono k (by rintro r h1 ⟨rfl, rfl⟩; exact kk))
theorem zX.ret {c M pc : Nat} {ls : List (Option zV)} {st : List zV} {h h' : zH} {Q : zRes → zH → Prop} {g : Prop} {v : Option zV} (e : zstep (zcode M) pc ls st h = some (g, .inr (.inr (.inl v, h')))) (hg : g) (k : Q (.inl v) h') : zX c M pc ls st h Q := by
  refine ⟨1, ?_⟩
  unfold zF
  rw [e]
  exact ⟨hg, k⟩
theorem zX.thr {c M pc : Nat} {ls : List (Option zV)} {st : List zV} {h h' : zH} {Q : zRes → zH → Prop} {g : Prop} {a : Nat} (e : zstep (zcode M) pc ls st h = some (g, .inr (.inr (.inr a, h')))) (hg : g) (hh : zhand M pc = none) (k : Q (.inr a) h') : zX c M pc ls st h Q := by
  refine ⟨1, ?_⟩
  unfold zF
  rw [e]
  exact ⟨hg, hh, k⟩
theorem zX.ite {c M : Nat} {ls : List (Option zV)} {st : List zV} {h : zH} {Q : zRes → zH → Prop} {p : Prop} [Decidable p] {a b : Nat} (k1 : p → zX c M a ls st h Q) (k2 : ¬ p → zX c M b ls st h Q) : zX c M (if p then a else b) ls st h Q := by
  by_cases hp : p
  · rw [if_pos hp]; exact k1 hp
  · rw [if_neg hp]; exact k2 hp
theorem zX.tsw {c M pc : Nat} {ls : List (Option zV)} {st : List zV} {h : zH} {Q : zRes → zH → Prop} {x lo hi d : Int} {offs : List Int}
    (k1 : ∀ k : Nat, (k : Int) < hi - lo + 1 → x = lo + k → zX c M (zat pc (offs.getD k 0)) ls st h Q) (k2 : x < lo ∨ hi < x → zX c M (zat pc d) ls st h Q) :
    zX c M (zat pc (if x < lo ∨ hi < x then d else offs.getD (x - lo).toNat 0)) ls st h Q := by
  by_cases hx : x < lo ∨ hi < x
  · rw [if_pos hx]; exact k2 hx
  · rw [if_neg hx]; exact k1 _ (by omega) (by omega)
theorem zX.lsw {c M pc : Nat} {ls : List (Option zV)} {st : List zV} {h : zH} {Q : zRes → zH → Prop} {x k o d : Int} {r : List (Int × Int)}
    (k1 : x = k → zX c M (zat pc o) ls st h Q) (k2 : ¬ x = k → zX c M (zat pc (zlook r d x)) ls st h Q) : zX c M (zat pc (zlook ((k, o) :: r) d x)) ls st h Q := by
  by_cases hx : x = k
  · rw [show zlook ((k, o) :: r) d x = o from if_pos hx]; exact k1 hx
  · rw [show zlook ((k, o) :: r) d x = zlook r d x from if_neg hx]; exact k2 hx
/-- what a call owes: the callee's run, and the caller's behind it -/
def zCall (c M pc pc' : Nat) (ls : List (Option zV)) (rest : List zV) (c' M' : Nat) (as : List zV) (h : zH) (Q : zRes → zH → Prop) : Prop :=
  zEQ c' M' as h (fun r h' => match r with
      | .inl none => zX c M pc' ls rest h' Q
      | .inl (some v) => zX c M pc' ls (v :: rest) h' Q
      | .inr a => match zhand M pc with
        | some (ci, t) => (h'.2.1 a).1 = ci ∧ zX c M t ls [.inr (.inr a)] h' Q
        | none => Q (.inr a) h')
theorem zCall.v {c M pc pc' : Nat} {ls : List (Option zV)} {rest : List zV} {c' M' : Nat} {as : List zV} {h h' : zH} {Q : zRes → zH → Prop} {v : zV} (k : zE c' M' as h (.inl (some v)) h') (kk : zX c M pc' ls (v :: rest) h' Q) : zCall c M pc pc' ls rest c' M' as h Q :=
  zEQ.mono k (by rintro r h1 ⟨rfl, rfl⟩; exact kk)
theorem zCall.n {c M pc pc' : Nat} {ls : List (Option zV)} {rest : List zV} {c' M' : Nat} {as : List zV} {h h' : zH} {Q : zRes → zH → Prop} (k : zE c' M' as h (.inl none) h') (kk : zX c M pc' ls rest h' Q) : zCall c M pc pc' ls rest c' M' as h Q :=
  zEQ.mono k (by rintro r h1 ⟨rfl, rfl⟩; exact kk)
/-- the callee throws, and so does the caller -/
theorem zCall.t {c M pc pc' : Nat} {ls : List (Option zV)} {rest : List zV} {c' M' : Nat} {as : List zV} {h h' : zH} {Q : zRes → zH → Prop} {a : Nat} (k : zE c' M' as h (.inr a) h') (hh : zhand M pc = none) (kk : Q (.inr a) h') : zCall c M pc pc' ls rest c' M' as h Q :=
  zEQ.mono k (by rintro r h1 ⟨rfl, rfl⟩; simp only [hh]; exact kk)
theorem zCall.q {c M pc pc' : Nat} {ls : List (Option zV)} {rest : List zV} {c' M' : Nat} {as : List zV} {h : zH} {Q P : zRes → zH → Prop} (k : zEQ c' M' as h P) (kk : ∀ r h', P r h' → match r with
      | .inl none => zX c M pc' ls rest h' Q
      | .inl (some v) => zX c M pc' ls (v :: rest) h' Q
      | .inr a => match zhand M pc with
        | some (ci, t) => (h'.2.1 a).1 = ci ∧ zX c M t ls [.inr (.inr a)] h' Q
        | none => Q (.inr a) h') : zCall c M pc pc' ls rest c' M' as h Q := zEQ.mono k kk
theorem zX.itn {c M : Nat} {ls : List (Option zV)} {st : List zV} {h : zH} {Q : zRes → zH → Prop} {α : Type} {x y : α} [Decidable (x ≠ y)] {a b : Nat} (k1 : ¬ x = y → zX c M a ls st h Q) (k2 : x = y → zX c M b ls st h Q) : zX c M (if x ≠ y then a else b) ls st h Q := by
  by_cases hp : x = y
  · rw [if_neg (fun h => h hp)]; exact k2 hp
  · rw [if_pos hp]; exact k1 hp
