/-! SOUNDNESS 8: one step of the abstract machine within its frame; printed by gen/gen_sound8.py -/
theorem z8 (i : Int) (h1 : -128 ≤ i) (h2 : i ≤ 127) : (Int8.ofInt i).toInt32 = Int32.ofInt i := by
  apply Int32.toInt_inj.mp
  rw [Int8.toInt_toInt32, Int8.toInt_ofInt, zi_toInt, zw_id (by omega) (by omega), show Int8.size = 256 from rfl, Int.bmod_def]
  split <;> omega
theorem z16 (i : Int) (h1 : -32768 ≤ i) (h2 : i ≤ 32767) : (Int16.ofInt i).toInt32 = Int32.ofInt i := by
  apply Int32.toInt_inj.mp
  rw [Int16.toInt_toInt32, Int16.toInt_ofInt, zi_toInt, zw_id (by omega) (by omega), show Int16.size = 65536 from rfl, Int.bmod_def]
  split <;> omega
/-- what a program decides of an entry -/
def zchk (nL pc : Nat) (I : Instr) (len : Nat) : Bool := match I with
  | .iconst i => len == 1 && decide (-32768 ≤ i) && decide (i ≤ 32767)
  | .bipush i => len == 2 && decide (-128 ≤ i) && decide (i ≤ 127)
  | .sipush i => len == 3 && decide (-32768 ≤ i) && decide (i ≤ 32767)
  | .ldc _ => len == 2
  | .ldc_w _ => len == 3
  | .ldc2_w _ => len == 3
  | .iload _ => len == 2
  | .lload _ => len == 2
  | .aload _ => len == 2
  | .istore i => len == 2 && decide (i < nL)
  | .istore_n i => len == 1 && decide (i.val < nL)
  | .astore i => len == 2 && decide (i < nL)
  | .astore_n i => len == 1 && decide (i.val < nL)
  | .lstore i => len == 2 && decide (i + 1 < nL)
  | .lstore_n i => len == 1 && decide (i.val + 1 < nL)
  | .iinc i _ => len == 3 && decide (i < nL)
  | .goto off => len == 3 && decide (0 ≤ (pc : Int) + off)
  | .ifCond _ off => len == 3 && decide (0 ≤ (pc : Int) + off)
  | .if_icmp _ off => len == 3 && decide (0 ≤ (pc : Int) + off)
  | .ifnull off => len == 3 && decide (0 ≤ (pc : Int) + off)
  | .ifnonnull off => len == 3 && decide (0 ≤ (pc : Int) + off)
  | .if_acmp _ off => len == 3 && decide (0 ≤ (pc : Int) + off)
  | .tableswitch d lo hi offs => decide ((offs.size : Int) = hi - lo + 1) && offs.toList.all (fun o => decide (0 ≤ (pc : Int) + o)) && decide (0 ≤ (pc : Int) + d)
  | .lookupswitch d ps => (ps.toList.zip (ps.toList.drop 1)).all (fun (a, next) => a.1 < next.1) && ps.toList.all (fun o => decide (0 ≤ (pc : Int) + o.2)) && decide (0 ≤ (pc : Int) + d)
  | .getfield _ => true
  | .putfield _ => true
  | .getstatic _ => true
  | .new _ => true
  | .newarray _ => true
  | .anewarray _ => true
  | .checkcast _ => true
  | .instanceof _ => true
  | .invokestatic _ => true
  | .invokevirtual _ => true
  | .invokespecial _ => true
  | _ => len == 1
/-- the entry after next, as the pseudo throw needs it -/
def zNm : List String := ["java/lang/RuntimeException", "java/lang/Exception"]
def zNs (own : String) (ic : Nat) : Prop := (∀ w ∈ vx_at0 own ic "java/util/NoSuchElementException" zNm, w ∈ lw_all ∨ w ∈ znw) ∧ ∀ w ∈ vx_at0 own ic "java/util/NoSuchElementException" zNm, vx_ot w = true
def zLnse (M pc idx len : Nat) : Prop := len = 3 ∧ zhd M = none ∧ Cond.initialized "java/util/NoSuchElementException" ∈ lw_all ∧ ∃ ic, decode (zby M) (pc + 3) = .ok (.dup, 1) ∧ decode (zby M) (pc + 4) = .ok (.invokespecial ic, 3) ∧ decode (zby M) (pc + 7) = .ok (.athrow, 1) ∧ Cond.classLink (zow M) idx "java/util/NoSuchElementException" ∈ lw_all ∧ zNs (zow M) ic
def zpairs : List Nat → List (Nat × Nat)
  | k :: v :: r => (k, v) :: zpairs r
  | _ => []
theorem zfind_mem : ∀ (vs : List Nat) (k y : Nat), zfind vs k = some y → (k, y) ∈ zpairs vs
  | [], k, y, h => by cases h
  | [_], k, y, h => by cases h
  | a :: b :: r, k, y, h => by
    unfold zfind at h
    split at h
    · next heq =>
      cases h
      have : a = k := Nat.eq_of_beq_eq_true heq
      rw [this]
      exact List.mem_cons_self
    · exact List.mem_cons_of_mem _ (zfind_mem r k y h)
def zdesc (d : String) (n : Nat) : Prop := (parseMethodDescriptor d).map (fun q => q.parameters.length) = some n
/-- a virtual call of method q at a receiver of class ci, declared as x -/
def zLdis (own : String) (idx n : Nat) (x : MethodName) (owner : String) (ci q : Nat) : Prop := ∃ q9 : vw_C, zcl[ci]? = some q9 ∧ 0 < ci ∧ ci < 100 ∧ ci ≠ 23 ∧ zhd q = none ∧ Cond.selects q9.1 x (znm q) ∈ lw_all ∧ Cond.instanceMethod (znm q) ∈ lw_all ∧
  ((Cond.instanceMethod ⟨owner, x.name, x.desc⟩ ∈ lw_all ∧ ∃ (b0 : ByteArray) (m0 : Nat) (r0 : Option FieldType), Cond.code ⟨owner, x.name, x.desc⟩ b0 m0 r0 ∈ lw_all) ∨ Cond.declares ⟨owner, x.name, x.desc⟩ ∈ znw)
def zLvir (own : String) (idx len : Nat) (r : List Nat) : Prop := len = 3 ∧
  ((∃ (n q ci : Nat) (q9 : vw_C), r = [n + 1, q, ci] ∧ zcl[ci]? = some q9 ∧ 0 < ci ∧ ci < 100 ∧ (ci = 23 → q9.1 = "java/lang/String") ∧ (znm q).cls = q9.1 ∧ Cond.methodLink own idx (znm q) ∈ lw_all ∧ Cond.instanceMethod (znm q) ∈ lw_all ∧ Cond.selects q9.1 (znm q) (znm q) ∈ lw_all ∧ zdesc (znm q).desc n) ∨
   (∃ (n z : Nat) (vs : List Nat) (x : MethodName) (owner : String), r = (n + 1) :: z :: vs ∧ 2 ≤ vs.length ∧ Cond.methodLink own idx x ∈ lw_all ∧ Cond.sameMethod x.cls owner x.name x.desc ∈ lw_all ∧ (owner ≠ "java/lang/invoke/MethodHandle" ∧ owner ≠ "java/lang/invoke/VarHandle") ∧ zdesc x.desc n ∧ ∀ w ∈ zpairs vs, zLdis own idx n x owner w.1 w.2 ∧ w.2 ≠ 0))
def zLsta (own : String) (idx len : Nat) (r : List Nat) : Prop :=
  (len = 3 ∧ Cond.methodLink own idx arraycopyName ∈ lw_all ∧ Cond.native arraycopyName ∈ lw_all ∧ Cond.static arraycopyName ∈ lw_all ∧ Cond.initialized "java/lang/System" ∈ lw_all ∧ r = []) ∨
  (r ≠ [] ∧ len = 3 ∧ ∃ (n q : Nat), r = [n, q] ∧ Cond.static (znm q) ∈ lw_all ∧ zdesc (znm q).desc n ∧ (Cond.methodLink own idx (znm q) ∈ lw_all ∨ (∃ host, Cond.methodLinkNest own idx (znm q) host ∈ znw) ∧ zhd q = none)) ∨
  (len = 3 ∧ Cond.methodLink own idx Lib.Math.max.name ∈ lw_all ∧ Cond.static Lib.Math.max.name ∈ lw_all ∧ Cond.initialized "java/lang/Math" ∈ lw_all ∧ Cond.code Lib.Math.max.name Lib.Math.max.code 2 (some .int) ∈ lw_all ∧ r = [2])
def zLspe (own : String) (idx len : Nat) (r : List Nat) : Prop :=
  (len = 3 ∧ Cond.methodLink own idx Lib.objectInit ∈ lw_all ∧ Cond.instanceMethod Lib.objectInit ∈ lw_all ∧ Cond.code Lib.objectInit ⟨#[0xb1]⟩ 1 none ∈ lw_all ∧ r = []) ∨
  (r ≠ [] ∧ len = 3 ∧ ∃ (n q : Nat), r = [n + 1, q] ∧ Cond.instanceMethod (znm q) ∈ lw_all ∧ (znm q).name = "<init>" ∧ zrt q = none ∧ zhd q = none ∧ zdesc (znm q).desc n ∧ (Cond.methodLink own idx (znm q) ∈ lw_all ∨ ∃ host, Cond.methodLinkNest own idx (znm q) host ∈ znw))
def zLret (M : Nat) (r : List Nat) : Prop := (r = [0] ∧ zrt M = some .int) ∨ (r = [1] ∧ zrt M = some .boolean) ∨ (r = [2] ∧ zrt M = some .byte) ∨ (r = [3] ∧ zrt M = some .char)
def zLK (M pc : Nat) (I : Instr) (len : Nat) (r : List Nat) : Prop := match I with
  | .ldc idx => zLldc (zow M) idx r
  | .ldc_w idx => zLldc (zow M) idx r
  | .ldc2_w idx => zLldc (zow M) idx r
  | .getfield idx => zLget (zow M) idx len r
  | .putfield idx => zLput (zow M) (decide ((znm M).name = "<init>")) idx len r
  | .getstatic idx => zLgs (zow M) idx len r
  | .new idx => (r ≠ [24] ∧ zLnew (zow M) idx len r) ∨ (∃ ci, r = [ci] ∧ ci = 24 ∧ zLnse M pc idx len)
  | .newarray at' => zLnewa at' len r
  | .anewarray idx => zLanew (zow M) idx len r
  | .aaload => ∃ u, u < 8 ∧ r = [105 + u]
  | .aastore => zLast r
  | .checkcast idx => zLcast (zow M) idx len r
  | .instanceof idx => zLcast (zow M) idx len r
  | .invokestatic idx => zLsta (zow M) idx len r
  | .invokevirtual idx => zLvir (zow M) idx len r
  | .invokespecial idx => zLspe (zow M) idx len r
  | .ireturn => zLret M r
  | .lreturn => zrt M = some .long
  | .areturn => ∃ rt, zrt M = some rt ∧ ((∃ n, rt = .object n) ∨ ∃ z, rt = .array z)
  | .return_ => zrt M = none
  | .athrow => zhd M = none
  | _ => True
def zOK (M pc : Nat) (e : zEn) : Prop := decode (zby M) pc = .ok (e.1, e.2.1) ∧ zchk (zml M) pc e.1 e.2.1 = true ∧ zLK M pc e.1 e.2.1 e.2.2
theorem zdisp_no (vs : List Nat) (k a : Nat) (as rest : List zV) (g : Prop) (o : Nat × List (Option zV) × List zV × zH) : ¬ zdisp vs k a as rest = some (g, .inl o) := by
  unfold zdisp
  intro hs
  split at hs <;> cases hs
theorem zcall_no (h : zH) (st : List zV) (r : List Nat) {g : Prop} (o : Nat × List (Option zV) × List zV × zH) : ¬ zcall h st r = some (g, .inl o) := by
  unfold zcall
  intro hs
  split at hs
  · split at hs
    · split at hs <;> cases hs
    · cases hs
  · split at hs
    · split at hs <;> cases hs
    · cases hs
  · split at hs
    · split at hs
      · exact zdisp_no _ _ _ _ _ _ _ hs
      · cases hs
    · cases hs
  · cases hs
theorem zcallI_no (h : zH) (st : List zV) (r : List Nat) {g : Prop} (o : Nat × List (Option zV) × List zV × zH) : ¬ zcallI h st r = some (g, .inl o) := by
  unfold zcallI
  intro hs
  split at hs
  · split at hs
    · split at hs <;> cases hs
    · cases hs
  · cases hs
section ZONE
variable {p : Program} {l : Launch} {e : Env} {R : Room} {s : State} {m : MethodId} {args : Array Value} {below : List Frame} {meth : Method} {c : Code} {QQ : State → Prop} {b0 : Nat} {D : va_G} {dA : Nat → ClassId} {L : Nat} {xs : Nat → Int32} {M : Nat} {α : zAd} {h : zH} {H : Heap} {locs : List Loc} {cells slots : Nat} {ls : Array Slot} {labs : List (Option zV)} {pc : Nat} {t : List zV}
set_option maxHeartbeats 4000000 in
theorem zone (B : zFr p l R b0 D dA α L xs s m args meth c M) {st : List zV} (S : zSt b0 D dA L xs M s α h H locs ls labs st) {I : Instr} {len : Nat} {r : List Nat} (hg : zget (zcode M) pc = some (I, len, r)) (hOK : zOK M pc (I, len, r)) {g : Prop} {pc' : Nat} {labs' : List (Option zV)} {st' : List zV} {h' : zH} (hs : zstep (zcode M) pc labs st h = some (g, .inl (pc', labs', st', h'))) (hgd : g)
    (hcl : cells + (h'.1 - h.1) ≤ R.cells) (hsl : slots + 64 * (h'.1 - h.1) ≤ R.slots) (k : zKont p l e R s m args below meth c QQ b0 D dA L xs M α h cells slots pc' labs' st' h') :
    W p l e R s m args below meth c H locs cells slots QQ (F0 m pc ls (st.map (zcv α))) := by
  obtain ⟨hd, hc, hL⟩ := hOK
  dsimp only at hd hc hL
  unfold zstep at hs
  rw [hg] at hs
  dsimp only at hs
  split at hs
  -- iconst
  · cases hs
    simp only [zchk, Bool.and_eq_true, decide_eq_true_eq, beq_iff_eq] at hc
    obtain ⟨⟨rfl, c1⟩, c2⟩ := hc
    exact zo_iconst B ⟨by omega, by omega⟩ S hd k
  -- bipush
  · cases hs
    simp only [zchk, Bool.and_eq_true, decide_eq_true_eq, beq_iff_eq] at hc
    obtain ⟨⟨rfl, c1⟩, c2⟩ := hc
    exact zo_bipush B ⟨by omega, by omega⟩ (z8 _ (by omega) (by omega)) S hd k
  -- sipush
  · cases hs
    simp only [zchk, Bool.and_eq_true, decide_eq_true_eq, beq_iff_eq] at hc
    obtain ⟨⟨rfl, c1⟩, c2⟩ := hc
    exact zo_sipush B ⟨by omega, by omega⟩ (z16 _ (by omega) (by omega)) S hd k
  -- aconst_null
  · cases hs
    have hc1 : len = 1 := by simpa [zchk] using hc
    subst hc1
    exact zo_anull B S hd k
  -- lconst
  · cases hs
    have hc1 : len = 1 := by simpa [zchk] using hc
    subst hc1
    exact zo_lconst B S hd k
  -- ldc
  · have hc1 : len = 2 := by simpa [zchk] using hc
    subst hc1
    split at hs
    · cases hs; exact zo_ldc B hL S hd ⟨fun x e => (by cases e; rfl), fun a e => (by cases e), fun x e => (by cases e)⟩ k
    · cases hs; exact zo_ldc B hL S hd ⟨fun x e => (by cases e), fun a e => (by cases e; rfl), fun x e => (by cases e)⟩ k
    · cases hs
  -- ldc_w
  · have hc1 : len = 3 := by simpa [zchk] using hc
    subst hc1
    split at hs
    · cases hs; exact zo_ldc_w B hL S hd ⟨fun x e => (by cases e; rfl), fun a e => (by cases e), fun x e => (by cases e)⟩ k
    · cases hs; exact zo_ldc_w B hL S hd ⟨fun x e => (by cases e), fun a e => (by cases e; rfl), fun x e => (by cases e)⟩ k
    · cases hs
  -- ldc2_w
  · have hc1 : len = 3 := by simpa [zchk] using hc
    subst hc1
    split at hs
    · cases hs; exact zo_ldc2 B hL S hd k
    · cases hs
  -- iload
  · have hc1 : len = 2 := by simpa [zchk] using hc
    subst hc1
    split at hs
    · next heq => cases hs; exact zo_iload B S hd heq k
    · cases hs
  -- iload_n
  · have hc1 : len = 1 := by simpa [zchk] using hc
    subst hc1
    split at hs
    · next heq => cases hs; exact zo_iload_n B S hd heq k
    · cases hs
  -- lload
  · have hc1 : len = 2 := by simpa [zchk] using hc
    subst hc1
    split at hs
    · next heq => cases hs; exact zo_lload B S hd heq k
    · cases hs
  -- lload_n
  · have hc1 : len = 1 := by simpa [zchk] using hc
    subst hc1
    split at hs
    · next heq => cases hs; exact zo_lload_n B S hd heq k
    · cases hs
  -- aload
  · have hc1 : len = 2 := by simpa [zchk] using hc
    subst hc1
    split at hs
    · next heq => cases hs; exact zo_aload B S hd heq k
    · cases hs
  -- aload_n
  · have hc1 : len = 1 := by simpa [zchk] using hc
    subst hc1
    split at hs
    · next heq => cases hs; exact zo_aload_n B S hd heq k
    · cases hs
  -- istore
  · split at hs
    · cases hs
      simp only [zchk, Bool.and_eq_true, decide_eq_true_eq, beq_iff_eq] at hc
      obtain ⟨rfl, c1⟩ := hc
      exact zo_istore B c1 S hd k
    · cases hs
  -- istore_n
  · split at hs
    · cases hs
      simp only [zchk, Bool.and_eq_true, decide_eq_true_eq, beq_iff_eq] at hc
      obtain ⟨rfl, c1⟩ := hc
      exact zo_istore_n B c1 S hd k
    · cases hs
  -- astore
  · split at hs
    · cases hs
      simp only [zchk, Bool.and_eq_true, decide_eq_true_eq, beq_iff_eq] at hc
      obtain ⟨rfl, c1⟩ := hc
      exact zo_astore B c1 S hd k
    · cases hs
  -- astore_n
  · split at hs
    · cases hs
      simp only [zchk, Bool.and_eq_true, decide_eq_true_eq, beq_iff_eq] at hc
      obtain ⟨rfl, c1⟩ := hc
      exact zo_astore_n B c1 S hd k
    · cases hs
  -- lstore
  · split at hs
    · cases hs
      simp only [zchk, Bool.and_eq_true, decide_eq_true_eq, beq_iff_eq] at hc
      obtain ⟨rfl, c1⟩ := hc
      exact zo_lstore B c1 S hd k
    · cases hs
  -- lstore_n
  · split at hs
    · cases hs
      simp only [zchk, Bool.and_eq_true, decide_eq_true_eq, beq_iff_eq] at hc
      obtain ⟨rfl, c1⟩ := hc
      exact zo_lstore_n B c1 S hd k
    · cases hs
  -- iinc
  · split at hs
    · next heq =>
      cases hs
      simp only [zchk, Bool.and_eq_true, decide_eq_true_eq, beq_iff_eq] at hc
      obtain ⟨rfl, c1⟩ := hc
      exact zo_iinc B c1 S hd heq k
    · cases hs
  -- iadd
  · split at hs
    · cases hs
      have hc1 : len = 1 := by simpa [zchk] using hc
      subst hc1
      exact zo_iadd B S hd k
    · cases hs
  -- isub
  · split at hs
    · cases hs
      have hc1 : len = 1 := by simpa [zchk] using hc
      subst hc1
      exact zo_isub B S hd k
    · cases hs
  -- imul
  · split at hs
    · cases hs
      have hc1 : len = 1 := by simpa [zchk] using hc
      subst hc1
      exact zo_imul B S hd k
    · cases hs
  -- idiv
  · split at hs
    · cases hs
      have hc1 : len = 1 := by simpa [zchk] using hc
      subst hc1
      exact zo_idiv B hgd S hd k
    · cases hs
  -- irem
  · split at hs
    · cases hs
      have hc1 : len = 1 := by simpa [zchk] using hc
      subst hc1
      exact zo_irem B hgd S hd k
    · cases hs
  -- iand
  · split at hs
    · cases hs
      have hc1 : len = 1 := by simpa [zchk] using hc
      subst hc1
      exact zo_iand B S hd k
    · cases hs
  -- ior
  · split at hs
    · cases hs
      have hc1 : len = 1 := by simpa [zchk] using hc
      subst hc1
      exact zo_ior B S hd k
    · cases hs
  -- ixor
  · split at hs
    · cases hs
      have hc1 : len = 1 := by simpa [zchk] using hc
      subst hc1
      exact zo_ixor B S hd k
    · cases hs
  -- ishl
  · split at hs
    · cases hs
      have hc1 : len = 1 := by simpa [zchk] using hc
      subst hc1
      exact zo_ishl B S hd k
    · cases hs
  -- ishr
  · split at hs
    · cases hs
      have hc1 : len = 1 := by simpa [zchk] using hc
      subst hc1
      exact zo_ishr B S hd k
    · cases hs
  -- iushr
  · split at hs
    · cases hs
      have hc1 : len = 1 := by simpa [zchk] using hc
      subst hc1
      exact zo_iushr B S hd k
    · cases hs
  -- ladd
  · split at hs
    · cases hs
      have hc1 : len = 1 := by simpa [zchk] using hc
      subst hc1
      exact zo_ladd B S hd k
    · cases hs
  -- lsub
  · split at hs
    · cases hs
      have hc1 : len = 1 := by simpa [zchk] using hc
      subst hc1
      exact zo_lsub B S hd k
    · cases hs
  -- lmul
  · split at hs
    · cases hs
      have hc1 : len = 1 := by simpa [zchk] using hc
      subst hc1
      exact zo_lmul B S hd k
    · cases hs
  -- ldiv
  · split at hs
    · cases hs
      have hc1 : len = 1 := by simpa [zchk] using hc
      subst hc1
      exact zo_ldiv B hgd S hd k
    · cases hs
  -- lrem
  · split at hs
    · cases hs
      have hc1 : len = 1 := by simpa [zchk] using hc
      subst hc1
      exact zo_lrem B hgd S hd k
    · cases hs
  -- lcmp
  · split at hs
    · cases hs
      have hc1 : len = 1 := by simpa [zchk] using hc
      subst hc1
      exact zo_lcmp B S hd k
    · cases hs
  -- i2l
  · split at hs
    · cases hs
      have hc1 : len = 1 := by simpa [zchk] using hc
      subst hc1
      exact zo_i2l B S hd k
    · cases hs
  -- l2i
  · split at hs
    · cases hs
      have hc1 : len = 1 := by simpa [zchk] using hc
      subst hc1
      exact zo_l2i B S hd k
    · cases hs
  -- i2b
  · split at hs
    · cases hs
      have hc1 : len = 1 := by simpa [zchk] using hc
      subst hc1
      exact zo_i2b B S hd k
    · cases hs
  -- i2c
  · split at hs
    · cases hs
      have hc1 : len = 1 := by simpa [zchk] using hc
      subst hc1
      exact zo_i2c B S hd k
    · cases hs
  -- dup
  · have hc1 : len = 1 := by simpa [zchk] using hc
    subst hc1
    split at hs
    · cases hs; exact zo_dup_i B S hd k
    · cases hs; exact zo_dup_a B S hd k
    · cases hs
  -- dup2
  · split at hs
    · cases hs
      have hc1 : len = 1 := by simpa [zchk] using hc
      subst hc1
      exact zo_dup2 B S hd k
    · cases hs
  -- dup_x1
  · split at hs
    · cases hs
      have hc1 : len = 1 := by simpa [zchk] using hc
      subst hc1
      exact zo_dup_x1 B S hd k
    · cases hs
  -- pop
  · have hc1 : len = 1 := by simpa [zchk] using hc
    subst hc1
    split at hs
    · cases hs; exact zo_pop_i B S hd k
    · cases hs; exact zo_pop_a B S hd k
    · cases hs
  -- goto
  · simp only [zchk, Bool.and_eq_true, decide_eq_true_eq, beq_iff_eq] at hc
    obtain ⟨rfl, c1⟩ := hc
    cases hs; exact zo_goto B c1 S hd k
  -- ifCond
  · simp only [zchk, Bool.and_eq_true, decide_eq_true_eq, beq_iff_eq] at hc
    obtain ⟨rfl, c1⟩ := hc
    split at hs
    · split at hs
      · cases hs; exact zo_if_eq B c1 S hd k
      · cases hs; exact zo_if_ne B c1 S hd k
      · cases hs; exact zo_if_lt B c1 S hd k
      · cases hs; exact zo_if_ge B c1 S hd k
      · cases hs; exact zo_if_gt B c1 S hd k
      · cases hs; exact zo_if_le B c1 S hd k
    · cases hs
  -- if_icmp
  · simp only [zchk, Bool.and_eq_true, decide_eq_true_eq, beq_iff_eq] at hc
    obtain ⟨rfl, c1⟩ := hc
    split at hs
    · split at hs
      · cases hs; exact zo_icmp_eq B c1 S hd k
      · cases hs; exact zo_icmp_ne B c1 S hd k
      · cases hs; exact zo_icmp_lt B c1 S hd k
      · cases hs; exact zo_icmp_ge B c1 S hd k
      · cases hs; exact zo_icmp_gt B c1 S hd k
      · cases hs; exact zo_icmp_le B c1 S hd k
    · cases hs
  -- ifnull
  · simp only [zchk, Bool.and_eq_true, decide_eq_true_eq, beq_iff_eq] at hc
    obtain ⟨rfl, c1⟩ := hc
    split at hs
    · cases hs; exact zo_ifnull B c1 hgd S hd k
    · cases hs
  -- ifnonnull
  · simp only [zchk, Bool.and_eq_true, decide_eq_true_eq, beq_iff_eq] at hc
    obtain ⟨rfl, c1⟩ := hc
    split at hs
    · cases hs; exact zo_ifnonnull B c1 hgd S hd k
    · cases hs
  -- if_acmp
  · simp only [zchk, Bool.and_eq_true, decide_eq_true_eq, beq_iff_eq] at hc
    obtain ⟨rfl, c1⟩ := hc
    split at hs
    · cases hs; exact zo_acmp B c1 hgd.1 hgd.2.1 hgd.2.2 S hd k
    · cases hs
  -- tableswitch
  · simp only [zchk, Bool.and_eq_true, decide_eq_true_eq, beq_iff_eq] at hc
    obtain ⟨⟨c1, c2⟩, c3⟩ := hc
    split at hs
    · cases hs; exact zo_tsw B c1 (fun o ho => of_decide_eq_true (List.all_eq_true.mp c2 o ho)) c3 S hd k
    · cases hs
  -- lookupswitch
  · simp only [zchk, Bool.and_eq_true, decide_eq_true_eq, beq_iff_eq] at hc
    obtain ⟨⟨c1, c2⟩, c3⟩ := hc
    split at hs
    · cases hs; exact zo_lsw B c1 (fun o ho => of_decide_eq_true (List.all_eq_true.mp c2 o ho)) c3 S hd k
    · cases hs
  -- getfield
  · split at hs
    · split at hs
      · cases hs; exact zo_getfield B hL hgd (fun q => absurd q (by decide)) S hd rfl k
      · cases hs; exact zo_getfield B hL hgd (fun q => absurd q (by decide)) S hd rfl k
      · cases hs; exact zo_getfield B hL hgd (fun q => absurd q (by decide)) S hd rfl k
      · cases hs; exact zo_getfield B hL hgd.2 (fun _ => hgd.1) S hd rfl k
      · cases hs
    · cases hs
  -- putfield
  · split at hs
    · split at hs
      · cases hs; exact zo_putfield B hL hgd.2 hgd.1 (fun ty O n d fin _ hp => by obtain rfl : ty = .int := hp; exact Or.inl ⟨rfl, rfl⟩) S hd k
      · cases hs
    · split at hs
      · cases hs; exact zo_putfield B hL hgd.2 hgd.1 (fun ty O n d fin _ hp => by obtain rfl : ty = .long := hp; exact rfl) S hd k
      · cases hs
    · split at hs
      · cases hs; exact zo_putfield B hL hgd.2 hgd.1 (fun ty O n d fin _ hp => hp) S hd k
      · cases hs
    · split at hs
      · cases hs; exact zo_putfield B hL hgd.1.2 hgd.1.1 (fun ty O n d fin _ hp => by obtain rfl : ty = .boolean := hp; exact Or.inr (Or.inl ⟨rfl, rfl, hgd.2⟩)) S hd k
      · cases hs
    · split at hs
      · cases hs; exact zo_putfield B hL hgd.1.2 hgd.1.1 (fun ty O n d fin _ hp => by obtain ⟨-, rfl⟩ : 4 = 4 ∧ ty = .byte := hp; exact Or.inr (Or.inr ⟨rfl, rfl, hgd.2⟩)) S hd k
      · cases hs
    · cases hs
  -- getstatic
  · split at hs
    · cases hs
      exact zo_getstatic B hL S hd ⟨fun e => (by cases e; rfl), fun a e => (by cases e)⟩ k
    · cases hs; exact zo_getstatic B hL S hd ⟨fun e => (by cases e), fun a e => (by cases e; rfl)⟩ k
    · cases hs
  -- new
  · split at hs
    · cases hs
      rcases hL with ⟨-, hL⟩ | ⟨ci9, e9, -⟩
      · exact zo_new B hL S hd (by have := hcl; dsimp only at this; omega) (by have := hsl; dsimp only at this; omega) k
      · cases e9
    · split at hs <;> cases hs
    · cases hs
  -- newarray
  · split at hs
    · split at hs
      · cases hs
        obtain ⟨q1, u, q2, q3, q4⟩ := hL
        cases q3
        exact zo_newa B ⟨q1, u, q2, rfl, q4⟩ hgd S hd (by have := hcl; dsimp only at this; omega) (by have := hsl; dsimp only at this; omega) k
      · cases hs
    · cases hs
  -- anewarray
  · split at hs
    · split at hs
      · cases hs
        obtain ⟨q1, u, C, q2, q3, q4⟩ := hL
        cases q3
        exact zo_newq B ⟨q1, u, C, q2, rfl, q4⟩ hgd S hd (by have := hcl; dsimp only at this; omega) (by have := hsl; dsimp only at this; omega) k
      · cases hs
    · cases hs
  -- arraylength
  · split at hs
    · cases hs
      have hc1 : len = 1 := by simpa [zchk] using hc
      subst hc1
      exact zo_alen B hgd S hd k
    · cases hs
  -- iaload
  · split at hs
    · cases hs
      have hc1 : len = 1 := by simpa [zchk] using hc
      subst hc1
      obtain ⟨N, g1, g2, g3⟩ := hgd
      exact zo_iald B g1 g2 g3 S hd k
    · cases hs
  -- baload
  · split at hs
    · cases hs
      have hc1 : len = 1 := by simpa [zchk] using hc
      subst hc1
      obtain ⟨N, g1 | g1, g2, g3⟩ := hgd
      · exact zo_bald B g1 g2 g3 S hd k
      · exact zo_zald B g1 g2 g3 S hd k
    · cases hs
  -- caload
  · split at hs
    · cases hs
      have hc1 : len = 1 := by simpa [zchk] using hc
      subst hc1
      obtain ⟨N, g1, g2, g3⟩ := hgd
      exact zo_cald B g1 g2 g3 S hd k
    · cases hs
  -- laload
  · split at hs
    · cases hs
      have hc1 : len = 1 := by simpa [zchk] using hc
      subst hc1
      obtain ⟨N, g1, g2, g3⟩ := hgd
      exact zo_lald B g1 g2 g3 S hd k
    · cases hs
  -- aaload
  · split at hs
    · split at hs
      · cases hs
        have hc1 : len = 1 := by simpa [zchk] using hc
        subst hc1
        obtain ⟨N, g1, g2, g3⟩ := hgd
        obtain ⟨u, hu, q3⟩ := hL
        cases q3
        exact zo_aald B hu g1 g2 g3 S hd k
      · cases hs
    · cases hs
  -- iastore
  · split at hs
    · cases hs
      have hc1 : len = 1 := by simpa [zchk] using hc
      subst hc1
      obtain ⟨N, g0, g1, g2, g3⟩ := hgd
      exact zo_iast B g0 g1 g2 g3 S hd k
    · cases hs
  -- bastore
  · split at hs
    · split at hs
      · cases hs
        have hc1 : len = 1 := by simpa [zchk] using hc
        subst hc1
        obtain ⟨N, g0, g1, g2, g3⟩ := hgd
        exact zo_bast B g0 g1 g2 g3 S hd k
      · cases hs
    · split at hs
      · cases hs
        have hc1 : len = 1 := by simpa [zchk] using hc
        subst hc1
        obtain ⟨N, g0, g1, ⟨g2, g3⟩, g4⟩ := hgd
        exact zo_zast B g0 g1 g2 g3 g4 S hd k
      · cases hs
    · cases hs
  -- castore
  · split at hs
    · cases hs
      have hc1 : len = 1 := by simpa [zchk] using hc
      subst hc1
      obtain ⟨N, g0, g1, g2, g3⟩ := hgd
      exact zo_cast B g0 g1 g2 g3 S hd k
    · cases hs
  -- lastore
  · split at hs
    · cases hs
      have hc1 : len = 1 := by simpa [zchk] using hc
      subst hc1
      obtain ⟨N, g0, g1, g2, g3⟩ := hgd
      exact zo_last B g0 g1 g2 g3 S hd k
    · cases hs
  -- aastore
  · split at hs
    · split at hs
      · cases hs
        have hc1 : len = 1 := by simpa [zchk] using hc
        subst hc1
        obtain ⟨N, g0, g1, ⟨g2, g3⟩, g4, g5⟩ := hgd
        exact zo_aast B hL g0 g1 g2 g3 g4 g5 S hd k
      · cases hs
    · cases hs
  -- checkcast
  · split at hs
    · split at hs
      · cases hs; exact zo_ccast B hL hgd S hd k
      · cases hs; exact zo_castA B hL hgd.1 hgd.2 S hd k
      · cases hs
    · cases hs
  -- instanceof
  · split at hs
    · split at hs
      · cases hs; exact zo_inst B hL hgd S hd k
      · cases hs
    · cases hs
  -- invokestatic
  · split at hs
    · split at hs
      · split at hs
        · next hcat =>
          cases hs
          obtain ⟨g1, g2, k9, n1, n2, g3, g4, g5, g6, g7, g8, g9, g10, g11⟩ := hgd
          rcases hL with ⟨rfl, l1, l2, l3, l4, -⟩ | ⟨e9, -⟩ | ⟨-, -, -, -, -, e9⟩
          · exact zo_copy B l1 l2 l3 l4 (Nat.le_of_ble_eq_true hcat) g1 g2 g3 g4 g5 g6 g7 g8 g9 g10 g11 S hd k
          · exact absurd rfl e9
          · cases e9
        · cases hs
      · cases hs
    · split at hs
      · split at hs
        · next hcat =>
          cases hs
          rcases hL with ⟨-, -, -, -, -, e9⟩ | ⟨-, -, n9, q9, e9, -⟩ | ⟨rfl, l1, l2, l3, l4, -⟩
          · cases e9
          · cases e9
          · exact zo_max B l1 l2 l3 l4 (Nat.le_of_ble_eq_true hcat) S hd (by omega) (by omega) k
        · cases hs
      · cases hs
    · exact absurd hs (zcall_no _ _ _ _)
  -- invokevirtual
  · exact absurd hs (zcall_no _ _ _ _)
  -- invokespecial
  · split at hs
    · split at hs
      · split at hs
        · next hcat =>
          cases hs
          rcases hL with ⟨rfl, l1, l2, l3, -⟩ | ⟨e9, -⟩
          · exact zo_objInit B l1 l2 l3 (Nat.le_of_ble_eq_true hcat) (S.adr B hgd) S hd k
          · exact absurd rfl e9
        · cases hs
      · cases hs
    · exact absurd hs (zcallI_no _ _ _ _)
  -- ireturn
  · split at hs
    · split at hs <;> cases hs
    · cases hs
  -- lreturn
  · split at hs <;> cases hs
  -- areturn
  · split at hs <;> cases hs
  -- return_
  · split at hs <;> cases hs
  -- athrow
  · split at hs <;> cases hs
  · cases hs
end ZONE
