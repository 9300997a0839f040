/-! SOUNDNESS 12: every run of the abstract machine is a run of the machine -/
section ZMAIN
variable {b0 : Nat} {D : va_G} {dA : Nat → ClassId} {L : Nat} {xs : Nat → Int32} {l : Launch}
theorem zInv.rel {α : zAd} {h : zH} {H : Heap} (R : zRel b0 D dA α h H) : zInv α h := R.1
/-- a thrown cell, in the heap -/
theorem zthrown {α : zAd} {h : zH} {H : Heap} {s : State} (R : zRel b0 D dA α h H) (K : va_K D zcl (ztys dA) s) {a : Nat} {E : String} (ho : zown h a) (hE : zCN h a = some E) {q : Nat} (hq : α a = some q) : ∃ ce : Cell, H[q]? = some ce ∧ ce.vm = .none ∧ s.vm.findClass E = some ce.cls := by
  unfold zCN at hE
  cases hz : zcl[(h.2.1 a).1]? with
  | none => rw [hz] at hE; cases hE
  | some q9 =>
    rw [hz] at hE
    cases hE
    have hlt : (h.2.1 a).1 < 100 := by
      have := (List.getElem?_eq_some_iff.mp hz).1
      have h2 : zcl.length = 25 := rfl
      omega
    obtain ⟨q1, hq1, -, hat⟩ := R.2.1 a ho
    cases hq.symm.trans hq1
    rw [zen_obj (ci := (h.2.1 a).1) (N := (h.2.1 a).2) rfl hlt] at hat
    obtain ⟨r, hr, cell, c1, c2, c3, -⟩ := hat
    dsimp only at hr c1 c2
    cases hr.symm.trans hz
    refine ⟨cell, c1, c3, ?_⟩
    rw [c2]
    exact (K.1 _ _ hz).2.1
theorem zQv {α : zAd} {h h1 : zH} {v1 : Option zV} {a : Array Value} {st t : State} {v : Option Value} (hQ : zQc b0 D dA L xs α h (.inl v1) h1 a st (.returned v) t) : ∃ α', zFin b0 D dA L xs α h h1 st t α' ∧ v = v1.map (zcv α') ∧ ∀ w, v1 = some w → zVok h1.1 w := by
  obtain ⟨α', h1, h2, h3⟩ := hQ
  cases h2
  exact ⟨α', h1, rfl, h3⟩
/-- after a call: it goes on, or it is thrown -/
theorem zafter {n : Nat} (IH : zP b0 D dA L xs l n) {c M pc : Nat} (hH : zHnd M) {labs : List (Option zV)} {st as rest : List zV} {h h1 : zH} {r1 r : zRes} {h' : zH} (hst : st = as.reverse ++ rest)
    (q1 : match r1 with
      | .inl none => zF n c M (pc + 3) labs rest h1 (fun r2 h2 => r2 = r ∧ h2 = h')
      | .inl (some v) => zF n c M (pc + 3) labs (v :: rest) h1 (fun r2 h2 => r2 = r ∧ h2 = h')
      | .inr a => match zhand M pc with
        | some (ci, t) => (h1.2.1 a).1 = ci ∧ zF n c M t labs [.inr (.inr a)] h1 (fun r2 h2 => r2 = r ∧ h2 = h')
        | none => (.inr a : zRes) = r ∧ h1 = h')
    {p : Program} {e : Env} {R : Room} {s : State} {m : MethodId} {args : Array Value} {below : List Frame} {meth : Method} {c9 : Code} {α0 : zAd} {h0 : zH} {α : zAd} {H : Heap} {locs : List Loc} {cells slots : Nat} {ls : Array Slot} {mc ms : Nat}
    (B0 : zFr p l R b0 D dA α0 L xs s m args meth c9 M) (S : zSt b0 D dA L xs M s α h H locs ls labs st) (hle : h0.1 ≤ h.1) (h64 : 64 ≤ h0.1) (hα : ∀ a, a < h0.1 → α a = α0 a) (htb : zTb M c9 r) (hfr : zlv M + c + 16 ≤ R.frames) (hlo : 48 * (zlv M + c) + 1200 ≤ R.locals)
    (hmc : mc ≤ R.cells) (hms : ms ≤ R.slots) (hc : cells + (h'.1 - h.1) ≤ mc) (hs : slots + 64 * (h'.1 - h.1) ≤ ms) (hl1 : h.1 ≤ h1.1) (hl2 : h1.1 ≤ h'.1)
    (hrun : zRunOf p l e R s m args below meth c9 b0 D dA L xs α h r1 h1 H locs cells slots pc ls st rest) :
    W p l e R s m args below meth c9 H locs cells slots (vx_MQ below (zQc b0 D dA L xs α0 h0 r h') (zXc b0 D dA L xs α0 h0 r h') args s mc ms (zA b0)) (F0 m pc ls (st.map (zcv α))) := by
  have hvr : ∀ v ∈ rest, zVok h.1 v := fun v hv => S.2.2.2.2.1 v (by rw [hst]; exact List.mem_append_right _ hv)
  intro T hT X
  rcases hrun T hT X with ⟨v, st0, t, T', L', e0, X', hL, e1, e2, hQ, goes⟩ | ⟨q, st0, t, T', L', E, ce, e0, X', hL, e1, e2, hX, hce, hcv, hcl, steps⟩
  · match r1, q1, hQ with
    | .inr a, _, hQ => exact hQ.elim
    | .inl v1, q1, hQ =>
      obtain ⟨α', ⟨hF, hag, hrel, hcst⟩, rfl, hvok⟩ := zQv hQ
      obtain ⟨k1, k2, k3⟩ := vx_keep e0 e1 S.2.1 (fun _ _ h => h) (fun _ h => h) hL hF
      have hag0 : ∀ a, a < h0.1 → α' a = α0 a := fun a ha => (hag a (Nat.lt_of_lt_of_le ha hle)).trans (hα a ha)
      have hrel' : zRel b0 D dA α' h1 T'.heap := by rw [e1]; exact hrel
      have S' : ∀ st' : List zV, (∀ w ∈ st', zVok h1.1 w) → zSt b0 D dA L xs M s α' h1 T'.heap (locs ++ L') ls labs st' := fun st' hst' =>
        ⟨hrel', k3, hcst, zlc_agree S.2.2.2.1 hag S.2.2.2.2.2, hst', fun k w hw => zvok_mono hl1 (S.2.2.2.2.2 k w hw)⟩
      have hrest : ∀ w ∈ rest, zVok h1.1 w := fun w hw => zvok_mono hl1 (hvr w hw)
      have emap : rest.map (zcv α') = rest.map (zcv α) := zmap_agree hag hvr
      cases v1 with
      | none =>
        have hf : zF n c M (pc + 3) labs rest h1 (fun r2 h2 => r2 = r ∧ h2 = h') := q1
        obtain ⟨t2, a1, a2⟩ := IH c M (pc + 3) labs rest h1 r h' hf p e R s m args below meth c9 α0 h0 α' T'.heap (locs ++ L') (cells + (h1.1 - h.1)) (slots + 64 * (h1.1 - h.1)) ls mc ms B0 (S' rest hrest) (Nat.le_trans hle hl1) h64 hag0 htb hfr hlo hmc hms (by omega) (by omega) T' rfl X'
        rw [emap] at a1
        exact ⟨t2, goes _ a1, a2⟩
      | some v1 =>
        have hf : zF n c M (pc + 3) labs (v1 :: rest) h1 (fun r2 h2 => r2 = r ∧ h2 = h') := q1
        obtain ⟨t2, a1, a2⟩ := IH c M (pc + 3) labs (v1 :: rest) h1 r h' hf p e R s m args below meth c9 α0 h0 α' T'.heap (locs ++ L') (cells + (h1.1 - h.1)) (slots + 64 * (h1.1 - h.1)) ls mc ms B0 (S' (v1 :: rest) (zok_cons (hvok v1 rfl) hrest)) (Nat.le_trans hle hl1) h64 hag0 htb hfr hlo hmc hms (by omega) (by omega) T' rfl X'
        rw [List.map_cons, emap] at a1
        exact ⟨t2, goes _ a1, a2⟩
  · match r1, q1, hX with
    | .inl v1, _, hX => exact hX.elim
    | .inr a, q1, hX =>
      obtain ⟨α', ⟨hF, hag, hrel, hcst⟩, hq, hown, hE⟩ := hX
      obtain ⟨k1, k2, k3⟩ := vx_keep e0 e1 S.2.1 (fun _ _ h => h) (fun _ h => h) hL hF
      have hag0 : ∀ a, a < h0.1 → α' a = α0 a := fun a ha => (hag a (Nat.lt_of_lt_of_le ha hle)).trans (hα a ha)
      have hrel' : zRel b0 D dA α' h1 T'.heap := by rw [e1]; exact hrel
      rw [← e1] at hce
      have kk : vx_W p l e R s m args below meth c9 T'.heap (locs ++ L') (cells + (h1.1 - h.1)) (slots + 64 * (h1.1 - h.1)) (vx_MQ below (zQc b0 D dA L xs α0 h0 r h') (zXc b0 D dA L xs α0 h0 r h') args s mc ms (zA b0)) (F0 m pc ls (rest.map (zcv α))) q := by
        have q1' : match zhand M pc with
          | some (ci, t) => (h1.2.1 a).1 = ci ∧ zF n c M t labs [.inr (.inr a)] h1 (fun r2 h2 => r2 = r ∧ h2 = h')
          | none => (.inr a : zRes) = r ∧ h1 = h' := q1
        unfold zHnd at hH
        cases hz : zhd M with
        | none =>
          rw [hz] at hH
          rw [show zhand M pc = none from hH pc] at q1'
          obtain ⟨rfl, rfl⟩ := q1'
          have ht : c9.exceptionTable.toList = [] := by
            have := htb (Or.inr ⟨a, rfl⟩)
            rw [hz] at this
            exact this
          exact vx_out (fun x hx => by rw [ht] at hx; cases hx) B0.2.2.2.1 hce hcv hcl (fun t9 h9 _ => ⟨α', ⟨va_S.F k3 h9, hag0, by rw [h9]; exact hrel', hcst⟩, hq, hown, hE⟩) k3.2.2 (by omega) (by omega)
        | some hh =>
          rw [hz] at hH
          obtain ⟨x, ci, q9, ht, hc9, hh9, hc0, hlk, hca⟩ := hH
          have ht9 : c9.exceptionTable.toList = [x] := by
            have := htb (Or.inl (by rw [hz]; exact fun h => by cases h))
            rw [hz] at this
            exact this.trans ht
          by_cases hcov : covers x pc = true
          · rw [hh9, if_pos hcov] at q1'
            obtain ⟨g1, hf⟩ := q1'
            have hE9 : E = q9.1 := by
              unfold zCN at hE
              rw [g1, hc9] at hE
              exact (Option.some.inj hE).symm
            have S' : zSt b0 D dA L xs M s α' h1 T'.heap (locs ++ L') ls labs [.inr (.inr a)] :=
              ⟨hrel', k3, hcst, zlc_agree S.2.2.2.1 hag S.2.2.2.2.2, fun w hw => by cases List.mem_singleton.mp hw; exact hrel.1.lt hown.2, fun k w hw => zvok_mono hl1 (S.2.2.2.2.2 k w hw)⟩
            have kW := IH c M x.handlerPc labs [.inr (.inr a)] h1 r h' hf p e R s m args below meth c9 α0 h0 α' T'.heap (locs ++ L') (cells + (h1.1 - h.1)) (slots + 64 * (h1.1 - h.1)) ls mc ms B0 S' (Nat.le_trans hle hl1) h64 hag0 htb hfr hlo hmc hms (by omega) (by omega)
            rw [show [(.inr (.inr a) : zV)].map (zcv α') = [.ref q] by show [va_rf (α' a)] = _; rw [hq]; rfl] at kW
            exact vx_catch (own := zow M) (name := q9.1) (E := E) B0.2.2.2.2.2.1 [] x [] ht9 (fun z hz9 => by cases hz9) hcov hc0 (B0.2.2.2.2.2.2.1 _ hlk) (by rw [hE9]; exact va_Nw.use rfl (B0.2.2.2.2.2.2.2.2.2.1.2.1 _ hca)) hce hcv hcl kW
          · rw [hh9, if_neg hcov] at q1'
            obtain ⟨rfl, rfl⟩ := q1'
            exact vx_out (fun y hy => by rw [ht9] at hy; cases List.mem_singleton.mp hy; exact Bool.eq_false_iff.mpr hcov) B0.2.2.2.1 hce hcv hcl (fun t9 h9 _ => ⟨α', ⟨va_S.F k3 h9, hag0, by rw [h9]; exact hrel', hcst⟩, hq, hown, hE⟩) k3.2.2 (by omega) (by omega)
      obtain ⟨t2, a1, a2⟩ := kk T' rfl X'
      exact ⟨t2, steps.trans a1, a2⟩
theorem zi2b_eq {x : Int} (h : zi2b x = x) : (Int32.ofInt x).toInt8.toInt32 = Int32.ofInt x := by
  have h2 : (Int32.ofInt x).toInt8.toInt32.toInt = x := h
  exact (Int32.ofInt_toInt _).symm.trans (by rw [h2])
theorem zi2c_eq {x : Int} (h : zi2c x = x) : ((Int32.ofInt x).toUInt32 % 65536).toInt32 = Int32.ofInt x := by
  have h2 : ((Int32.ofInt x).toUInt32 % 65536).toInt32.toInt = x := h
  exact (Int32.ofInt_toInt _).symm.trans (by rw [h2])
end ZMAIN
