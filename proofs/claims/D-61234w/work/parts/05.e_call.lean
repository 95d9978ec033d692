set_option maxRecDepth 100000
theorem steps_under {tb : Tables} {e : Env} {mid below : List Frame} {a b : State} (h : Steps tb e (mid ++ below) a b) : Steps tb e below a b := by
  obtain ⟨n, hn, w⟩ := h
  exact ⟨n, hn, fun k hk => (w k hk).weaken⟩
/-- what a method's word says at a state -/
theorem md_at {M : Md} (hM : mdOk M) {U : State} {args : Array Value} {mk : MethodId} (hW : (mdW M).before args U = true) (hn : U.methodNamed? (mdY M) = some mk) :
    ∃ meth c, U.vm.method? mk = some meth ∧ meth.code = some c ∧ c.code = mdC M ∧ c.maxLocals = mdL M ∧ meth.sig.returnType = mdR M ∧ meth.locks = false ∧ hdl M c ∧ parseMethodDescriptor (mdY M).desc = some meth.sig := by
  unfold mdW at hW
  cases hh : mdH M with
  | none =>
    rw [hh] at hW
    obtain ⟨meth, c, h1, h2, h3, h4, h5, h6, h7, h8⟩ := Cond.code_spec hn hW
    refine ⟨meth, c, h1, h2, h3, h4, h5, h6, ?_, h8⟩
    unfold hdl
    rw [hh]
    have : c.exceptionTable.toList = [] := by
      have h9 : c.exceptionTable = #[] := by simpa using h7
      rw [h9]
    rw [this]; rfl
  | some l =>
    rw [hh] at hW
    obtain ⟨m9, meth, c, hn9, h1, h2, h3, h4, h7, h5, h6, h8⟩ := Cond.codeWith_spec hW
    cases hn.symm.trans hn9
    refine ⟨meth, c, h1, h2, h3, h4, h5, h6, ?_, h8⟩
    unfold hdl
    rw [hh, h7]; rfl
theorem md_named {M : Md} {U : State} {args : Array Value} (hW : (mdW M).before args U = true) : ∃ mk, U.methodNamed? (mdY M) = some mk := by
  unfold mdW at hW
  cases hh : mdH M with
  | none =>
    rw [hh] at hW
    exact Cond.code_named hW
  | some l =>
    rw [hh] at hW
    obtain ⟨m9, meth, c, hn9, -⟩ := Cond.codeWith_spec hW
    exact ⟨m9, hn9⟩
/-- THE CALL, behind the invoking instruction's own step -/
theorem call_core {G : Gm} {M N : Md} {p : Program} {e : Env} {R : Room} {s : State} {m : MethodId} {args : Array Value} {below : List Frame} {meth : Method} {c : Code} {T : State} {locs : List Loc} {cells slots : Nat} {w : Wd} {Q : Rs → Wd → Prop}
    (hG : Gok G) (hC : Cx G M p s m meth c) (X : Stand p (Gl G) e R s m args below meth c T locs cells slots) (hR : Rm R M) (hP : Rp G w T.heap) (hF : Fit R cells slots w.2.2) (hL : ∀ q ∈ locs, gN G ≤ q.base)
    (hN : mdOk N) (hlev : mdV N < mdV M) {as rest : List Value} (hE : Ev G N as w Q) (hlen : (lg_sl as).length ≤ mdL N) {mk : MethodId} (hmk : T.methodNamed? (mdY N) = some mk) {pc : Nat} {ls : Array Slot} (hls : ls.size = mdL M) (hst : (rest.map fun v => v.category).sum ≤ 20) {ig : Instr} {len : Nat} (hdg : decode c.code pc = .ok (ig, len)) :
    ∃ (r : Rs) (w' : Wd) (T' : State) (L : List Loc) (k n : Nat), Q r w' ∧ Stand p (Gl G) e R s m args below meth c T' (locs ++ L) (cells + k) (slots + n) ∧ Rp G w' T'.heap ∧ (∀ q ∈ locs ++ L, gN G ≤ q.base) ∧ Fit R (cells + k) (slots + n) w'.2.2 ∧
      ∀ acts, Steps p.tables e below (doInvoke e (T.setTop (F0 m pc ls rest)) acts mk as.toArray).1 (match r with
        | .inl v => T'.setTop (F0 m (pc + len) ls (v.toList ++ rest))
        | .inr x => (T'.setTop (F0 m pc ls rest)).pushFrame (.throwing x)) := by
  have hW := hC.2.2.2.2.2.2.2.1
  have hWT : (Gs G).WarmedH T.vm := State.WarmedH.trans hW X.warmed
  obtain ⟨methk, ck, h1, h2, h3, h4, h5, h6, h7, h8⟩ := md_at hN (hG.word hWT hN.2.1 as.toArray) hmk
  have hpk : T.plainMethod mk := State.plainMethod.of_named hN.1 hmk h1
  have hsize : (F0 m pc ls rest).locals.size = c.maxLocals := hls.trans hC.2.2.2.1.symm
  obtain ⟨hR1, hR2⟩ := hR
  obtain ⟨hF1, hF2⟩ := hF
  have hmL := hN.2.2.2.1
  obtain ⟨Y, hin⟩ := X.into (g := F0 m pc ls rest) rfl hsize hdg as.toArray (R' := { frames := mdV N, cells := (w.2.2 + 11) / 12, slots := w.2.2, locals := 64 * mdV N }) h1 h2 h6 hpk
    (by show mdV N + 1 ≤ R.frames; omega) (by show 2 * 0 + (rest.map fun v => v.category).sum + (ck.maxLocals + 11) + 64 * mdV N ≤ R.locals; rw [h4]; omega)
    (by show cells + (w.2.2 + 11) / 12 ≤ R.cells; omega) (by show slots + w.2.2 ≤ R.slots; omega)
  generalize hU : (T.setTop (F0 m pc ls rest)).pushFrame (.java (entryFrame mk as.toArray ck.maxLocals)) = U at Y hin
  have hUh : U.heap = T.heap := by rw [← hU]; rfl
  have hcN : Cx G N p (T.calling (F0 m pc ls rest) mk as.toArray) mk methk ck := by
    refine ⟨hC.1, h3, h5, h4, h6, findClass_of_methodNamed hmk, (name_of_methodNamed hmk h1).1, hWT, h7, hP.2.2.2⟩
  have hent := lv_entry as (n := mdL N) hlen
  obtain ⟨t, hs, r, w', hq, hrun, hend, hP', hWt, L, k, n, hsame, hLL, hFt⟩ := hE hG hN.2.2.2.2 p e (T.calling (F0 m pc ls rest) mk as.toArray) mk as.toArray (.java (F0 m pc ls rest) :: below) methk ck _ T.heap [] 0 0 _ hcN ⟨Nat.le_refl _, Nat.le_refl _⟩ hP
    ⟨by show 12 * 0 + w.2.2 ≤ 12 * ((w.2.2 + 11) / 12); omega, by show 0 + w.2.2 ≤ w.2.2; omega⟩ (fun q h => by cases h) hent U hUh Y
  have hFt1 : 12 * k + w'.2.2 ≤ 12 * ((w.2.2 + 11) / 12) := hFt.1
  have hFt2 : n + w'.2.2 ≤ w.2.2 := hFt.2
  have hL' : ∀ q ∈ locs ++ L, gN G ≤ q.base := fun q hq => by
    rcases List.mem_append.mp hq with h | h
    · exact hL q h
    · exact hLL q h
  have hst0 : ∀ acts, Steps p.tables e below (doInvoke e (T.setTop (F0 m pc ls rest)) acts mk as.toArray).1 t := by
    intro acts
    rw [hin acts]
    refine steps_under (mid := [.java (F0 m pc ls rest)]) ?_
    rw [lg_entry_eq, h4]
    exact hs
  cases r with
  | inl v =>
    obtain ⟨T', X', hW', hsm, ht⟩ := X.outOf (g := F0 m pc ls rest) rfl hdg hend hWt hsame
    have hTh : T'.heap = t.heap := by rw [ht]; rfl
    exact ⟨.inl v, w', T', L, k, n, hq, X', by rw [hTh]; exact hP', hL', ⟨by omega, by omega⟩, fun acts => by
      have h9 := hst0 acts
      rw [ht] at h9
      exact h9⟩
  | inr x =>
    obtain ⟨T', X', hW', hsm, ht⟩ := X.outOfThrown (g := F0 m pc ls rest) rfl hend hWt hsame
    have hTh : T'.heap = t.heap := by rw [ht]; rfl
    exact ⟨.inr x, w', T', L, k, n, hq, X', by rw [hTh]; exact hP', hL', ⟨by omega, by omega⟩, fun acts => by
      have h9 := hst0 acts
      rw [ht] at h9
      exact h9⟩
