set_option maxRecDepth 100000
/-- the object at x is being thrown, in the frame of M at pc -/
def Th (G : Gm) (M : Md) (pc : Nat) (lv : List (Nat × Value)) (st : List Value) (x : Nat) (w : Wd) (Q : Rs → Wd → Prop) : Prop :=
  Gok G → mdDc M → ∀ (p : Program) (e : Env) (s : State) (m : MethodId) (args : Array Value) (below : List Frame) (meth : Method) (c : Code) (R : Room) (H : Heap) (locs : List Loc) (cells slots : Nat) (ls : Array Slot),
    Cx G M p s m meth c → Rm R M → Rp G w H → Fit R cells slots w.2.2 → (∀ q ∈ locs, gN G ≤ q.base) → lv_has ls (mdL M) lv →
    ∀ T : State, T.heap = H → Stand p (Gl G) e R s m args below meth c T locs cells slots → ∃ t, Steps p.tables e below ((T.setTop (F0 m pc ls st)).pushFrame (.throwing x)) t ∧ EndQ G below s R Q t
/-- behind a call -/
def Af (G : Gm) (M : Md) (pc pn : Nat) (lv : List (Nat × Value)) (st : List Value) (r : Rs) (w : Wd) (Q : Rs → Wd → Prop) : Prop := match r with
  | .inl v => Rn G M pn lv (v.toList ++ st) w Q
  | .inr x => Th G M pc lv st x w Q
def hOut (M : Md) (pc : Nat) : Bool := ((mdH M).getD []).all (fun h => !(h.1 ≤ pc && pc < h.2.1))
/-- no handler of M covers pc: M ends -/
theorem th_out {G : Gm} {M : Md} {pc : Nat} {lv : List (Nat × Value)} {st : List Value} {x : Nat} {w : Wd} {Q : Rs → Wd → Prop} (ho : hOut M pc = true) (hq : Q (.inr x) w) : Th G M pc lv st x w Q := by
  intro hG hM p e s m args below meth c R H locs cells slots ls hC hR hP hF hL hl T hT X
  subst hT
  have hh := hC.2.2.2.2.2.2.2.2.1
  unfold hdl at hh
  obtain ⟨h1, h2, h3, h4, h5⟩ := X.leaveThrown x (g := F0 m pc ls st) rfl rfl rfl (fun y hy => by
    have h6 := List.all_eq_true.mp ho (y.startPc, y.endPc, y.handlerPc, y.catchType) (by rw [← hh]; exact List.mem_map.mpr ⟨y, hy, rfl⟩)
    unfold covers
    show (decide (y.startPc ≤ pc) && decide (pc < y.endPc)) = false
    simp at h6 ⊢
    omega) (hlocks := hC.2.2.2.2.1)
  exact ⟨_, h1, .inr x, w, hq, h2, h3, hP, h4, locs, cells, slots, h5, hL, hF⟩
/-- a static call's links -/
def LkS (own : String) (idx : Nat) (N : Md) (np : Nat) : Prop := mdOk N ∧ Cond.methodLink own idx (mdY N) ∈ lw_all ∧ Cond.static (mdY N) ∈ lw_all ∧ ((mdY N).cls ≠ "java/lang/invoke/MethodHandle" ∧ (mdY N).cls ≠ "java/lang/invoke/VarHandle") ∧ (parseMethodDescriptor (mdY N).desc).map (fun d => d.parameters.length) = some np
/-- a call on an object of the class C: the method that is named is the one that is selected -/
def LkV (own : String) (idx : Nat) (C : String) (N : Md) (np : Nat) : Prop := mdOk N ∧ Cond.methodLink own idx (mdY N) ∈ lw_all ∧ Cond.instanceMethod (mdY N) ∈ lw_all ∧ Cond.selects C (mdY N) (mdY N) ∈ lw_all ∧ ((mdY N).cls ≠ "java/lang/invoke/MethodHandle" ∧ (mdY N).cls ≠ "java/lang/invoke/VarHandle") ∧ (parseMethodDescriptor (mdY N).desc).map (fun d => d.parameters.length) = some np
/-- a constructor's call -/
def LkI (own : String) (idx : Nat) (N : Md) (np : Nat) : Prop := mdOk N ∧ Cond.methodLink own idx (mdY N) ∈ lw_all ∧ Cond.instanceMethod (mdY N) ∈ lw_all ∧ (mdY N).name = "<init>" ∧ mdH N = none ∧ mdR N = none ∧ ((mdY N).cls ≠ "java/lang/invoke/MethodHandle" ∧ (mdY N).cls ≠ "java/lang/invoke/VarHandle") ∧ (parseMethodDescriptor (mdY N).desc).map (fun d => d.parameters.length) = some np
theorem np_of {d : String} {np : Nat} (h : (parseMethodDescriptor d).map (fun d => d.parameters.length) = some np) : ∀ sig, parseMethodDescriptor d = some sig → np = sig.parameters.length := by
  intro sig hs
  rw [hs] at h
  exact (Option.some.inj h).symm
/-- what a call asks beside its links -/
theorem call_end {G : Gm} {M N : Md} {p : Program} {e : Env} {R : Room} {s : State} {m : MethodId} {args : Array Value} {below : List Frame} {meth : Method} {c : Code} {T : State} {locs : List Loc} {cells slots : Nat} {w : Wd} {Q Q' : Rs → Wd → Prop}
    (hG : Gok G) (hM : mdDc M) (hC : Cx G M p s m meth c) (X : Stand p (Gl G) e R s m args below meth c T locs cells slots) (hR : Rm R M) (hP : Rp G w T.heap) (hF : Fit R cells slots w.2.2) (hL : ∀ q ∈ locs, gN G ≤ q.base)
    (hN : mdOk N) (hlev : mdV N < mdV M) {as rest : List Value} (hE : Ev G N as w Q') (hlen : (lg_sl as).length ≤ mdL N) {mk : MethodId} (hmk : T.methodNamed? (mdY N) = some mk) {pc pn : Nat} {ls : Array Slot} {lv : List (Nat × Value)} (hl : lv_has ls (mdL M) lv) (hst : (rest.map fun v => v.category).sum ≤ 20) {ig : Instr} {len : Nat} (hdg : decode c.code pc = .ok (ig, len)) (hn : pc + len = pn)
    (kk : ∀ r w', Q' r w' → Af G M pc pn lv rest r w' Q) : ∃ t, (∀ acts, Steps p.tables e below (doInvoke e (T.setTop (F0 m pc ls rest)) acts mk as.toArray).1 t) ∧ EndQ G below s R Q t := by
  obtain ⟨r, w', T', L, k, n, hq, X', hP', hL', hF', hs⟩ := call_core hG hC X hR hP hF hL hN hlev hE hlen hmk (pc := pc) (ls := ls) hl.1 hst hdg
  have hk := kk r w' hq
  cases r with
  | inl v =>
    subst hn
    obtain ⟨t, a, b⟩ := hk hG hM p e s m args below meth c R T'.heap _ _ _ ls hC hR hP' hF' hL' hl T' rfl X'
    exact ⟨t, fun acts => (hs acts).trans a, b⟩
  | inr x =>
    obtain ⟨t, a, b⟩ := hk hG hM p e s m args below meth c R T'.heap _ _ _ ls hC hR hP' hF' hL' hl T' rfl X'
    exact ⟨t, fun acts => (hs acts).trans a, b⟩
section R7
variable {G : Gm} {M N : Md} {pc : Nat} {lv : List (Nat × Value)} {st : List Value} {w : Wd} {Q Q' : Rs → Wd → Prop}
theorem r_callS {idx np : Nat} (hk : LkS (mdY M).cls idx N np) (k pn : Nat) (hd : (mdT M)[k]? = some (pc, .invokestatic idx, 3)) (hn : pc + 3 = pn) (hlev : mdV N < mdV M) (as : List Value) {stk : List Value} (hs : as.reverse ++ st = stk) (hnp : as.length = np) (hsl : (lg_sl as).length ≤ mdL N) (hst : (st.map fun v => v.category).sum ≤ 20) (hE : Ev G N as w Q') (kk : ∀ r w', Q' r w' → Af G M pc pn lv st r w' Q) : Rn G M pc lv stk w Q := by
  intro hG hM p e s m args below meth c R H locs cells slots ls hC hR hP hF hL hl T hT X
  subst hs
  subst hT
  obtain ⟨hN, k1, k2, k3, k4⟩ := hk
  have hW := hC.2.2.2.2.2.2.2.1
  obtain ⟨mk, hnm⟩ := md_named (hG.word hW hN.2.1 args)
  obtain ⟨methk, ck, h1, h2, h3, h4, h5, h6, h7, h8⟩ := md_at hN (hG.word hW hN.2.1 args) hnm
  have hstatic : methk.isStatic = true := Cond.static_spec hnm h1 (hG.word hW k2 args)
  obtain ⟨kP, hkP, -⟩ := className_of_methodNamed hnm
  have hinitP : kP.init = .initialized := Cond.initialized_spec (findClass_of_methodNamed hnm) hkP (hG.word hW hN.2.2.1 args)
  have hdg : decode c.code pc = .ok (.invokestatic idx, 3) := by rw [hC.2.1]; exact mdD hM hd
  obtain ⟨vm₁, X₁, hstep₁⟩ := X.invokestatic hC.1 hC.2.2.2.2.2.1 (hG.word hW k1 args) hnm h1 hstatic hkP hinitP k3 (g := F0 m pc ls (as.reverse ++ st)) rfl (argsL := as) (rest := st) (hnp.trans (np_of k4 _ h8)) rfl hdg
  obtain ⟨t, ht, hE⟩ := call_end hG hM hC X₁ hR hP hF hL hN hlev hE hsl (X₁.named hnm) hl hst hdg hn kk
  exact ⟨t, hstep₁ t ht, hE⟩
theorem r_callV {idx np ci : Nat} {C : String} {TT : u_T} {NN : Nat} (hk : LkV (mdY M).cls idx C N np) (hc : clT[ci]? = some (C, TT, NN)) {b : Nat} {fs : List Value} (ho : Lk G w b (.inl (ci, fs))) (k pn : Nat) (hd : (mdT M)[k]? = some (pc, .invokevirtual idx, 3)) (hn : pc + 3 = pn) (hlev : mdV N < mdV M) (as : List Value) {stk : List Value} (hs : as.reverse ++ .ref b :: st = stk) (hnp : as.length = np) (hsl : (lg_sl (.ref b :: as)).length ≤ mdL N) (hst : (st.map fun v => v.category).sum ≤ 20) (hE : Ev G N (.ref b :: as) w Q') (kk : ∀ r w', Q' r w' → Af G M pc pn lv st r w' Q) : Rn G M pc lv stk w Q := by
  intro hG hM p e s m args below meth c R H locs cells slots ls hC hR hP hF hL hl T hT X
  subst hs
  subst hT
  obtain ⟨hN, k1, k2, k5, k3, k4⟩ := hk
  have hW := hC.2.2.2.2.2.2.2.1
  obtain ⟨mk, methM, hnm, hmethM, hstM, habM⟩ := Cond.instanceMethod_spec (hG.word hW k2 args)
  obtain ⟨methk, ck, h1, h2, h3, h4, h5, h6, h7, h8⟩ := md_at hN (hG.word hW hN.2.1 args) hnm
  cases hmethM.symm.trans h1
  obtain ⟨r, cell, hr, -, g1, g3, g2, -⟩ := hP.at ho
  have hcls : s.vm.findClass C = some cell.cls := by rw [g2]; exact (hG.K hW hc).2.1
  obtain ⟨c2, r2, m2, q1, q2, q3, q4, kP, hkP, hkPi⟩ := Cond.selects_spec (hG.word hW k5 args)
  cases hcls.symm.trans q1
  cases (State.methodFound?_of_named hnm k3).symm.trans q2
  cases hnm.symm.trans q3
  have hselP : selectMethod e.platform s.vm cell.cls mk = .method mk := by rw [Launch.admits_selectMethod X.admits]; exact q4
  have hdg : decode c.code pc = .ok (.invokevirtual idx, 3) := by rw [hC.2.1]; exact mdD hM hd
  obtain ⟨vm₁, X₁, hstep₁⟩ := X.invokevirtual hC.1 hC.2.2.2.2.2.1 (hG.word hW k1 args) hnm h1 hstM hkP hkPi k3 (a := b) (cell := cell) g1 (fun z h => by have := g3.2.1; rw [h] at this; cases this) hselP h1 habM hkP hkPi (g := F0 m pc ls (as.reverse ++ .ref b :: st)) rfl (argsL := as) (rest := st) (hnp.trans (np_of k4 _ h8)) rfl hdg
  obtain ⟨t, ht, hE⟩ := call_end hG hM hC X₁ hR hP hF hL hN hlev hE hsl (X₁.named hnm) hl hst hdg hn kk
  exact ⟨t, hstep₁ t ht, hE⟩
theorem r_callI {idx np : Nat} (hk : LkI (mdY M).cls idx N np) {b : Nat} (k pn : Nat) (hd : (mdT M)[k]? = some (pc, .invokespecial idx, 3)) (hn : pc + 3 = pn) (hlev : mdV N < mdV M) (as : List Value) {stk : List Value} (hs : as.reverse ++ .ref b :: st = stk) (hnp : as.length = np) (hsl : (lg_sl (.ref b :: as)).length ≤ mdL N) (hst : (st.map fun v => v.category).sum ≤ 20) (hE : Ev G N (.ref b :: as) w Q') (kk : ∀ r w', Q' r w' → Af G M pc pn lv st r w' Q) : Rn G M pc lv stk w Q := by
  intro hG hM p e s m args below meth c R H locs cells slots ls hC hR hP hF hL hl T hT X
  subst hs
  subst hT
  obtain ⟨hN, k1, k2, k5, k6, k7, k3, k4⟩ := hk
  have hW := hC.2.2.2.2.2.2.2.1
  have hcode : (Cond.code (mdY N) (mdC N) (mdL N) none).before args s = true := by
    have h := hG.word hW hN.2.1 args
    unfold mdW at h
    rw [k6] at h
    rw [← k7]
    exact h
  have hpl : e.platform.magicAccessors = ({} : Platform).magicAccessors := by rw [X.admits.platform]
  have hdg : decode c.code pc = .ok (.invokespecial idx, 3) := by rw [hC.2.1]; exact mdD hM hd
  obtain ⟨mk, methM, cM, kP, vm₁, hnamed, hmethM, hcodeM, -, hlocalsM, -, hkP, -, hW₁, hstep₁⟩ := Steps.initColdArgs (e := e) X.here hC.1 X.warmed hpl hC.2.2.2.2.2.1 k5 k3 (hG.word hW k1 args) (hG.word hW k2 args) hcode (f := F0 m pc ls (as.reverse ++ .ref b :: st)) rfl (fun sig h => hnp.trans (np_of k4 sig h)) rfl hdg
  have X₁ := X.noted hW₁
  obtain ⟨t, ht, hE⟩ := call_end hG hM hC X₁ hR hP hF hL hN hlev hE hsl (X₁.named hnamed) hl hst hdg hn kk
  exact ⟨t, hstep₁ t ht, hE⟩
/-- Object's constructor -/
theorem r_objInit {idx b : Nat} (h1 : Cond.methodLink (mdY M).cls idx Lib.objectInit ∈ lw_all) (h2 : Cond.instanceMethod Lib.objectInit ∈ lw_all) (h3 : Cond.code Lib.objectInit ⟨#[0xb1]⟩ 1 none ∈ lw_all) (k pn : Nat) (hd : (mdT M)[k]? = some (pc, .invokespecial idx, 3)) (hn : pc + 3 = pn) (hlev : 1 ≤ mdV M) (hst : (st.map fun v => v.category).sum ≤ 20) (kk : Rn G M pn lv st w Q) : Rn G M pc lv (.ref b :: st) w Q := by
  intro hG hM p e s m args below meth c R H locs cells slots ls hC hR hP hF hL hl
  subst hn
  have hW := hC.2.2.2.2.2.2.2.1
  obtain ⟨hR1, hR2⟩ := id hR
  exact W.objInit hC.1 hC.2.1 hC.2.2.2.2.2.1 (hG.word hW h1 args) (hG.word hW h2 args) (hG.word hW h3 args) rfl (hl.1.trans hC.2.2.2.1.symm) rfl (mdD hM hd) (by omega) (by show 2 * 0 + (st.map fun v => v.category).sum + 12 ≤ R.locals; omega) (kk hG hM p e s m args below meth c R H locs cells slots ls hC hR hP hF hL hl)
end R7
/-! arrays of whole numbers -/
section R8
variable {G : Gm} {M : Md} {pc : Nat} {lv : List (Nat × Value)} {st : List Value} {w : Wd} {Q : Rs → Wd → Prop}
theorem vp_lt {i : Int32} {n : Nat} (h : vp_in i n) : i.toNatClampNeg < n := Nat.not_le.mp fun q => h (Or.inr q)
theorem vp_big {i : Int32} {n z : Nat} (h : vp_in i n) (hz : n ≤ z) : ¬ (i < 0 ∨ z ≤ i.toNatClampNeg) := fun q => q.elim (fun q => h (Or.inl q)) (fun q => h (Or.inr (Nat.le_trans hz q)))
/-- an array's cell behind a store -/
theorem ob_put {a n j : Nat} {ty : FieldType} {f : Nat → Value} {x : Value} {cell : Cell} {H1 : Heap} (g2 : vmOk G a cell) (g3 : (Gs G).isArrayOf cell ty) (g4 : ty.isReference = true ∨ gN G ≤ a → cell.cls = GA G ty) (g5 : n ≤ cell.slots.size ∧ (gN G ≤ a → cell.slots.size = n)) (g6 : cell.slots.size.toInt32 = nI n) (g7 : ∀ j : Nat, j < n → cell.slots[j]? = some (f j)) (e1 : H1[a]? = some (cell.setSlot j x)) : obAt G a (.inr (ty, n, updV f j x)) H1 := by
  have hsz : (cell.setSlot j x).slots.size = cell.slots.size := by simp [Cell.setSlot]
  refine ⟨_, e1, g2, g3, g4, by rw [hsz]; exact g5, by rw [hsz]; exact g6, fun q hq => ?_⟩
  by_cases e : q = j
  · subst e
    rw [Cell.slots_setSlot_self _ (Nat.lt_of_lt_of_le hq g5.1)]
    simp [updV]
  · rw [slot_ne _ _ (Ne.symm e), g7 q hq]
    simp [updV, e]
theorem gt_int : FieldType.int ∈ gTys := by decide
theorem gt_byte : FieldType.byte ∈ gTys := by decide
theorem gt_long : FieldType.long ∈ gTys := by decide
theorem gt_boolean : FieldType.boolean ∈ gTys := by decide
theorem r_iald {a n : Nat} {f : Nat → Value} {i : Int32} {v : Value} (k pn : Nat) (hd : (mdT M)[k]? = some (pc, .iaload, 1)) (hn : pc + 1 = pn) (ho : Lk G w a (.inr (.int, n, f))) (hin : vp_in i n) (hv : f i.toNatClampNeg = v) (kk : Rn G M pn lv (v :: st) w Q) : Rn G M pc lv (.int i :: .ref a :: st) w Q := by
  intro hG hM p e s m args below meth c R H locs cells slots ls hC hR hP hF hL hl
  subst hn
  obtain ⟨cell, g1, g2, g3, g4, g5, g6, g7⟩ := hP.at ho
  exact W.iald hC.1 hC.2.1 g1 (State.isArrayOf_alike hC.2.2.2.2.2.2.2.1.alike g3) g2.1 (vp_big hin g5.1) (by rw [g7 _ (vp_lt hin)]; exact congrArg some hv) rfl rfl (mdD hM hd) (kk hG hM p e s m args below meth c R H locs cells slots ls hC hR hP hF hL hl)
theorem r_bald {a n : Nat} {f : Nat → Value} {i : Int32} {v : Value} (k pn : Nat) (hd : (mdT M)[k]? = some (pc, .baload, 1)) (hn : pc + 1 = pn) (ho : Lk G w a (.inr (.byte, n, f))) (hin : vp_in i n) (hv : f i.toNatClampNeg = v) (kk : Rn G M pn lv (v :: st) w Q) : Rn G M pc lv (.int i :: .ref a :: st) w Q := by
  intro hG hM p e s m args below meth c R H locs cells slots ls hC hR hP hF hL hl
  subst hn
  obtain ⟨cell, g1, g2, g3, g4, g5, g6, g7⟩ := hP.at ho
  exact W.bald hC.1 hC.2.1 g1 (State.isArrayOf_alike hC.2.2.2.2.2.2.2.1.alike g3) g2.1 (vp_big hin g5.1) (by rw [g7 _ (vp_lt hin)]; exact congrArg some hv) rfl rfl (mdD hM hd) (kk hG hM p e s m args below meth c R H locs cells slots ls hC hR hP hF hL hl)
theorem r_zald {a n : Nat} {f : Nat → Value} {i : Int32} {v : Value} (k pn : Nat) (hd : (mdT M)[k]? = some (pc, .baload, 1)) (hn : pc + 1 = pn) (ho : Lk G w a (.inr (.boolean, n, f))) (hin : vp_in i n) (hv : f i.toNatClampNeg = v) (kk : Rn G M pn lv (v :: st) w Q) : Rn G M pc lv (.int i :: .ref a :: st) w Q := by
  intro hG hM p e s m args below meth c R H locs cells slots ls hC hR hP hF hL hl
  subst hn
  obtain ⟨cell, g1, g2, g3, g4, g5, g6, g7⟩ := hP.at ho
  exact W.zald hC.1 hC.2.1 g1 (State.isArrayOf_alike hC.2.2.2.2.2.2.2.1.alike g3) g2.1 (vp_big hin g5.1) (by rw [g7 _ (vp_lt hin)]; exact congrArg some hv) rfl rfl (mdD hM hd) (kk hG hM p e s m args below meth c R H locs cells slots ls hC hR hP hF hL hl)
theorem r_lald {a n : Nat} {f : Nat → Value} {i : Int32} {v : Value} (k pn : Nat) (hd : (mdT M)[k]? = some (pc, .laload, 1)) (hn : pc + 1 = pn) (ho : Lk G w a (.inr (.long, n, f))) (hin : vp_in i n) (hv : f i.toNatClampNeg = v) (kk : Rn G M pn lv (v :: st) w Q) : Rn G M pc lv (.int i :: .ref a :: st) w Q := by
  intro hG hM p e s m args below meth c R H locs cells slots ls hC hR hP hF hL hl
  subst hn
  obtain ⟨cell, g1, g2, g3, g4, g5, g6, g7⟩ := hP.at ho
  exact W.lald hC.1 hC.2.1 g1 (State.isArrayOf_alike hC.2.2.2.2.2.2.2.1.alike g3) g2.1 (vp_big hin g5.1) (by rw [g7 _ (vp_lt hin)]; exact congrArg some hv) rfl rfl (mdD hM hd) (kk hG hM p e s m args below meth c R H locs cells slots ls hC hR hP hF hL hl)
theorem r_aald {a n : Nat} {C : String} {f : Nat → Value} {i : Int32} {v : Value} (k pn : Nat) (hd : (mdT M)[k]? = some (pc, .aaload, 1)) (hn : pc + 1 = pn) (ho : Lk G w a (.inr (.object C, n, f))) (hin : vp_in i n) (hv : f i.toNatClampNeg = v) (kk : Rn G M pn lv (v :: st) w Q) : Rn G M pc lv (.int i :: .ref a :: st) w Q := by
  intro hG hM p e s m args below meth c R H locs cells slots ls hC hR hP hF hL hl
  subst hn
  obtain ⟨cell, g1, g2, g3, g4, g5, g6, g7⟩ := hP.at ho
  exact W.aald (ty := .object C) hC.1 hC.2.1 g1 (State.isArrayOf_alike hC.2.2.2.2.2.2.2.1.alike g3) rfl g2.1 (vp_big hin g5.1) (by rw [g7 _ (vp_lt hin)]; exact congrArg some hv) rfl rfl (mdD hM hd) (kk hG hM p e s m args below meth c R H locs cells slots ls hC hR hP hF hL hl)
theorem r_iast {a n : Nat} {f : Nat → Value} {i x : Int32} (k pn : Nat) (hd : (mdT M)[k]? = some (pc, .iastore, 1)) (hn : pc + 1 = pn) (ho : w.1 a = some (.inr (.int, n, f))) (hin : vp_in i n) (kk : Rn G M pn lv st (wset w a (.inr (.int, n, updV f i.toNatClampNeg (.int x)))) Q) : Rn G M pc lv (.int x :: .int i :: .ref a :: st) w Q := by
  intro hG hM p e s m args below meth c R H locs cells slots ls hC hR hP hF hL hl
  subst hn
  obtain ⟨ha, cell, g1, g2, g3, g4, g5, g6, g7⟩ := hP.1 a _ ho
  refine W.iast hC.1 hC.2.1 g1 (State.isArrayOf_alike hC.2.2.2.2.2.2.2.1.alike g3) g2.1 (vp_big hin g5.1) rfl rfl (mdD hM hd) fun H1 e1 e2 e3 => ?_
  exact kk hG hM p e s m args below meth c R H1 _ cells slots ls hC hR (hP.set ha (ob_put g2 g3 g4 g5 g6 g7 e1) e2 e3) hF (locs_put hL ha) hl
theorem r_bast {a n : Nat} {f : Nat → Value} {i x : Int32} (k pn : Nat) (hd : (mdT M)[k]? = some (pc, .bastore, 1)) (hn : pc + 1 = pn) (ho : w.1 a = some (.inr (.byte, n, f))) (hin : vp_in i n) (kk : Rn G M pn lv st (wset w a (.inr (.byte, n, updV f i.toNatClampNeg (narrow .byte (.int x))))) Q) : Rn G M pc lv (.int x :: .int i :: .ref a :: st) w Q := by
  intro hG hM p e s m args below meth c R H locs cells slots ls hC hR hP hF hL hl
  subst hn
  obtain ⟨ha, cell, g1, g2, g3, g4, g5, g6, g7⟩ := hP.1 a _ ho
  refine W.bast hC.1 hC.2.1 g1 (State.isArrayOf_alike hC.2.2.2.2.2.2.2.1.alike g3) g2.1 (vp_big hin g5.1) rfl rfl (mdD hM hd) fun H1 e1 e2 e3 => ?_
  exact kk hG hM p e s m args below meth c R H1 _ cells slots ls hC hR (hP.set ha (ob_put g2 g3 g4 g5 g6 g7 e1) e2 e3) hF (locs_put hL ha) hl
theorem r_zast {a n : Nat} {f : Nat → Value} {i x : Int32} (k pn : Nat) (hd : (mdT M)[k]? = some (pc, .bastore, 1)) (hn : pc + 1 = pn) (ho : w.1 a = some (.inr (.boolean, n, f))) (hin : vp_in i n) (kk : Rn G M pn lv st (wset w a (.inr (.boolean, n, updV f i.toNatClampNeg (narrow .boolean (.int x))))) Q) : Rn G M pc lv (.int x :: .int i :: .ref a :: st) w Q := by
  intro hG hM p e s m args below meth c R H locs cells slots ls hC hR hP hF hL hl
  subst hn
  obtain ⟨ha, cell, g1, g2, g3, g4, g5, g6, g7⟩ := hP.1 a _ ho
  refine W.zast hC.1 hC.2.1 g1 (State.isArrayOf_alike hC.2.2.2.2.2.2.2.1.alike g3) g2.1 (vp_big hin g5.1) rfl rfl (mdD hM hd) fun H1 e1 e2 e3 => ?_
  exact kk hG hM p e s m args below meth c R H1 _ cells slots ls hC hR (hP.set ha (ob_put g2 g3 g4 g5 g6 g7 e1) e2 e3) hF (locs_put hL ha) hl
theorem r_last {a n : Nat} {f : Nat → Value} {i : Int32} {x : Int64} (k pn : Nat) (hd : (mdT M)[k]? = some (pc, .lastore, 1)) (hn : pc + 1 = pn) (ho : w.1 a = some (.inr (.long, n, f))) (hin : vp_in i n) (kk : Rn G M pn lv st (wset w a (.inr (.long, n, updV f i.toNatClampNeg (.long x)))) Q) : Rn G M pc lv (.long x :: .int i :: .ref a :: st) w Q := by
  intro hG hM p e s m args below meth c R H locs cells slots ls hC hR hP hF hL hl
  subst hn
  obtain ⟨ha, cell, g1, g2, g3, g4, g5, g6, g7⟩ := hP.1 a _ ho
  refine W.last hC.1 hC.2.1 g1 (State.isArrayOf_alike hC.2.2.2.2.2.2.2.1.alike g3) g2.1 (vp_big hin g5.1) rfl rfl (mdD hM hd) fun H1 e1 e2 e3 => ?_
  exact kk hG hM p e s m args below meth c R H1 _ cells slots ls hC hR (hP.set ha (ob_put g2 g3 g4 g5 g6 g7 e1) e2 e3) hF (locs_put hL ha) hl
end R8
