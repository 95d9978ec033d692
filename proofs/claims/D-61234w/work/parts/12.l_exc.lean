set_option maxRecDepth 100000
/-! exceptions that are caught: the catch type may be resolved then -/
theorem go_cold {Q : Handler → Jvm.Pre} {E : Jvm.CtlPost} {e : Env} {d : Bool} {acts : List Action} {s : State} {f : JFrame} {a : Addr} {x : ExceptionTableEntry} {t : List ExceptionTableEntry} {c : ClassId} {cell : Cell} {vm' : Vm} (hx : covers x f.pc = true) (h0 : x.catchType ≠ 0)
    (hg : (Jvm.resolveClass f.method.cls x.catchType).Gives e.toSetting s.vm (.ok c) vm') (hsz : vm'.classes.size ≤ s.vm.classes.size) (hcell : s.heap[a]? = some cell) (hobj : ∀ k, cell.vm ≠ .statics k)
    (hk : ∃ k, vm'.classes[cell.cls]? = some k) (hc : ∃ k, vm'.classes[c]? = some k) :
    Sem.wp (findHandler.go f a (x :: t)) Q E e d acts s ↔ if vm'.assignable cell.cls c = true then Q (.found x.handlerPc) d acts (s.setVm vm') else Sem.wp (findHandler.go f a t) Q E e d acts (s.setVm vm') := by
  simp only [covers] at hx
  obtain ⟨ha, ht⟩ := hg.op (op := VmOp.resolveClass f.method.cls x.catchType) rfl
  have hcell' : (s.setVm vm').heap[a]? = some cell := hcell
  cases hfit : vm'.assignable cell.cls c <;>
    simp [findHandler.go, hx, h0, ha, ht, hsz, hcell, hcell', hobj, hk, hc, hfit, VmOp.dirties, VmOp.acts]
theorem caught_cold {tb : Tables} {e : Env} {s target : State} {g : JFrame} {c : Code} {below : List Frame} {a : Addr} (h : At s g.method c below) {pc : Nat} {vm' : Vm}
    (hfind : ∀ (Q : Handler → Jvm.Pre) (E : Jvm.CtlPost) (d : Bool) (acts : List Action), Sem.wp (findHandler g a) Q E e d acts ((s.setTop g).pushFrame (.throwing a)) ↔ Q (.found pc) d acts (((s.setTop g).pushFrame (.throwing a)).setVm vm'))
    (hrest : Steps tb e below ((s.setVm vm').setTop { g with pc := pc, stack := [.ref a] }) target) : Steps tb e below ((s.setTop g).pushFrame (.throwing a)) target := by
  obtain ⟨hgo, hw⟩ := h.throwing a
  refine Steps.head hgo hw ?_
  have hstep : (stepThrowing e ((s.setTop g).pushFrame (.throwing a)) a (.java g :: s.frames.tail)).1 = (((s.setTop g).pushFrame (.throwing a)).setVm vm').setFrames (.java { g with pc := pc, stack := [.ref a] } :: s.frames.tail) := by
    simp only [stepThrowing, searchFrame, vmDo]
    generalize hr : Sem.go _ e false [] ((s.setTop g).pushFrame (.throwing a)) = res
    obtain ⟨as, rfl, ha⟩ := Sem.eq_ok_of hr (a := Handler.found pc) (s' := ((s.setTop g).pushFrame (.throwing a)).setVm vm') (acts' := []) (by simp [hfind _ _ _ _])
    rfl
  rw [stepThread_throwing (frames_entered h.top _), hstep]
  obtain ⟨g₀, hg⟩ := Option.isSome_iff_exists.mp h.top
  obtain ⟨r, hr⟩ := State.topJava?_eq_some.mp hg
  have e1 : (((s.setTop g).pushFrame (.throwing a)).setVm vm').setFrames (.java { g with pc := pc, stack := [.ref a] } :: s.frames.tail) = (s.setVm vm').setTop { g with pc := pc, stack := [.ref a] } := by
    have hr' : (s.setVm vm').frames = .java g₀ :: r := hr
    rw [State.setTop_of_frames _ hr', State.pushFrame, State.setTop_of_frames _ hr, State.setFrames_setFrames, hr]
    exact (State.setFrames_setFrames (s.setVm vm') _ _)
  rw [e1]
  exact hrest
theorem catch_link {G : Gm} {M : Md} {p : Program} {e : Env} {R : Room} {s : State} {m : MethodId} {args : Array Value} {below : List Frame} {meth : Method} {c : Code} {T : State} {locs : List Loc} {cells slots : Nat} (hG : Gok G) (hC : Cx G M p s m meth c) (X : Stand p (Gl G) e R s m args below meth c T locs cells slots) {ct : Nat} {K : String} (h1 : Cond.classLink (mdY M).cls ct K ∈ lw_all) :
    ∃ (vm' : Vm) (cT : ClassId), Stand p (Gl G) e R s m args below meth c (T.setVm vm') locs cells slots ∧ s.WarmedH vm' ∧ s.vm.findClass K = some cT ∧ (Jvm.resolveClass m.cls ct).Gives e.toSetting T.vm (.ok cT) vm' ∧ vm'.classes.size ≤ T.vm.classes.size := by
  have hW := hC.2.2.2.2.2.2.2.1
  have hpl : e.platform.magicAccessors = ({} : Platform).magicAccessors := by rw [X.admits.platform]
  obtain ⟨cT, hcT, hcl⟩ := Cond.classLink_spec hC.2.2.2.2.2.1 (hG.word hW h1 args) e.platform hpl
  obtain ⟨dk, _, _, kt, hd, _, _, _, _, hkt, _, hopen⟩ := hcl.here
  have hcl₀ := X.warmed.classLinks hcl
  have hW' : s.WarmedH (T.vm.noted m.cls ct (.cls cT)) := X.warmed.noted hd hopen (State.rightAt_cls hcl)
  exact ⟨_, cT, X.noted hW', hW', hcT, resolveClass_links e.toSetting hcl₀, by rw [Vm.size_noted]; exact Nat.le_refl _⟩
/-- the first handler of M covers pc and catches the very class of what is thrown -/
theorem th_c1 {G : Gm} {M : Md} {pc : Nat} {lv : List (Nat × Value)} {st : List Value} {x : Nat} {w : Wd} {Q : Rs → Wd → Prop} {a b hpc ct : Nat} {hr : List (Nat × Nat × Nat × Nat)} (hH : mdH M = some ((a, b, hpc, ct) :: hr)) (hab : a ≤ pc ∧ pc < b) (h0 : ct ≠ 0) {ci : Nat} {C : String} {TT : u_T} {NN : Nat} {fs : List Value} (hc : clT[ci]? = some (C, TT, NN)) (ho : Lk G w x (.inl (ci, fs))) (h1 : Cond.classLink (mdY M).cls ct C ∈ lw_all) (kk : Rn G M hpc lv [.ref x] w Q) : Th G M pc lv st x w Q := by
  intro hG hM p e s m args below meth c R H locs cells slots ls hC hR hP hF hL hl T hT X
  subst hT
  have hW := hC.2.2.2.2.2.2.2.1
  have hh := hC.2.2.2.2.2.2.2.2.1
  unfold hdl at hh
  rw [hH] at hh
  obtain ⟨cell, e1, e2, e3⟩ := hP.recv hG hW ho hc
  obtain ⟨vm', cT, X', hW', hcT, hgv, hsz⟩ := catch_link hG hC X h1
  cases e3.symm.trans hcT
  obtain ⟨kC, hkC⟩ := Vm.classAt_of_findClass e3
  obtain ⟨kC', hkC', -⟩ := hW'.alike.2.2 _ _ hkC
  obtain ⟨t, ht, hE⟩ := kk hG hM p e s m args below meth c R (T.setVm vm').heap locs cells slots ls hC hR hP hF hL hl (T.setVm vm') rfl X'
  refine ⟨t, caught_cold (g := F0 m pc ls st) X.here (pc := hpc) (vm' := vm') (fun Q E d acts => ?_) ht, hE⟩
  have hm : ((T.setTop (F0 m pc ls st)).pushFrame (.throwing x)).vm.method? m = some meth := by
    show T.vm.method? m = some meth
    rw [X.warmed.alike.method?]; exact X.method
  rw [W.findHandler_eq (f := F0 m pc ls st) hm X.code]
  cases hx : c.exceptionTable.toList with
  | nil => rw [hx] at hh; simp at hh
  | cons y ys =>
    rw [hx] at hh
    simp only [List.map_cons, Option.getD_some, List.cons.injEq, Prod.mk.injEq] at hh
    obtain ⟨⟨y1, y2, y3, y4⟩, -⟩ := hh
    rw [go_cold (s := (T.setTop (F0 m pc ls st)).pushFrame (.throwing x)) (c := cell.cls) (vm' := vm') (cell := cell) (by unfold covers; simp only [y1, y2]; show (decide (a ≤ pc) && decide (pc < b)) = true; simp [hab]) (by rw [y4]; exact h0) (by rw [y4]; exact hgv) hsz e1 (fun k => VmData.ne_statics_of e2 k) ⟨kC', hkC'⟩ ⟨kC', hkC'⟩, if_pos (va_asg _ _), y3]
/-- the first handler covers pc but catches another class; the second catches -/
theorem th_c2 {G : Gm} {M : Md} {pc : Nat} {lv : List (Nat × Value)} {st : List Value} {x : Nat} {w : Wd} {Q : Rs → Wd → Prop} {a b hpc ct a2 b2 hpc2 ct2 : Nat} {hr : List (Nat × Nat × Nat × Nat)} (hH : mdH M = some ((a, b, hpc, ct) :: (a2, b2, hpc2, ct2) :: hr)) (hab : a ≤ pc ∧ pc < b) (hab2 : a2 ≤ pc ∧ pc < b2) (h0 : ct ≠ 0) (h02 : ct2 ≠ 0) {ci : Nat} {C K : String} {TT : u_T} {NN : Nat} {fs : List Value} (hc : clT[ci]? = some (C, TT, NN)) (ho : Lk G w x (.inl (ci, fs))) (h1 : Cond.classLink (mdY M).cls ct K ∈ lw_all) (hno : va_Nc C K (Gs G)) (h2 : Cond.classLink (mdY M).cls ct2 C ∈ lw_all) (kk : Rn G M hpc2 lv [.ref x] w Q) : Th G M pc lv st x w Q := by
  intro hG hM p e s m args below meth c R H locs cells slots ls hC hR hP hF hL hl T hT X
  subst hT
  have hW := hC.2.2.2.2.2.2.2.1
  have hh := hC.2.2.2.2.2.2.2.2.1
  unfold hdl at hh
  rw [hH] at hh
  obtain ⟨cell, e1, e2, e3⟩ := hP.recv hG hW ho hc
  obtain ⟨vm1, cK, X1, hW1, hcK, hgv1, hsz1⟩ := catch_link hG hC X h1
  obtain ⟨vm', cT, X', hW', hcT, hgv, hsz⟩ := catch_link hG hC X1 h2
  cases e3.symm.trans hcT
  obtain ⟨kC, hkC⟩ := Vm.classAt_of_findClass e3
  obtain ⟨kC1, hkC1, -⟩ := hW1.alike.2.2 _ _ hkC
  obtain ⟨kC', hkC', -⟩ := hW'.alike.2.2 _ _ hkC
  obtain ⟨kK, hkK⟩ := Vm.classAt_of_findClass hcK
  obtain ⟨kK1, hkK1, -⟩ := hW1.alike.2.2 _ _ hkK
  obtain ⟨c9, k9, n1, n2, n3⟩ := va_Nc.moved hW.alike hno
  cases e3.symm.trans n1
  cases hcK.symm.trans n2
  obtain ⟨t, ht, hE⟩ := kk hG hM p e s m args below meth c R (T.setVm vm').heap locs cells slots ls hC hR hP hF hL hl (T.setVm vm') rfl X'
  refine ⟨t, caught_cold (g := F0 m pc ls st) X.here (pc := hpc2) (vm' := vm') (fun Q E d acts => ?_) ht, hE⟩
  have hm : ((T.setTop (F0 m pc ls st)).pushFrame (.throwing x)).vm.method? m = some meth := by
    show T.vm.method? m = some meth
    rw [X.warmed.alike.method?]; exact X.method
  rw [W.findHandler_eq (f := F0 m pc ls st) hm X.code]
  have hn1 : vm1.assignable cell.cls cK = false := by rw [hW1.alike.assignable]; exact n3
  cases hx : c.exceptionTable.toList with
  | nil => rw [hx] at hh; simp at hh
  | cons y ys =>
    cases ys with
    | nil => rw [hx] at hh; simp at hh
    | cons z zs =>
      rw [hx] at hh
      simp only [List.map_cons, Option.getD_some, List.cons.injEq, Prod.mk.injEq] at hh
      obtain ⟨⟨y1, y2, y3, y4⟩, ⟨z1, z2, z3, z4⟩, -⟩ := hh
      rw [go_cold (s := (T.setTop (F0 m pc ls st)).pushFrame (.throwing x)) (c := cK) (vm' := vm1) (cell := cell) (by unfold covers; simp only [y1, y2]; show (decide (a ≤ pc) && decide (pc < b)) = true; simp [hab]) (by rw [y4]; exact h0) (by rw [y4]; exact hgv1) hsz1 e1 (fun k => VmData.ne_statics_of e2 k) ⟨kC1, hkC1⟩ ⟨kK1, hkK1⟩, if_neg (by rw [hn1]; exact Bool.false_ne_true)]
      rw [go_cold (s := ((T.setTop (F0 m pc ls st)).pushFrame (.throwing x)).setVm vm1) (c := cell.cls) (vm' := vm') (cell := cell) (by unfold covers; simp only [z1, z2]; show (decide (a2 ≤ pc) && decide (pc < b2)) = true; simp [hab2]) (by rw [z4]; exact h02) (by rw [z4]; exact hgv) hsz e1 (fun k => VmData.ne_statics_of e2 k) ⟨kC', hkC'⟩ ⟨kC', hkC'⟩, if_pos (va_asg _ _), z3]
      rfl
theorem exc_atoms {G : Gm} (hG : Gok G) {s : State} (hW : (Gs G).WarmedH s.vm) (hh : ∀ a : Nat, a < gN G → s.heap[a]? = (Gs G).heap[a]?) (args : Array Value) : ∀ c ∈ Bundle.throwableAtoms, c.before args s = true := by
  have hls : ∀ n d, Cond.laysStatic Bundle.tN n d ∈ lw_tbl → (Cond.laysStatic Bundle.tN n d).before args s = true := by
    intro n d hx
    obtain ⟨b, h, -⟩ := hG
    have h1 := h _ hx
    have h2 := Cond.laysStatic_setVm hW.alike h1
    obtain ⟨c, k, i, f, a, cell, p1, p2, p3, p4, p5, p6, p7, p8, p9⟩ := Cond.laysStatic_spec h2
    have hlt : a < gN G := (Array.getElem?_eq_some_iff.mp p5).1
    exact Cond.laysStatic_of p1 p2 p3 p4 (by rw [hh a hlt]; exact p5) p6 p7 p8 p9
  intro c hc
  simp only [Bundle.throwableAtoms, List.mem_cons, List.not_mem_nil, or_false] at hc
  rcases hc with rfl | rfl | rfl | rfl | rfl | rfl | rfl | rfl | rfl | rfl | rfl | rfl | rfl | rfl | rfl | rfl | rfl | rfl | rfl | rfl | rfl | rfl | rfl | rfl
  · exact hG.word hW q71 args
  · exact hG.word hW q330 args
  · exact hG.word hW q339 args
  · exact hG.word hW q343 args
  · exact hG.word hW q346 args
  · exact hG.word hW q348 args
  · exact hG.word hW q331 args
  · exact hG.word hW q332 args
  · exact hG.word hW q111 args
  · exact hG.word hW q112 args
  · exact hG.word hW q333 args
  · exact hG.word hW q338 args
  · exact hG.word hW q344 args
  · exact hG.word hW q363 args
  · exact hG.word hW q320 args
  · exact hG.word hW q364 args
  · exact hG.word hW q322 args
  · exact hG.word hW q365 args
  · exact hG.word hW q324 args
  · exact hG.word hW q334 args
  · exact hls _ _ q335
  · exact hG.word hW q336 args
  · exact hls _ _ q337
  · exact hG.word hW q326 args
/-- what is said of a class of exceptions -/
def XW (X : String) : Prop := Cond.selects X Bundle.tFill0 Bundle.tFill0 ∈ lw_all ∧ Cond.selects X Bundle.tFill Bundle.tFill ∈ lw_all ∧ Cond.lays X Bundle.tN "cause" "Ljava/lang/Throwable;" ∈ lw_all ∧ Cond.lays X Bundle.tN "stackTrace" Bundle.steD ∈ lw_all ∧ Cond.lays X Bundle.tN "suppressedExceptions" Bundle.listD ∈ lw_all ∧ Cond.lays X Bundle.tN "detailMessage" "Ljava/lang/String;" ∈ lw_all ∧ Cond.lays X Bundle.tN "backtrace" "Ljava/lang/Object;" ∈ lw_all ∧ ∃ n, Cond.instantiable X n ∈ lw_all
/-- .. and of the statics of Throwable -/
def XS (G : Gm) : Prop := (∃ u0 : RefV, SF G "java/lang/Throwable" "UNASSIGNED_STACK" "[Ljava/lang/StackTraceElement;" u0.v) ∧ ∃ sen : RefV, SF G "java/lang/Throwable" "SUPPRESSED_SENTINEL" "Ljava/util/List;" sen.v
theorem exc_stat {G : Gm} (hG : Gok G) {s : State} (hW : (Gs G).WarmedH s.vm) {T : ThrowableC} {Z : Init0T} {pl : Platform} (L : T.Links pl s) (Y : Bundle.Ties T Z s) (hX : XS G) : ∃ (u0 sen : RefV) (cellS : Cell), T.aS < gN G ∧ (Gs G).heap[T.aS]? = some cellS ∧ cellS.vm ≠ .unknown ∧ cellS.slots[T.fUnassigned.slot]? = some u0.v ∧ cellS.slots[T.fSentinel.slot]? = some sen.v := by
  obtain ⟨⟨u0, h1⟩, sen, h2⟩ := hX
  obtain ⟨cf, kf, fi, f, a, cell, g1, g2, g3, g4, g5, g6, g7, g8⟩ := va_Z.moved hW.alike h1
  obtain ⟨cf', kf', fi', f', a', cell', k1, k2, k3, k4, k5, k6, k7, k8⟩ := va_Z.moved hW.alike h2
  have e1 := Option.some.inj (Y.unassigned.symm.trans g1)
  have e2 := Option.some.inj (Y.sentinel.symm.trans k1)
  simp only [Prod.mk.injEq] at e1 e2
  obtain ⟨r1, r2, r3, r4⟩ := e1
  obtain ⟨t1, t2, t3, t4⟩ := e2
  subst r4
  subst t4
  rw [← r2] at g4
  rw [← t2] at k4
  have ha : T.aS = a := Option.some.inj (L.statics.symm.trans g4)
  have ha' : T.aS = a' := Option.some.inj (L.statics.symm.trans k4)
  rw [← ha] at g5
  rw [← ha'] at k5
  cases Option.some.inj (g5.symm.trans k5)
  refine ⟨u0, sen, cell, (Array.getElem?_eq_some_iff.mp g5).1, g5, fun hu => ?_, g7, k7⟩
  rw [hu] at g6; cases g6
section RX
variable {G : Gm} {M N : Md} {pc : Nat} {lv : List (Nat × Value)} {st : List Value} {w : Wd} {Q Q' : Rs → Wd → Prop}
theorem r_exc0 {ci iB iC iS iP iM idx nI0 : Nat} {X Xi : String} {TT : u_T} {N : Nat} {names : List String} {ty0 : Nat → FieldType} (hc : clT[ci]? = some (X, TT, N)) (hXW : XW X) (hXS : XS G) (hTB : TT iB = (Bundle.tN, "backtrace", "Ljava/lang/Object;", false)) (hTC : TT iC = (Bundle.tN, "cause", "Ljava/lang/Throwable;", false)) (hTS : TT iS = (Bundle.tN, "stackTrace", Bundle.steD, false)) (hTP : TT iP = (Bundle.tN, "suppressedExceptions", Bundle.listD, false)) (hTM : TT iM = (Bundle.tN, "detailMessage", "Ljava/lang/String;", false)) (hN : (iC < N ∧ iS < N ∧ iP < N ∧ iM < N) ∧ iB < iC ∧ iB < iS ∧ iB < iP ∧ iB < iM) (hin : ∀ x ∈ u_ws X TT N, x ∈ lw_all) (hty : ∀ k, k < N → parseFieldDescriptor (TT k).2.2.1 = some (ty0 k)) (hnm : ∀ a, a < N → ∀ b, b < N → a ≠ b → (TT a).2.1 ≠ (TT b).2.1)
    (hfitX : Bundle.fit Xi = true) (hnames : ∀ n ∈ names, Bundle.fit n = true) (hch : ∀ c ∈ Bundle.chain0Atoms Xi names, c ∈ lw_all ∨ ∃ y, c = .declares y ∧ Cond.declares y ∈ lw_tbl) (hml : Cond.methodLink (mdY M).cls idx (Bundle.init0 Xi) ∈ lw_all) (hinst : Cond.instanceMethod (Bundle.init0 Xi) ∈ lw_all) (hcode : Cond.code (Bundle.init0 Xi) Bundle.five 1 none ∈ lw_all)
    (k pn : Nat) (hd : (mdT M)[k]? = some (pc, .invokespecial idx, 3)) (hn : pc + 3 = pn) (hlev : names.length + 4 ≤ mdV M) (hlen3 : names.length ≤ 3) (hst : (st.map fun v => v.category).sum ≤ 20) {a : Nat} {fs : List Value} (ho : w.1 a = some (.inl (ci, fs))) (hB : fs[iB]? = some .null) (hl : iC < fs.length ∧ iS < fs.length ∧ iP < fs.length ∧ iM < fs.length) (kk : Rn G M pn lv st (wset w a (.inl (ci, fs.take (iB + 1)))) Q) : Rn G M pc lv (.ref a :: st) w Q := by
  intro hG hM p e s m args below meth c R H locs cells slots ls hC hR hP hF hL hlv T0 hT X0
  subst hT
  subst hn
  have hW := hC.2.2.2.2.2.2.2.1
  have hhp := hC.2.2.2.2.2.2.2.2.2
  have hdg : decode c.code pc = .ok (.invokespecial idx, 3) := by rw [hC.2.1]; exact mdD hM hd
  obtain ⟨ha, r, cell, hr, hlen, q1, q3, q2, q4⟩ := hP.1 a _ ho
  have hre : r = (X, TT, N) := Option.some.inj (hr.symm.trans hc)
  subst hre
  obtain ⟨hS, hfc, -⟩ := hG.K hW hc
  obtain ⟨w0, wF, wC, wS, wP, wM, wB, nn, wI⟩ := hXW
  obtain ⟨cC, kC, hfc', hkC, hkind, -⟩ := Cond.instantiable_spec (hG.word hW wI args)
  cases hfc.symm.trans hfc'
  have hap : ∀ x y, x < N → y < N → x ≠ y → (GD G).2 ci x ≠ (GD G).2 ci y := by
    intro x y hx hy hne
    obtain ⟨_, _, _, fa, hia, ea, -⟩ := hS x hx
    obtain ⟨_, _, _, fb, hib, eb, -⟩ := hS y hy
    rw [← ea, ← eb]
    refine u_apart (u_lays (hG.words hW args) hin hx) (u_lays (hG.words hW args) hin hy) hia hib ?_
    rw [(State.fieldFound?_type hia (hty x hx)).1, (State.fieldFound?_type hib (hty y hy)).1]
    exact hnm x hx y hy hne
  have howns : e.platform.frameOwnsMonitors = true := by rw [X0.admits.platform]
  have hfin : e.platform.finalization = false := by rw [X0.admits.platform]
  have hpl : e.platform.magicAccessors = ({} : Platform).magicAccessors := by rw [X0.admits.platform]
  have htr : e.platform.stackTraces = false := by
    obtain ⟨b9, -, -, -, -, hfl⟩ := hG
    exact Launch.traces_off hfl X0.admits
  have hchs : ∀ c ∈ Bundle.chain0Atoms Xi names, c.before args s = true := fun x hx => by
    rcases hch x hx with h1 | ⟨y, rfl, h2⟩
    · exact hG.word hW h1 args
    · have h3 : va_Nw (.declares y) s := va_Nw.warmD hW (hG.tbl h2 rfl)
      exact va_tabs (c := .declares y) rfl rfl h3
  obtain ⟨T, Z, L, LZ, Y⟩ := ThrowableC.of_atoms (args := args) howns hfin hpl (exc_atoms hG hW hhp args)
  obtain ⟨P1, Ps, hlenP, L1, hLP, hP1m, hlink1, hlink⟩ := Bundle.chain0 (args := args) hpl Y.init0 names Xi hfitX hnames hchs
  have hsel0 : selectMethod e.platform s.vm cell.cls T.fill0 = .method T.fill0 := by
    obtain ⟨c2, r2, m2, z1, z2, z3, z4, -⟩ := Cond.selects_spec (hG.word hW w0 args)
    cases Option.some.inj (z1.symm.trans hfc)
    cases Option.some.inj (z2.symm.trans (State.methodFound?_of_named Y.fill0 (by decide)))
    cases Option.some.inj (z3.symm.trans Y.fill0)
    rw [Launch.admits_selectMethod X0.admits, q2]; exact z4
  have hselF : selectMethod e.platform s.vm cell.cls T.fill = .method T.fill := by
    obtain ⟨c2, r2, m2, z1, z2, z3, z4, -⟩ := Cond.selects_spec (hG.word hW wF args)
    cases Option.some.inj (z1.symm.trans hfc)
    cases Option.some.inj (z2.symm.trans (State.methodFound?_of_named Y.fill (by decide)))
    cases Option.some.inj (z3.symm.trans Y.fill)
    rw [Launch.admits_selectMethod X0.admits, q2]; exact z4
  obtain ⟨u0, sen, cellS, hS1, hS2, hS3, hS4, hS5⟩ := exc_stat hG hW L Y hXS
  obtain ⟨ci198, i198, fB, hk198, hg198, ha198, hsB, -, hnB, htB, hffB⟩ := Cond.ownField (t := .object "java/lang/Object") Y.found L.cls (by decide +kernel) (hG.word hW q329 args) (hG.word hW q328 args) e.platform hpl
  obtain ⟨iM0, hffM⟩ := Y.msg
  have slot_of : ∀ {i : Nat} {n d : String} {b : Bool} {c1 : ClassId} {k1 : Class} {i1 : Nat} {f1 : Field}, i < N → TT i = (Bundle.tN, n, d, b) → s.fieldFound? Bundle.tN n d = some (c1, k1, i1, f1) → f1.slot = (GD G).2 ci i := by
    intro i n d b c1 k1 i1 f1 hi hTi hf1
    obtain ⟨cf, kf, fi, fd, g1, g2, -⟩ := hS i hi
    have g1' : s.fieldFound? (TT i).1 (TT i).2.1 (TT i).2.2.1 = some (cf, kf, fi, fd) := g1
    rw [hTi] at g1'
    have := Option.some.inj (hf1.symm.trans g1')
    simp only [Prod.mk.injEq] at this
    rw [this.2.2.2]; exact g2
  obtain ⟨⟨hiC, hiS, hiP, hiM⟩, bC, bS, bP, bM⟩ := hN
  have hiB : iB < N := by omega
  have sC := slot_of hiC hTC Y.cause
  have sS := slot_of hiS hTS Y.stack
  have sP := slot_of hiP hTP Y.supp
  have sM := slot_of hiM hTM hffM
  have sB := slot_of hiB hTB hffB
  obtain ⟨lC, lS, lP, lM⟩ := hl
  have inb : ∀ {i : Nat}, i < fs.length → (GD G).2 ci i < cell.slots.size := fun {i} hi => (Array.getElem?_eq_some_iff.mp (q4 i _ (List.getElem?_eq_getElem hi))).1
  have tk : ∀ {i : Nat} {f1 : Field} {v : Value} {n d : String} {c1 : ClassId} {k1 : Class} {i1 : Nat}, i < fs.length → f1.slot = (GD G).2 ci i → s.fieldFound? Bundle.tN n d = some (c1, k1, i1, f1) → Cond.lays X Bundle.tN n d ∈ lw_all → fits f1.type v = true → Takes s cell f1 v := by
    intro i f1 v n d c1 k1 i1 hi hs1 hf1 hl1 hv
    refine ⟨by rw [hs1]; exact inb hi, ?_⟩
    obtain ⟨ty, -⟩ := Cond.laysAt hfc hkC hf1 (hG.word hW hl1 args)
    rw [q2]
    simp [State.fitsSlot, State.slotType?, hkC, hkind, ty, hv, (q3.2.2 ha).1]
  have keepB : ∀ (j : Nat) (v : Value), j ≤ iB → fs[j]? = some v → ∀ (x y z u : Value), (((((cell.setSlot T.fCause.slot x).setSlot T.fStack.slot y).setSlot T.fSupp.slot z).setSlot T.fStack.slot y).setSlot T.fMsg.slot u).slots[(GD G).2 ci j]? = some v := by
    intro j v hj hv x y z u
    have hjN : j < N := by omega
    have n1 := hap iC j hiC hjN (by omega)
    have n2 := hap iS j hiS hjN (by omega)
    have n3 := hap iP j hiP hjN (by omega)
    have n4 := hap iM j hiM hjN (by omega)
    rw [sC, sS, sP, sM]
    simp only [Cell.setSlot, Array.getElem?_setIfInBounds, n1, n2, n3, n4, if_false]
    exact q4 j v hv
  have keepB0 : ∀ (j : Nat) (v : Value), j ≤ iB → fs[j]? = some v → ∀ (x y z : Value), ((((cell.setSlot T.fCause.slot x).setSlot T.fStack.slot y).setSlot T.fSupp.slot z).setSlot T.fStack.slot y).slots[(GD G).2 ci j]? = some v := by
    intro j v hj hv x y z
    have hjN : j < N := by omega
    have n1 := hap iC j hiC hjN (by omega)
    have n2 := hap iS j hiS hjN (by omega)
    have n3 := hap iP j hiP hjN (by omega)
    rw [sC, sS, sP]
    simp only [Cell.setSlot, Array.getElem?_setIfInBounds, n1, n2, n3, if_false]
    exact q4 j v hv
  have hskip : SkipFacts T e.platform s (fun u => u) u0 ((preparedCellV T.toThrowableT cell a u0 sen).withEntry T0.cur) := by
    refine ⟨{ ci198 := ci198, i198 := i198, fBack := fB }, ⟨hk198, hg198, ha198, hsB⟩, ?_, fun _ _ => rfl⟩
    have n1 := hap iC iB hiC hiB (by omega)
    have n2 := hap iS iB hiS hiB (by omega)
    have n3 := hap iP iB hiP hiB (by omega)
    show (preparedCellV T.toThrowableT cell a u0 sen).slots[fB.slot]? = some .null
    rw [sB]
    simp only [preparedCellV, sC, sS, sP, Cell.setSlot, Array.getElem?_setIfInBounds, n1, n2, n3, if_false]
    exact q4 iB _ hB
  have hLL : ∀ ex : List Loc, (∀ q ∈ ex, q.base = a) → ∀ q ∈ locs ++ ex, gN G ≤ q.base := fun ex hex q hq => by
    rcases List.mem_append.mp hq with h1 | h1
    · exact hL q h1
    · rw [hex q h1]; exact ha
  have hcellS : T0.heap[T.aS]? = some cellS := by rw [hP.2.2.2 _ hS1]; exact hS2
  have hneS : T.aS ≠ a := Nat.ne_of_lt (Nat.lt_of_lt_of_le hS1 ha)
  have hR0 := hR
  obtain ⟨hR1, hR2⟩ := hR
  obtain ⟨tm, methC, cdC, kC9, vm₁, hnC, -, -, -, -, -, -, -, hW₁, st1⟩ := Steps.initCold (tb := p.tables) (e := e) (below := below) (s := s) (U := T0) X0.here hC.1 X0.warmed hpl hC.2.2.2.2.2.1 (t := Bundle.init0 Xi) rfl rfl (Bundle.fit_spec hfitX).2
    (hG.word hW hml args) (hG.word hW hinst args) (bytes := Bundle.five) (maxL := 1) (hG.word hW hcode args)
    (f := F0 m pc ls (.ref a :: st)) rfl (a := a) (rest := st) rfl hdg
  cases Option.some.inj (hnC.symm.trans hP1m)
  have X₁ := X0.noted hW₁
  obtain ⟨vm₂, X₂, st2⟩ := X₁.ctorPlainOffV hC.1 (g := F0 m pc ls st) rfl (hlv.1.trans hC.2.2.2.1.symm) T L Z LZ (P1 :: Ps)
    (fun P hP => by rcases List.mem_cons.mp hP with rfl | hP; exact L1; exact hLP P hP) ⟨hlink1, hlink⟩ (u0 := u0) (sen := sen) (self := a) (cell := cell) (cellS := cellS)
    q1 (fun k9 => VmData.ne_statics_of q3.2.1 k9) q3.1 (q3.2.2 ha).2.1 (q3.2.2 ha).2.2 hsel0 hselF hcellS hneS hS3 hS4 hS5
    (tk lC sC Y.cause wC (by rw [Y.causeType]; rfl)) (tk lS sS Y.stack wS (by rw [Y.stackType]; exact fits_refV_array _ u0)) (tk lP sP Y.supp wP (by rw [Y.suppType]; exact fits_refV_object _ sen))
    Y.objLocals hskip htr [] hdg
    (by simp only [List.length_cons, hlenP]; omega) (by
      show 2 * 0 + (st.map fun v => v.category).sum + (13 * (P1 :: Ps).length + 41) ≤ R.locals
      simp only [List.length_cons, hlenP]; omega)
  have hlt : a < T0.heap.size := (Array.getElem?_eq_some_iff.mp q1).1
  have hob : obAt G a (.inl (ci, fs.take (iB + 1))) (((T0.setVm vm₁).setVm vm₂).setCell a ((preparedCellV T.toThrowableT cell a u0 sen).setSlot T.fStack.slot u0.v)).heap := by
    refine ⟨_, _, hc, by rw [List.length_take]; exact Nat.le_trans (Nat.min_le_right ..) hlen, heapAt_setCell_self _ hlt, q3, q2, fun j v hv => ?_⟩
    have hj : j < iB + 1 := by
      have := (List.getElem?_eq_some_iff.mp hv).1
      rw [List.length_take] at this; omega
    have hv' : fs[j]? = some v := by rw [← hv]; exact (List.getElem?_take_of_lt hj).symm
    exact keepB0 j v (by omega) hv' _ _ _
  obtain ⟨t, ht, hE⟩ := kk hG hM p e s m args below meth c R _ _ cells slots ls hC hR0 (hP.set ha hob (by show (T0.heap.setIfInBounds a _).size = _; exact Array.size_setIfInBounds ..) (fun q hq => heapAt_setCell_ne _ (Ne.symm hq))) hF (hLL _ (by
      intro q hq
      simp only [List.mem_cons, List.not_mem_nil, or_false] at hq
      rcases hq with rfl | rfl | rfl | rfl <;> rfl)) hlv _ rfl X₂
  refine ⟨t, st1 t (fun acts => ?_), hE⟩
  rw [doInvoke_state]
  exact st2 _ ht
theorem r_excS {ci iB iC iS iP iM idx nI0 : Nat} {X Xi : String} {TT : u_T} {N : Nat} {names : List String} {ty0 : Nat → FieldType} (hc : clT[ci]? = some (X, TT, N)) (hXW : XW X) (hXS : XS G) (hTB : TT iB = (Bundle.tN, "backtrace", "Ljava/lang/Object;", false)) (hTC : TT iC = (Bundle.tN, "cause", "Ljava/lang/Throwable;", false)) (hTS : TT iS = (Bundle.tN, "stackTrace", Bundle.steD, false)) (hTP : TT iP = (Bundle.tN, "suppressedExceptions", Bundle.listD, false)) (hTM : TT iM = (Bundle.tN, "detailMessage", "Ljava/lang/String;", false)) (hN : (iC < N ∧ iS < N ∧ iP < N ∧ iM < N) ∧ iB < iC ∧ iB < iS ∧ iB < iP ∧ iB < iM) (hin : ∀ x ∈ u_ws X TT N, x ∈ lw_all) (hty : ∀ k, k < N → parseFieldDescriptor (TT k).2.2.1 = some (ty0 k)) (hnm : ∀ a, a < N → ∀ b, b < N → a ≠ b → (TT a).2.1 ≠ (TT b).2.1)
    (hfitX : Bundle.fit Xi = true) (hnames : ∀ n ∈ names, Bundle.fit n = true) (hch : ∀ c ∈ Bundle.chainSAtoms Xi names, c ∈ lw_all ∨ ∃ y, c = .declares y ∧ Cond.declares y ∈ lw_tbl) (hml : Cond.methodLink (mdY M).cls idx (Bundle.initS Xi) ∈ lw_all) (hinst : Cond.instanceMethod (Bundle.initS Xi) ∈ lw_all) (hcode : Cond.code (Bundle.initS Xi) Bundle.six 2 none ∈ lw_all)
    (k pn : Nat) (hd : (mdT M)[k]? = some (pc, .invokespecial idx, 3)) (hn : pc + 3 = pn) (hlev : names.length + 4 ≤ mdV M) (hlen3 : names.length ≤ 3) (hst : (st.map fun v => v.category).sum ≤ 20) {a : Nat} {fs : List Value} {msg : Value} (hmsg : msg.isRef = true) (ho : w.1 a = some (.inl (ci, fs))) (hB : fs[iB]? = some .null) (hl : iC < fs.length ∧ iS < fs.length ∧ iP < fs.length ∧ iM < fs.length) (kk : Rn G M pn lv st (wset w a (.inl (ci, fs.take (iB + 1)))) Q) : Rn G M pc lv (msg :: .ref a :: st) w Q := by
  intro hG hM p e s m args below meth c R H locs cells slots ls hC hR hP hF hL hlv T0 hT X0
  subst hT
  subst hn
  have hW := hC.2.2.2.2.2.2.2.1
  have hhp := hC.2.2.2.2.2.2.2.2.2
  have hdg : decode c.code pc = .ok (.invokespecial idx, 3) := by rw [hC.2.1]; exact mdD hM hd
  obtain ⟨ha, r, cell, hr, hlen, q1, q3, q2, q4⟩ := hP.1 a _ ho
  have hre : r = (X, TT, N) := Option.some.inj (hr.symm.trans hc)
  subst hre
  obtain ⟨hS, hfc, -⟩ := hG.K hW hc
  obtain ⟨w0, wF, wC, wS, wP, wM, wB, nn, wI⟩ := hXW
  obtain ⟨cC, kC, hfc', hkC, hkind, -⟩ := Cond.instantiable_spec (hG.word hW wI args)
  cases hfc.symm.trans hfc'
  have hap : ∀ x y, x < N → y < N → x ≠ y → (GD G).2 ci x ≠ (GD G).2 ci y := by
    intro x y hx hy hne
    obtain ⟨_, _, _, fa, hia, ea, -⟩ := hS x hx
    obtain ⟨_, _, _, fb, hib, eb, -⟩ := hS y hy
    rw [← ea, ← eb]
    refine u_apart (u_lays (hG.words hW args) hin hx) (u_lays (hG.words hW args) hin hy) hia hib ?_
    rw [(State.fieldFound?_type hia (hty x hx)).1, (State.fieldFound?_type hib (hty y hy)).1]
    exact hnm x hx y hy hne
  have howns : e.platform.frameOwnsMonitors = true := by rw [X0.admits.platform]
  have hfin : e.platform.finalization = false := by rw [X0.admits.platform]
  have hpl : e.platform.magicAccessors = ({} : Platform).magicAccessors := by rw [X0.admits.platform]
  have htr : e.platform.stackTraces = false := by
    obtain ⟨b9, -, -, -, -, hfl⟩ := hG
    exact Launch.traces_off hfl X0.admits
  have hchs : ∀ c ∈ Bundle.chainSAtoms Xi names, c.before args s = true := fun x hx => by
    rcases hch x hx with h1 | ⟨y, rfl, h2⟩
    · exact hG.word hW h1 args
    · have h3 : va_Nw (.declares y) s := va_Nw.warmD hW (hG.tbl h2 rfl)
      exact va_tabs (c := .declares y) rfl rfl h3
  obtain ⟨T, Z0, L, -, Y⟩ := ThrowableC.of_atoms (args := args) howns hfin hpl (exc_atoms hG hW hhp args)
  obtain ⟨Z, MM, LZ, LM, hnZ⟩ := Init0T.ofS_atoms (args := args) hpl L Y (fun x hx => by
    simp only [Bundle.throwableSAtoms, List.mem_cons, List.not_mem_nil, or_false] at hx
    rcases hx with rfl | rfl | rfl | rfl
    · exact hG.word hW q357 args
    · exact hG.word hW q358 args
    · exact hG.word hW q362 args
    · exact hG.word hW q326 args)
  obtain ⟨P1, Ps, hlenP, L1, hLP, hP1m, hlink1, hlink⟩ := Bundle.chainS (args := args) hpl hnZ names Xi hfitX hnames hchs
  have hsel0 : selectMethod e.platform s.vm cell.cls T.fill0 = .method T.fill0 := by
    obtain ⟨c2, r2, m2, z1, z2, z3, z4, -⟩ := Cond.selects_spec (hG.word hW w0 args)
    cases Option.some.inj (z1.symm.trans hfc)
    cases Option.some.inj (z2.symm.trans (State.methodFound?_of_named Y.fill0 (by decide)))
    cases Option.some.inj (z3.symm.trans Y.fill0)
    rw [Launch.admits_selectMethod X0.admits, q2]; exact z4
  have hselF : selectMethod e.platform s.vm cell.cls T.fill = .method T.fill := by
    obtain ⟨c2, r2, m2, z1, z2, z3, z4, -⟩ := Cond.selects_spec (hG.word hW wF args)
    cases Option.some.inj (z1.symm.trans hfc)
    cases Option.some.inj (z2.symm.trans (State.methodFound?_of_named Y.fill (by decide)))
    cases Option.some.inj (z3.symm.trans Y.fill)
    rw [Launch.admits_selectMethod X0.admits, q2]; exact z4
  obtain ⟨u0, sen, cellS, hS1, hS2, hS3, hS4, hS5⟩ := exc_stat hG hW L Y hXS
  obtain ⟨ci198, i198, fB, hk198, hg198, ha198, hsB, -, hnB, htB, hffB⟩ := Cond.ownField (t := .object "java/lang/Object") Y.found L.cls (by decide +kernel) (hG.word hW q329 args) (hG.word hW q328 args) e.platform hpl
  obtain ⟨iM0, hffM⟩ := Y.msg
  have slot_of : ∀ {i : Nat} {n d : String} {b : Bool} {c1 : ClassId} {k1 : Class} {i1 : Nat} {f1 : Field}, i < N → TT i = (Bundle.tN, n, d, b) → s.fieldFound? Bundle.tN n d = some (c1, k1, i1, f1) → f1.slot = (GD G).2 ci i := by
    intro i n d b c1 k1 i1 f1 hi hTi hf1
    obtain ⟨cf, kf, fi, fd, g1, g2, -⟩ := hS i hi
    have g1' : s.fieldFound? (TT i).1 (TT i).2.1 (TT i).2.2.1 = some (cf, kf, fi, fd) := g1
    rw [hTi] at g1'
    have := Option.some.inj (hf1.symm.trans g1')
    simp only [Prod.mk.injEq] at this
    rw [this.2.2.2]; exact g2
  obtain ⟨⟨hiC, hiS, hiP, hiM⟩, bC, bS, bP, bM⟩ := hN
  have hiB : iB < N := by omega
  have sC := slot_of hiC hTC Y.cause
  have sS := slot_of hiS hTS Y.stack
  have sP := slot_of hiP hTP Y.supp
  have sM := slot_of hiM hTM hffM
  have sB := slot_of hiB hTB hffB
  obtain ⟨lC, lS, lP, lM⟩ := hl
  have inb : ∀ {i : Nat}, i < fs.length → (GD G).2 ci i < cell.slots.size := fun {i} hi => (Array.getElem?_eq_some_iff.mp (q4 i _ (List.getElem?_eq_getElem hi))).1
  have tk : ∀ {i : Nat} {f1 : Field} {v : Value} {n d : String} {c1 : ClassId} {k1 : Class} {i1 : Nat}, i < fs.length → f1.slot = (GD G).2 ci i → s.fieldFound? Bundle.tN n d = some (c1, k1, i1, f1) → Cond.lays X Bundle.tN n d ∈ lw_all → fits f1.type v = true → Takes s cell f1 v := by
    intro i f1 v n d c1 k1 i1 hi hs1 hf1 hl1 hv
    refine ⟨by rw [hs1]; exact inb hi, ?_⟩
    obtain ⟨ty, -⟩ := Cond.laysAt hfc hkC hf1 (hG.word hW hl1 args)
    rw [q2]
    simp [State.fitsSlot, State.slotType?, hkC, hkind, ty, hv, (q3.2.2 ha).1]
  have keepB : ∀ (j : Nat) (v : Value), j ≤ iB → fs[j]? = some v → ∀ (x y z u : Value), (((((cell.setSlot T.fCause.slot x).setSlot T.fStack.slot y).setSlot T.fSupp.slot z).setSlot T.fStack.slot y).setSlot T.fMsg.slot u).slots[(GD G).2 ci j]? = some v := by
    intro j v hj hv x y z u
    have hjN : j < N := by omega
    have n1 := hap iC j hiC hjN (by omega)
    have n2 := hap iS j hiS hjN (by omega)
    have n3 := hap iP j hiP hjN (by omega)
    have n4 := hap iM j hiM hjN (by omega)
    rw [sC, sS, sP, sM]
    simp only [Cell.setSlot, Array.getElem?_setIfInBounds, n1, n2, n3, n4, if_false]
    exact q4 j v hv
  have keepB0 : ∀ (j : Nat) (v : Value), j ≤ iB → fs[j]? = some v → ∀ (x y z : Value), ((((cell.setSlot T.fCause.slot x).setSlot T.fStack.slot y).setSlot T.fSupp.slot z).setSlot T.fStack.slot y).slots[(GD G).2 ci j]? = some v := by
    intro j v hj hv x y z
    have hjN : j < N := by omega
    have n1 := hap iC j hiC hjN (by omega)
    have n2 := hap iS j hiS hjN (by omega)
    have n3 := hap iP j hiP hjN (by omega)
    rw [sC, sS, sP]
    simp only [Cell.setSlot, Array.getElem?_setIfInBounds, n1, n2, n3, if_false]
    exact q4 j v hv
  have hskip : SkipFacts T e.platform s (fun u => u) u0 ((preparedCellV T.toThrowableT cell a u0 sen).withEntry T0.cur) := by
    refine ⟨{ ci198 := ci198, i198 := i198, fBack := fB }, ⟨hk198, hg198, ha198, hsB⟩, ?_, fun _ _ => rfl⟩
    have n1 := hap iC iB hiC hiB (by omega)
    have n2 := hap iS iB hiS hiB (by omega)
    have n3 := hap iP iB hiP hiB (by omega)
    show (preparedCellV T.toThrowableT cell a u0 sen).slots[fB.slot]? = some .null
    rw [sB]
    simp only [preparedCellV, sC, sS, sP, Cell.setSlot, Array.getElem?_setIfInBounds, n1, n2, n3, if_false]
    exact q4 iB _ hB
  have hLL : ∀ ex : List Loc, (∀ q ∈ ex, q.base = a) → ∀ q ∈ locs ++ ex, gN G ≤ q.base := fun ex hex q hq => by
    rcases List.mem_append.mp hq with h1 | h1
    · exact hL q h1
    · rw [hex q h1]; exact ha
  have hcellS : T0.heap[T.aS]? = some cellS := by rw [hP.2.2.2 _ hS1]; exact hS2
  have hneS : T.aS ≠ a := Nat.ne_of_lt (Nat.lt_of_lt_of_le hS1 ha)
  have hR0 := hR
  obtain ⟨hR1, hR2⟩ := hR
  obtain ⟨tm, methC, cdC, kC9, vm₁, hnC, -, -, -, -, -, -, -, hW₁, st1⟩ := Steps.initColdS (tb := p.tables) (e := e) (below := below) (s := s) (U := T0) X0.here hC.1 X0.warmed hpl hC.2.2.2.2.2.1 (t := Bundle.initS Xi) rfl rfl (Bundle.fit_spec hfitX).2
    (hG.word hW hml args) (hG.word hW hinst args) (bytes := Bundle.six) (maxL := 2) (hG.word hW hcode args)
    (f := F0 m pc ls (msg :: .ref a :: st)) rfl (a := a) (msg := msg) (rest := st) rfl hdg
  cases Option.some.inj (hnC.symm.trans hP1m)
  have X₁ := X0.noted hW₁
  obtain ⟨vm₂, X₂, st2⟩ := X₁.ctorMessageOffV hC.1 (g := F0 m pc ls st) rfl (hlv.1.trans hC.2.2.2.1.symm) T L Z LZ MM LM (P1 :: Ps)
    (fun P hP => by rcases List.mem_cons.mp hP with rfl | hP; exact L1; exact hLP P hP) ⟨hlink1, hlink⟩ (u0 := u0) (sen := sen) (self := a) hmsg (cell := cell) (cellS := cellS)
    q1 (fun k9 => VmData.ne_statics_of q3.2.1 k9) q3.1 (q3.2.2 ha).2.1 (q3.2.2 ha).2.2 hsel0 hselF hcellS hneS hS3 hS4 hS5
    (tk lC sC Y.cause wC (by rw [Y.causeType]; rfl)) (tk lS sS Y.stack wS (by rw [Y.stackType]; exact fits_refV_array _ u0)) (tk lP sP Y.supp wP (by rw [Y.suppType]; exact fits_refV_object _ sen))
    (tk lM sM hffM wM (by rw [Y.msgType]; exact fits_refV_object _ ⟨msg, hmsg⟩)) Y.objLocals hskip htr [] hdg
    (by simp only [List.length_cons, hlenP]; omega) (by
      show 2 * 0 + (st.map fun v => v.category).sum + (13 * (P1 :: Ps).length + 42) ≤ R.locals
      simp only [List.length_cons, hlenP]; omega)
  have hlt : a < T0.heap.size := (Array.getElem?_eq_some_iff.mp q1).1
  have hob : obAt G a (.inl (ci, fs.take (iB + 1))) (((T0.setVm vm₁).setVm vm₂).setCell a (plainBareV T.toThrowableT cell a u0 sen msg)).heap := by
    refine ⟨_, _, hc, by rw [List.length_take]; exact Nat.le_trans (Nat.min_le_right ..) hlen, heapAt_setCell_self _ hlt, q3, q2, fun j v hv => ?_⟩
    have hj : j < iB + 1 := by
      have := (List.getElem?_eq_some_iff.mp hv).1
      rw [List.length_take] at this; omega
    have hv' : fs[j]? = some v := by rw [← hv]; exact (List.getElem?_take_of_lt hj).symm
    exact keepB j v (by omega) hv' _ _ _ _
  obtain ⟨t, ht, hE⟩ := kk hG hM p e s m args below meth c R _ _ cells slots ls hC hR0 (hP.set ha hob (by show (T0.heap.setIfInBounds a _).size = _; exact Array.size_setIfInBounds ..) (fun q hq => heapAt_setCell_ne _ (Ne.symm hq))) hF (hLL _ (by
      intro q hq
      simp only [List.mem_cons, List.not_mem_nil, or_false] at hq
      rcases hq with rfl | rfl | rfl | rfl | rfl <;> rfl)) hlv _ rfl X₂
  refine ⟨t, st1 t (fun acts => ?_), hE⟩
  rw [doInvoke_state]
  exact st2 _ ht
end RX
