set_option maxRecDepth 100000
/-- a static field that nobody writes holds v -/
def SF (G : Gm) (C n d : String) (v : Value) : Prop := va_Z C n d v (fun q => gN G ≤ q) (Gs G) (Gs G).heap
/-- the String constant of the pool entry idx of own lies at a -/
def SK (G : Gm) (own : String) (idx : Nat) (tx : String) (a : Nat) : Prop := vk_R own idx tx a (Gs G)
theorem Gok.tbl {G : Gm} (hG : Gok G) {x : Cond} (hx : x ∈ lw_tbl) (ho : x.onTables = true) : va_Nw x (Gs G) := by
  obtain ⟨b, h, -⟩ := hG
  exact va_Nw.of ho (h x hx)
/-- the class of an object -/
theorem Rp.recv {G : Gm} (hG : Gok G) {w : Wd} {H : Heap} (hP : Rp G w H) {s : State} (hW : (Gs G).WarmedH s.vm) {a ci : Nat} {fs : List Value} (ho : Lk G w a (.inl (ci, fs))) {C : String} {TT : u_T} {NN : Nat} (hc : clT[ci]? = some (C, TT, NN)) : ∃ cell : Cell, H[a]? = some cell ∧ cell.vm.isStatics = false ∧ s.vm.findClass C = some cell.cls := by
  obtain ⟨r, cell, h1, -, h2, h3, h4, -⟩ := hP.at ho
  exact ⟨cell, h2, h3.2.1, by rw [h4]; exact (hG.K hW hc).2.1⟩
section RB
variable {G : Gm} {M N : Md} {pc : Nat} {lv : List (Nat × Value)} {st : List Value} {w : Wd} {Q Q' : Rs → Wd → Prop}
theorem r_gets {C n d : String} {v : Value} {idx : Nat} (hs : SF G C n d v) (h1 : Cond.fieldLink (mdY M).cls idx C n d ∈ lw_all) (k pn : Nat) (hd : (mdT M)[k]? = some (pc, .getstatic idx, 3)) (hn : pc + 3 = pn) (kk : Rn G M pn lv (v :: st) w Q) : Rn G M pc lv st w Q := by
  intro hG hM p e s m args below meth c R H locs cells slots ls hC hR hP hF hL hl
  subst hn
  have hW := hC.2.2.2.2.2.2.2.1
  obtain ⟨cf, kf, fi, f, a, cell, g1, g2, g3, g4, g5, g6, g7, g8⟩ := va_Z.moved hW.alike hs
  exact W.gets hC.1 hC.2.1 hC.2.2.2.2.2.1 (hG.word hW h1 args) g1 g2 g3 g4 (by rw [hP.2.2.2 a (Nat.not_le.mp g8)]; exact g5) (fun e => by rw [e] at g6; cases g6) g7 rfl (mdD hM hd) (kk hG hM p e s m args below meth c R H locs cells slots ls hC hR hP hF hL hl)
theorem r_ldcS {tx : String} {idx a : Nat} (hs : SK G (mdY M).cls idx tx a) (k pn : Nat) (hd : (mdT M)[k]? = some (pc, .ldc idx, 2)) (hn : pc + 2 = pn) (kk : Rn G M pn lv (.ref a :: st) w Q) : Rn G M pc lv st w Q := by
  intro hG hM p e s m args below meth c R H locs cells slots ls hC hR hP hF hL hl
  subst hn
  exact va_ldcS hC.1 hC.2.1 hC.2.2.2.2.2.1 (vk_R.warm hC.2.2.2.2.2.2.2.1 hs) (mdD hM hd) (kk hG hM p e s m args below meth c R H locs cells slots ls hC hR hP hF hL hl)
/-- checkcast: to the object's own class; to another that it can be cast to; null -/
theorem r_castS {idx a ci : Nat} {fs : List Value} {C : String} {TT : u_T} {NN : Nat} (hc : clT[ci]? = some (C, TT, NN)) (h1 : Cond.classLink (mdY M).cls idx C ∈ lw_all) (k pn : Nat) (hd : (mdT M)[k]? = some (pc, .checkcast idx, 3)) (hn : pc + 3 = pn) (ho : Lk G w a (.inl (ci, fs))) (kk : Rn G M pn lv (.ref a :: st) w Q) : Rn G M pc lv (.ref a :: st) w Q := by
  intro hG hM p e s m args below meth c R H locs cells slots ls hC hR hP hF hL hl
  subst hn
  have hW := hC.2.2.2.2.2.2.2.1
  exact va_castE hC.1 hC.2.1 hC.2.2.2.2.2.1 (hG.word hW h1 args) (hP.recv hG hW ho hc) (mdD hM hd) (kk hG hM p e s m args below meth c R H locs cells slots ls hC hR hP hF hL hl)
theorem r_castY {idx a ci : Nat} {fs : List Value} {C nm : String} {TT : u_T} {NN : Nat} (hc : clT[ci]? = some (C, TT, NN)) (h1 : Cond.classLink (mdY M).cls idx nm ∈ lw_all) (h2 : Cond.castable C nm ∈ lw_tbl) (k pn : Nat) (hd : (mdT M)[k]? = some (pc, .checkcast idx, 3)) (hn : pc + 3 = pn) (ho : Lk G w a (.inl (ci, fs))) (kk : Rn G M pn lv (.ref a :: st) w Q) : Rn G M pc lv (.ref a :: st) w Q := by
  intro hG hM p e s m args below meth c R H locs cells slots ls hC hR hP hF hL hl
  subst hn
  have hW := hC.2.2.2.2.2.2.2.1
  exact va_castY hC.1 hC.2.1 hC.2.2.2.2.2.1 (hG.word hW h1 args) (va_Nw.warmC hW (hG.tbl h2 rfl)) (hP.recv hG hW ho hc) (mdD hM hd) (kk hG hM p e s m args below meth c R H locs cells slots ls hC hR hP hF hL hl)
theorem r_castN {idx : Nat} (k pn : Nat) (hd : (mdT M)[k]? = some (pc, .checkcast idx, 3)) (hn : pc + 3 = pn) (kk : Rn G M pn lv (.null :: st) w Q) : Rn G M pc lv (.null :: st) w Q := by
  intro hG hM p e s m args below meth c R H locs cells slots ls hC hR hP hF hL hl
  subst hn
  exact lv_castN hC.1 hC.2.1 (mdD hM hd) (kk hG hM p e s m args below meth c R H locs cells slots ls hC hR hP hF hL hl)
/-- checkcast of an array of references to its own class -/
theorem r_castA {idx a n : Nat} {C : String} {f : Nat → Value} (h1 : Cond.classLink (mdY M).cls idx ("[" ++ (FieldType.object C).toString) ∈ lw_all) (hA : FieldType.object C ∈ gTys) (k pn : Nat) (hd : (mdT M)[k]? = some (pc, .checkcast idx, 3)) (hn : pc + 3 = pn) (ho : Lk G w a (.inr (.object C, n, f))) (kk : Rn G M pn lv (.ref a :: st) w Q) : Rn G M pc lv (.ref a :: st) w Q := by
  intro hG hM p e s m args below meth c R H locs cells slots ls hC hR hP hF hL hl
  subst hn
  have hW := hC.2.2.2.2.2.2.2.1
  obtain ⟨cell, g1, g2, g3, g4, -⟩ := hP.at ho
  obtain ⟨kA, comp, r1, r2, r3, r4⟩ := (hG.arr hW hA).2
  exact va_castE hC.1 hC.2.1 hC.2.2.2.2.2.1 (hG.word hW h1 args) ⟨cell, g1, g2.2.1, by rw [g4 (Or.inl rfl)]; exact r4⟩ (mdD hM hd) (kk hG hM p e s m args below meth c R H locs cells slots ls hC hR hP hF hL hl)
/-- instanceof -/
theorem r_instS {idx a ci : Nat} {fs : List Value} {C : String} {TT : u_T} {NN : Nat} (hc : clT[ci]? = some (C, TT, NN)) (h1 : Cond.classLink (mdY M).cls idx C ∈ lw_all) (k pn : Nat) (hd : (mdT M)[k]? = some (pc, .instanceof idx, 3)) (hn : pc + 3 = pn) (ho : Lk G w a (.inl (ci, fs))) (kk : Rn G M pn lv (.int 1 :: st) w Q) : Rn G M pc lv (.ref a :: st) w Q := by
  intro hG hM p e s m args below meth c R H locs cells slots ls hC hR hP hF hL hl
  subst hn
  have hW := hC.2.2.2.2.2.2.2.1
  exact va_instE hC.1 hC.2.1 hC.2.2.2.2.2.1 (hG.word hW h1 args) (hP.recv hG hW ho hc) (mdD hM hd) (kk hG hM p e s m args below meth c R H locs cells slots ls hC hR hP hF hL hl)
theorem r_instY {idx a ci : Nat} {fs : List Value} {C nm : String} {TT : u_T} {NN : Nat} (hc : clT[ci]? = some (C, TT, NN)) (h1 : Cond.classLink (mdY M).cls idx nm ∈ lw_all) (h2 : Cond.castable C nm ∈ lw_tbl) (k pn : Nat) (hd : (mdT M)[k]? = some (pc, .instanceof idx, 3)) (hn : pc + 3 = pn) (ho : Lk G w a (.inl (ci, fs))) (kk : Rn G M pn lv (.int 1 :: st) w Q) : Rn G M pc lv (.ref a :: st) w Q := by
  intro hG hM p e s m args below meth c R H locs cells slots ls hC hR hP hF hL hl
  subst hn
  have hW := hC.2.2.2.2.2.2.2.1
  exact va_instY hC.1 hC.2.1 hC.2.2.2.2.2.1 (hG.word hW h1 args) (va_Nw.warmC hW (hG.tbl h2 rfl)) (hP.recv hG hW ho hc) (mdD hM hd) (kk hG hM p e s m args below meth c R H locs cells slots ls hC hR hP hF hL hl)
theorem r_instNo {idx a ci : Nat} {fs : List Value} {C nm : String} {TT : u_T} {NN : Nat} (hc : clT[ci]? = some (C, TT, NN)) (h1 : Cond.classLink (mdY M).cls idx nm ∈ lw_all) (h2 : va_Nc C nm (Gs G)) (k pn : Nat) (hd : (mdT M)[k]? = some (pc, .instanceof idx, 3)) (hn : pc + 3 = pn) (ho : Lk G w a (.inl (ci, fs))) (kk : Rn G M pn lv (.int 0 :: st) w Q) : Rn G M pc lv (.ref a :: st) w Q := by
  intro hG hM p e s m args below meth c R H locs cells slots ls hC hR hP hF hL hl
  subst hn
  have hW := hC.2.2.2.2.2.2.2.1
  exact va_instNo hC.1 hC.2.1 hC.2.2.2.2.2.1 (hG.word hW h1 args) (h2.moved hW.alike) (hP.recv hG hW ho hc) (mdD hM hd) (kk hG hM p e s m args below meth c R H locs cells slots ls hC hR hP hF hL hl)
/-- a nest mate's private field -/
theorem r_getN {idx ci i : Nat} {C host : String} {T : u_T} {NN : Nat} (hc : clT[ci]? = some (C, T, NN)) (hi : i < NN) (hl1 : Cond.fieldLinkNest (mdY M).cls idx (T i).1 (T i).2.1 (T i).2.2.1 host ∈ lw_tbl) {a : Nat} {fs : List Value} {v : Value} (k pn : Nat) (hd : (mdT M)[k]? = some (pc, .getfield idx, 3)) (hn : pc + 3 = pn) (ho : Lk G w a (.inl (ci, fs))) (hv : fs[i]? = some v) (kk : Rn G M pn lv (v :: st) w Q) : Rn G M pc lv (.ref a :: st) w Q := by
  intro hG hM p e s m args below meth c R H locs cells slots ls hC hR hP hF hL hl
  subst hn
  have hW := hC.2.2.2.2.2.2.2.1
  obtain ⟨r, cell, g1, g2, g3, g4, g5, g6⟩ := hP.at ho
  obtain ⟨cf, kf, fi, fd, q1, q2, q3⟩ := (hG.K hW hc).1 i hi
  exact va_Wgetf hC.1 hC.2.1 hC.2.2.2.2.2.1 (va_Nw.use rfl (va_Nw.warmF hW (hG.tbl hl1 rfl))) q1 q3 g3 g4.1 (v := v) (by rw [q2]; exact g6 i v hv) rfl rfl (mdD hM hd) (kk hG hM p e s m args below meth c R H locs cells slots ls hC hR hP hF hL hl)
end RB
/-! further calls -/
/-- the named method is declared in owner, a superclass of the one that is named, or itself; the method N is selected -/
def LkU (own : String) (idx : Nat) (C owner : String) (x : MethodName) (N : Md) (np : Nat) : Prop := mdOk N ∧ Cond.methodLink own idx x ∈ lw_all ∧ Cond.sameMethod x.cls owner x.name x.desc ∈ lw_all ∧ Cond.selects C x (mdY N) ∈ lw_all ∧ Cond.instanceMethod (mdY N) ∈ lw_all ∧ ((∃ (b : ByteArray) (L : Nat) (r : Option FieldType), Cond.instanceMethod ⟨owner, x.name, x.desc⟩ ∈ lw_all ∧ Cond.code ⟨owner, x.name, x.desc⟩ b L r ∈ lw_all) ∨ Cond.declares ⟨owner, x.name, x.desc⟩ ∈ lw_tbl) ∧ (owner ≠ "java/lang/invoke/MethodHandle" ∧ owner ≠ "java/lang/invoke/VarHandle") ∧ (parseMethodDescriptor x.desc).map (fun d => d.parameters.length) = some np
/-- a call through an interface -/
def LkF (own : String) (idx : Nat) (C : String) (x : MethodName) (N : Md) (np : Nat) : Prop := mdOk N ∧ Cond.methodLink own idx x ∈ lw_all ∧ Cond.selects C x (mdY N) ∈ lw_all ∧ Cond.instanceMethod (mdY N) ∈ lw_all ∧ Cond.declares x ∈ lw_tbl ∧ Cond.interfaceMethod x.cls x.cls x.name x.desc ∈ lw_tbl ∧ Cond.publicMethod (mdY N) ∈ lw_tbl ∧ Cond.unhidden C x.name x.desc ∈ lw_tbl ∧ Cond.castable C x.cls ∈ lw_tbl ∧ (x.cls ≠ "java/lang/invoke/MethodHandle" ∧ x.cls ≠ "java/lang/invoke/VarHandle") ∧ (parseMethodDescriptor x.desc).map (fun d => d.parameters.length) = some np
/-- super.m(..) -/
def LkP (own : String) (idx : Nat) (N : Md) (np : Nat) : Prop := mdOk N ∧ Cond.methodLink own idx (mdY N) ∈ lw_all ∧ Cond.sameMethod (mdY N).cls (mdY N).cls (mdY N).name (mdY N).desc ∈ lw_all ∧ Cond.superclass own (mdY N).cls ∈ lw_all ∧ Cond.instanceMethod (mdY N) ∈ lw_all ∧ (mdY N).name ≠ "<init>" ∧ (parseMethodDescriptor (mdY N).desc).map (fun d => d.parameters.length) = some np
/-- a nest mate's private constructor -/
def LkIN (own : String) (idx : Nat) (host : String) (N : Md) (np : Nat) : Prop := mdOk N ∧ Cond.methodLinkNest own idx (mdY N) host ∈ lw_tbl ∧ Cond.instanceMethod (mdY N) ∈ lw_all ∧ (mdY N).name = "<init>" ∧ mdH N = none ∧ mdR N = none ∧ ((mdY N).cls ≠ "java/lang/invoke/MethodHandle" ∧ (mdY N).cls ≠ "java/lang/invoke/VarHandle") ∧ (parseMethodDescriptor (mdY N).desc).map (fun d => d.parameters.length) = some np
section RC
variable {G : Gm} {M N : Md} {pc : Nat} {lv : List (Nat × Value)} {st : List Value} {w : Wd} {Q Q' : Rs → Wd → Prop}
theorem r_callU {idx np ci : Nat} {C owner : String} {x : MethodName} {TT : u_T} {NN : Nat} (hk : LkU (mdY M).cls idx C owner x N np) (hc : clT[ci]? = some (C, TT, NN)) {b : Nat} {fs : List Value} (ho : Lk G w b (.inl (ci, fs))) (k pn : Nat) (hd : (mdT M)[k]? = some (pc, .invokevirtual idx, 3)) (hn : pc + 3 = pn) (hlev : mdV N < mdV M) (as : List Value) {stk : List Value} (hs : as.reverse ++ .ref b :: st = stk) (hnp : as.length = np) (hsl : (lg_sl (.ref b :: as)).length ≤ mdL N) (hst : (st.map fun v => v.category).sum ≤ 20) (hE : Ev G N (.ref b :: as) w Q') (kk : ∀ r w', Q' r w' → Af G M pc pn lv st r w' Q) : Rn G M pc lv stk w Q := by
  intro hG hM p e s m args below meth c R H locs cells slots ls hC hR hP hF hL hl T hT X
  subst hs
  subst hT
  obtain ⟨hN, k1, k2, k3, k4, k5, k6, k7⟩ := hk
  have hW := hC.2.2.2.2.2.2.2.1
  have hd0 : va_Decl s ⟨owner, x.name, x.desc⟩ := by
    rcases k5 with ⟨bb, LL, rr, d1, d2⟩ | d1
    · exact va_Decl.of (hG.word hW d1 args) (hG.word hW d2 args)
    · exact va_Decl.abs (va_Nw.warmD hW (hG.tbl d1 rfl))
  obtain ⟨r0, r, hnr, hrm, hstR, hsigR⟩ := hd0
  obtain ⟨cell, g1, g2, hcls⟩ := hP.recv hG hW ho hc
  obtain ⟨cn, ck, r1, hcn, hck, hni, hf, hn1⟩ := Cond.sameMethod_found (hG.word hW k2 args)
  cases hnr.symm.trans hn1
  obtain ⟨mk, methM, hnamed, hmethM, -, habM⟩ := Cond.instanceMethod_spec (hG.word hW k4 args)
  obtain ⟨c2, r2, m2, q1, q2, q3, q4, kP, hkP, hkPi⟩ := Cond.selects_spec (hG.word hW k3 args)
  cases hcls.symm.trans q1
  cases hf.symm.trans q2
  cases hnamed.symm.trans q3
  have hselP : selectMethod e.platform s.vm cell.cls r0 = .method mk := by rw [Launch.admits_selectMethod X.admits]; exact q4
  have hdg : decode c.code pc = .ok (.invokevirtual idx, 3) := by rw [hC.2.1]; exact mdD hM hd
  obtain ⟨vm₁, X₁, hstep₁⟩ := X.invokevirtualUp hC.1 hC.2.2.2.2.2.1 (hG.word hW k1 args) (hG.word hW k2 args) k6 hnr hrm hstR (a := b) (cell := cell) g1
    (fun z h => by rw [h] at g2; cases g2) hselP hmethM habM hkP hkPi (g := F0 m pc ls (as.reverse ++ .ref b :: st)) rfl (argsL := as) (rest := st) (hnp.trans (np_of k7 _ hsigR)) rfl hdg
  obtain ⟨t, ht, hE⟩ := call_end hG hM hC X₁ hR hP hF hL hN hlev hE hsl (X₁.named hnamed) hl hst hdg hn kk
  exact ⟨t, hstep₁ t ht, hE⟩
theorem r_callF {idx cnt np ci : Nat} {C : String} {x : MethodName} {TT : u_T} {NN : Nat} (hk : LkF (mdY M).cls idx C x N np) (hc : clT[ci]? = some (C, TT, NN)) {b : Nat} {fs : List Value} (ho : Lk G w b (.inl (ci, fs))) (k pn : Nat) (hd : (mdT M)[k]? = some (pc, .invokeinterface idx cnt, 5)) (hn : pc + 5 = pn) (hlev : mdV N < mdV M) (as : List Value) {stk : List Value} (hs : as.reverse ++ .ref b :: st = stk) (hnp : as.length = np) (hsl : (lg_sl (.ref b :: as)).length ≤ mdL N) (hst : (st.map fun v => v.category).sum ≤ 20) (hE : Ev G N (.ref b :: as) w Q') (kk : ∀ r w', Q' r w' → Af G M pc pn lv st r w' Q) : Rn G M pc lv stk w Q := by
  intro hG hM p e s m args below meth c R H locs cells slots ls hC hR hP hF hL hl T hT X
  subst hs
  subst hT
  obtain ⟨hN, k1, k2, k3, k4, k5, k6, k7, k8, hx, kn⟩ := hk
  have hW := hC.2.2.2.2.2.2.2.1
  have hFw0 : va_Fw C x (mdY N) (Gs G) := ⟨hG.tbl k4 rfl, hG.tbl k5 rfl, hG.tbl k6 rfl, hG.tbl k7 rfl, hG.tbl k8 rfl⟩
  obtain ⟨hdecl, hface, hpub, hunh, hcast⟩ := va_Fw.moved hx hW.alike hFw0
  obtain ⟨cell, g1, g2, hcls⟩ := hP.recv hG hW ho hc
  obtain ⟨kB, hkB, -⟩ := Vm.findClass_spec hcls
  obtain ⟨r0, r, hnr, hrm, hstR, hsigR⟩ := Cond.declares_spec hdecl
  obtain ⟨cL, kL, r1, hcL, hkL, hiL, hfoundL, hn1⟩ := Cond.interfaceMethod_spec hface
  cases hnr.symm.trans hn1
  have hr0cls : r0.cls = cL := Option.some.inj ((findClass_of_methodNamed hnr).symm.trans hcL)
  obtain ⟨hnameR, hdescR⟩ := name_of_methodNamed hnr hrm
  obtain ⟨mk, methM, hnamed, hmethM, -, habM⟩ := Cond.instanceMethod_spec (hG.word hW k3 args)
  obtain ⟨c2, r2, m2, q1, q2, q3, q4, -⟩ := Cond.selects_spec (hG.word hW k2 args)
  cases hcls.symm.trans q1
  cases hfoundL.symm.trans q2
  cases hnamed.symm.trans q3
  have hselP : selectMethod e.platform s.vm cell.cls r0 = .method mk := by rw [Launch.admits_selectMethod X.admits]; exact q4
  have hpubM : hasFlag methM.accessFlags Acc.public_ = true := Cond.publicMethod_spec hnamed hmethM hpub
  have hway : ((cell.cls :: s.vm.superclasses cell.cls).any fun k => (declaredIn s.vm r.name r.desc k).any fun (_, z) => z.isPrivate || z.isStatic) = false := by
    rw [hnameR, hdescR]; exact Cond.unhidden_spec hcls hunh
  obtain ⟨c3, t3, w1, w2, w3⟩ := Cond.castable_spec hcast
  cases hcls.symm.trans w1
  cases hcL.symm.trans w2
  have hdg : decode c.code pc = .ok (.invokeinterface idx cnt, 5) := by rw [hC.2.1]; exact mdD hM hd
  obtain ⟨vm₁, X₁, hstep₁⟩ := X.invokeinterface hC.1 hC.2.2.2.2.2.1 (hG.word hW k1 args) hnr hrm hstR (by rw [hr0cls]; exact hkL) hiL hx (a := b) (cell := cell) (kcell := kB) g1
    (fun z h => by rw [h] at g2; cases g2) hkB (by rw [hr0cls]; exact w3) hselP hmethM hway hpubM habM (g := F0 m pc ls (as.reverse ++ .ref b :: st)) rfl (argsL := as) (rest := st) (hnp.trans (np_of kn _ hsigR)) rfl hdg
  obtain ⟨t, ht, hE⟩ := call_end hG hM hC X₁ hR hP hF hL hN hlev hE hsl (X₁.named hnamed) hl hst hdg hn kk
  exact ⟨t, hstep₁ t ht, hE⟩
theorem r_callP {idx np ci : Nat} {C : String} {TT : u_T} {NN : Nat} (hk : LkP (mdY M).cls idx N np) (hc : clT[ci]? = some (C, TT, NN)) {b : Nat} {fs : List Value} (ho : Lk G w b (.inl (ci, fs))) (k pn : Nat) (hd : (mdT M)[k]? = some (pc, .invokespecial idx, 3)) (hn : pc + 3 = pn) (hlev : mdV N < mdV M) (as : List Value) {stk : List Value} (hs : as.reverse ++ .ref b :: st = stk) (hnp : as.length = np) (hsl : (lg_sl (.ref b :: as)).length ≤ mdL N) (hst : (st.map fun v => v.category).sum ≤ 20) (hE : Ev G N (.ref b :: as) w Q') (kk : ∀ r w', Q' r w' → Af G M pc pn lv st r w' Q) : Rn G M pc lv stk w Q := by
  intro hG hM p e s m args below meth c R H locs cells slots ls hC hR hP hF hL hl T hT X
  subst hs
  subst hT
  obtain ⟨hN, k1, k2, k3, k4, hno, kn⟩ := hk
  have hW := hC.2.2.2.2.2.2.2.1
  obtain ⟨cell, g1, g2, hcls⟩ := hP.recv hG hW ho hc
  obtain ⟨kB, hkB, -⟩ := Vm.findClass_spec hcls
  obtain ⟨mk, methM, hnamed, hmethM, hstM, habM⟩ := Cond.instanceMethod_spec (hG.word hW k4 args)
  obtain ⟨methk, ck, h1, h2, h3, h4, h5, h6, h7, h8⟩ := md_at hN (hG.word hW hN.2.1 args) hnamed
  cases hmethM.symm.trans h1
  have hown := hC.2.2.2.2.2.1
  obtain ⟨ps, dk, kp, hps, hdk, hkp, hsuper, -, -, hnid⟩ := Cond.superclass_spec hown (hG.word hW k3 args)
  have hnn : s.methodNamed? ⟨(mdY N).cls, (mdY N).name, (mdY N).desc⟩ = some mk := hnamed
  have hpm : ps = mk.cls := Option.some.inj (hps.symm.trans (findClass_of_methodNamed hnamed))
  have hsub : s.vm.isSubclass ps mk.cls = true := by rw [hpm]; simp [Vm.isSubclass, Vm.isSubclassAux]
  have hdg : decode c.code pc = .ok (.invokespecial idx, 3) := by rw [hC.2.1]; exact mdD hM hd
  obtain ⟨vm₁, X₁, hstep₁⟩ := X.invokespecialUp hC.1 hown (hG.word hW k1 args) (hG.word hW k2 args) hnn h1 hstM habM hno hdk hnid hps hsuper hsub (a := b) (cell := cell) g1
    (fun z h => by rw [h] at g2; cases g2) hkB (g := F0 m pc ls (as.reverse ++ .ref b :: st)) rfl (argsL := as) (rest := st) (hnp.trans (np_of kn _ h8)) rfl hdg
  obtain ⟨t, ht, hE⟩ := call_end hG hM hC X₁ hR hP hF hL hN hlev hE hsl (X₁.named hnamed) hl hst hdg hn kk
  exact ⟨t, hstep₁ t (by rw [doInvoke_state]; exact ht []), hE⟩
theorem r_callIN {idx np : Nat} {host : String} (hk : LkIN (mdY M).cls idx host N np) {b : Nat} (k pn : Nat) (hd : (mdT M)[k]? = some (pc, .invokespecial idx, 3)) (hn : pc + 3 = pn) (hlev : mdV N < mdV M) (as : List Value) {stk : List Value} (hs : as.reverse ++ .ref b :: st = stk) (hnp : as.length = np) (hsl : (lg_sl (.ref b :: as)).length ≤ mdL N) (hst : (st.map fun v => v.category).sum ≤ 20) (hE : Ev G N (.ref b :: as) w Q') (kk : ∀ r w', Q' r w' → Af G M pc pn lv st r w' Q) : Rn G M pc lv stk w Q := by
  intro hG hM p e s m args below meth c R H locs cells slots ls hC hR hP hF hL hl T hT X
  subst hs
  subst hT
  obtain ⟨hN, k1, k2, k5, k6, k7, k3, k4⟩ := hk
  have hW := hC.2.2.2.2.2.2.2.1
  have hcode : (Cond.code (mdY N) (mdC N) (mdL N) none).before args s = true := by
    have h := hG.word hW hN.2.1 args
    unfold mdW at h
    rw [k6] at h
    rw [← k7]
    exact h
  have hpl : e.platform.magicAccessors = ({} : Platform).magicAccessors := by rw [X.admits.platform]
  have hdg : decode c.code pc = .ok (.invokespecial idx, 3) := by rw [hC.2.1]; exact mdD hM hd
  obtain ⟨mk, methM, cM, kP, vm₁, hnamed, hmethM, hcodeM, -, hlocalsM, -, hkP, -, hW₁, hstep₁⟩ := Steps.initColdArgsNest (e := e) X.here hC.1 X.warmed hpl hC.2.2.2.2.2.1 k5 k3 (va_Nw.use (A := args) rfl (va_Nw.warmM hW (hG.tbl k1 rfl))) (hG.word hW k2 args) hcode (f := F0 m pc ls (as.reverse ++ .ref b :: st)) rfl (fun sig h => hnp.trans (np_of k4 sig h)) rfl hdg
  have X₁ := X.noted hW₁
  obtain ⟨t, ht, hE⟩ := call_end hG hM hC X₁ hR hP hF hL hN hlev hE hsl (X₁.named hnamed) hl hst hdg hn kk
  exact ⟨t, hstep₁ t ht, hE⟩
end RC
