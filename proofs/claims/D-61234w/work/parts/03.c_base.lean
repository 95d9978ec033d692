set_option maxRecDepth 100000
/-! the classes whose objects are made, by numbers -/
def TE : u_T := fun k => match k with
  | 0 => ("java/lang/Throwable", "backtrace", "Ljava/lang/Object;", false)
  | 1 => ("java/lang/Throwable", "cause", "Ljava/lang/Throwable;", false)
  | 2 => ("java/lang/Throwable", "stackTrace", "[Ljava/lang/StackTraceElement;", false)
  | 3 => ("java/lang/Throwable", "suppressedExceptions", "Ljava/util/List;", false)
  | _ => ("java/lang/Throwable", "detailMessage", "Ljava/lang/String;", false)
def TE5 : u_T := fun k => match k with
  | 0 => ("ExchangeText$WrongPlace", "place", "I", true)
  | 1 => ("java/lang/Throwable", "backtrace", "Ljava/lang/Object;", false)
  | 2 => ("java/lang/Throwable", "cause", "Ljava/lang/Throwable;", false)
  | 3 => ("java/lang/Throwable", "stackTrace", "[Ljava/lang/StackTraceElement;", false)
  | 4 => ("java/lang/Throwable", "suppressedExceptions", "Ljava/util/List;", false)
  | _ => ("java/lang/Throwable", "detailMessage", "Ljava/lang/String;", false)
def TX6 : u_T := fun _ => ("java/lang/Enum", "ordinal", "I", true)
abbrev clT : List vw_C := [(RX1, TX1, 4), (RJ1, TJ1, 4), (RJ2, TJ2, 4), (RJ6, TJ6, 3), (RJ8, TJ8, 9), (RX2, TX2, 25), (RJ9, TJ9, 5), (RJ12, TE, 5), (RJ13, TE, 5), (RJ20, TJ20, 1), (RX3, TX3, 2), (RX4, TX4, 3), (RX5, TE5, 6), (RJ21, TJ21, 3), (RJ22, TJ22, 4), (RX7, TX7, 3), (RX8, TX8, 3), (RJ29, TJ29, 6), (RJ31, TJ31, 1), (RJ33, TJ33, 4), (RX6, TX6, 1)]
abbrev nX6 : Nat := 20
abbrev nX1 : Nat := 0
abbrev nJ1 : Nat := 1
abbrev nJ2 : Nat := 2
abbrev nJ6 : Nat := 3
abbrev nJ8 : Nat := 4
abbrev nX2 : Nat := 5
abbrev nJ9 : Nat := 6
abbrev nJ12 : Nat := 7
abbrev nJ13 : Nat := 8
abbrev nJ20 : Nat := 9
abbrev nX3 : Nat := 10
abbrev nX4 : Nat := 11
abbrev nX5 : Nat := 12
abbrev nJ21 : Nat := 13
abbrev nJ22 : Nat := 14
abbrev nX7 : Nat := 15
abbrev nX8 : Nat := 16
abbrev nJ29 : Nat := 17
abbrev nJ31 : Nat := 18
abbrev nJ33 : Nat := 19
/-- an object: the number of its class, its fields; or an array: its components' type, its length, what it holds -/
abbrev Ob : Type := (Nat × List Value) ⊕ (FieldType × Nat × (Nat → Value))
/-- a world: what lies where; the next address; the room that is left -/
abbrev Wd : Type := (Nat → Option Ob) × Nat × Nat
/-- how a method ends: it returns, or it throws the object there -/
abbrev Rs : Type := Option Value ⊕ Nat
def rsOut (r : Rs) : Outcome := match r with
  | .inl v => .returned v
  | .inr a => .threw a
/-- what is fixed for a whole run: launch, the state at the law's start, numbers of classes and slots, array classes -/
abbrev Gm : Type := Launch × State × va_G × (FieldType → ClassId)
abbrev Gl (G : Gm) : Launch := G.1
abbrev Gs (G : Gm) : State := G.2.1
abbrev GD (G : Gm) : va_G := G.2.2.1
abbrev GA (G : Gm) : FieldType → ClassId := G.2.2.2
abbrev gN (G : Gm) : Nat := (Gs G).heap.size
/-- a method: its name, code, number of locals, answer, handlers, level, and its instructions -/
abbrev Md : Type := MethodName × ByteArray × Nat × Option FieldType × Option (List (Nat × Nat × Nat × Nat)) × Nat × List (Nat × Instr × Nat)
abbrev mdY (M : Md) : MethodName := M.1
abbrev mdC (M : Md) : ByteArray := M.2.1
abbrev mdL (M : Md) : Nat := M.2.2.1
abbrev mdR (M : Md) : Option FieldType := M.2.2.2.1
abbrev mdH (M : Md) : Option (List (Nat × Nat × Nat × Nat)) := M.2.2.2.2.1
abbrev mdV (M : Md) : Nat := M.2.2.2.2.2.1
abbrev mdT (M : Md) : List (Nat × Instr × Nat) := M.2.2.2.2.2.2
def mdW (M : Md) : Cond := match mdH M with
  | none => .code (mdY M) (mdC M) (mdL M) (mdR M)
  | some hh => .codeWith (mdY M) (mdC M) (mdL M) (mdR M) hh
def mdDc (M : Md) : Prop := ∀ q ∈ mdT M, decode (mdC M) q.1 = .ok q.2
def mdOk (M : Md) : Prop := plainFor (mdY M) = true ∧ mdW M ∈ lw_all ∧ Cond.initialized (mdY M).cls ∈ lw_all ∧ mdL M ≤ 30 ∧ mdDc M
theorem mdD {M : Md} (h : mdDc M) {k pc n : Nat} {i : Instr} (hd : (mdT M)[k]? = some (pc, i, n)) : decode (mdC M) pc = .ok (i, n) := h (pc, i, n) (List.mem_of_getElem? hd)
/-- a cell that may be read; one that was made since the start is plain, its monitor free -/
def vmOk (G : Gm) (a : Nat) (cell : Cell) : Prop := cell.vm ≠ .unknown ∧ cell.vm.isStatics = false ∧ (gN G ≤ a → cell.vm = .none ∧ cell.monitor.owner = none ∧ cell.monitor.count = 0)
def obAt (G : Gm) (a : Nat) (o : Ob) (H : Heap) : Prop := match o with
  | .inl x => ∃ (r : vw_C) (cell : Cell), clT[x.1]? = some r ∧ x.2.length ≤ r.2.2 ∧ H[a]? = some cell ∧ vmOk G a cell ∧ cell.cls = (GD G).1 x.1 ∧ ∀ (k : Nat) (v : Value), x.2[k]? = some v → cell.slots[(GD G).2 x.1 k]? = some v
  | .inr x => ∃ cell : Cell, H[a]? = some cell ∧ vmOk G a cell ∧ (Gs G).isArrayOf cell x.1 ∧ (x.1.isReference = true ∨ gN G ≤ a → cell.cls = GA G x.1) ∧ (x.2.1 ≤ cell.slots.size ∧ (gN G ≤ a → cell.slots.size = x.2.1)) ∧ cell.slots.size.toInt32 = nI x.2.1 ∧ ∀ j : Nat, j < x.2.1 → cell.slots[j]? = some (x.2.2 j)
theorem obAt.cell {G : Gm} {a : Nat} {o : Ob} {H : Heap} (h : obAt G a o H) : ∃ cell : Cell, H[a]? = some cell ∧ vmOk G a cell := by
  cases o with
  | inl x =>
    obtain ⟨r, cell, -, -, h1, h2, -⟩ := h
    exact ⟨cell, h1, h2⟩
  | inr x =>
    obtain ⟨cell, h1, h2, -⟩ := h
    exact ⟨cell, h1, h2⟩
theorem obAt.kept {G : Gm} {a : Nat} {o : Ob} {H H1 : Heap} (h : obAt G a o H) (hq : H1[a]? = H[a]?) : obAt G a o H1 := by
  cases o with
  | inl x =>
    obtain ⟨r, cell, h1, h2, h3, h4⟩ := h
    exact ⟨r, cell, h1, h2, hq.trans h3, h4⟩
  | inr x =>
    obtain ⟨cell, h1, h2⟩ := h
    exact ⟨cell, hq.trans h1, h2⟩
theorem obAt.lt {G : Gm} {a : Nat} {o : Ob} {H : Heap} (h : obAt G a o H) : a < H.size := by
  obtain ⟨cell, h1, -⟩ := h.cell
  exact (Array.getElem?_eq_some_iff.mp h1).1
/-- what the tables say of a class: where its fields lie, its number -/
def kN (U : State) (C : String) (T : u_T) (N : Nat) (cC : ClassId) (iS : Nat → Nat) : Prop := (∀ k, k < N → ∃ (cf : ClassId) (kf : Class) (fi : Nat) (fd : Field), U.fieldFound? (T k).1 (T k).2.1 (T k).2.2.1 = some (cf, kf, fi, fd) ∧ fd.slot = iS k ∧ fd.isStatic = false) ∧ U.vm.findClass C = some cC ∧ ∃ kC : Class, U.vm.classes[cC]? = some kC
theorem kN.moved {u U : State} {C : String} {T : u_T} {N : Nat} {cC : ClassId} {iS : Nat → Nat} (hvm : u.vm.Alike U.vm) (h : kN u C T N cC iS) : kN U C T N cC iS := by
  obtain ⟨h1, h2, kC, h3⟩ := h
  refine ⟨fun k hk => ?_, by rw [hvm.findClass]; exact h2, ?_⟩
  · obtain ⟨cf, kf, fi, fd, g1, g2, g3⟩ := h1 k hk
    obtain ⟨k', hi', -⟩ := State.fieldFound?_setVm hvm g1
    exact ⟨cf, k', fi, fd, hi', g2, g3⟩
  · obtain ⟨k', hk', -⟩ := hvm.2.2 _ _ h3
    exact ⟨k', hk'⟩
def Rp (G : Gm) (w : Wd) (H : Heap) : Prop := (∀ a o, w.1 a = some o → gN G ≤ a ∧ obAt G a o H) ∧ H.size = w.2.1 ∧ gN G ≤ w.2.1 ∧ ∀ a : Nat, a < gN G → H[a]? = (Gs G).heap[a]?
/-- o lies at a: it has been made, or it was there at the start and is as it was -/
def Lk (G : Gm) (w : Wd) (a : Nat) (o : Ob) : Prop := w.1 a = some o ∨ (a < gN G ∧ obAt G a o (Gs G).heap)
theorem Lk.of {G : Gm} {w : Wd} {a : Nat} {o : Ob} (h : w.1 a = some o) : Lk G w a o := Or.inl h
theorem Rp.at {G : Gm} {w : Wd} {H : Heap} (h : Rp G w H) {a : Nat} {o : Ob} (ho : Lk G w a o) : obAt G a o H := by
  rcases ho with ho | ⟨h1, h2⟩
  · exact (h.1 a o ho).2
  · exact h2.kept (h.2.2.2 a h1)
/-- the component types of the arrays that are made or read -/
abbrev gTys : List FieldType := [.int, .byte, .long, .boolean, .object "java/lang/Object", .object "ExchangeText$Line", .object "ExchangeText$Sort"]
def Gok (G : Gm) : Prop := ∃ b : Nat, (∀ x ∈ lw_tbl, x.before #[Value.ref b] (Gs G) = true) ∧ (Jvm.Cond.and given_1 narrow_1).before #[Value.ref b] (Gs G) = true ∧ (∀ (c : Nat) (q : vw_C), clT[c]? = some q → kN (Gs G) q.1 q.2.1 q.2.2 ((GD G).1 c) ((GD G).2 c)) ∧ (∀ ty ∈ gTys, ArrOfT (Gs G) (GA G ty) ty ∧ va_RA (Gs G) (GA G ty) ty) ∧ (Gl G).flags = flags0
def Fit (R : Room) (cells slots g : Nat) : Prop := 12 * cells + g ≤ 12 * R.cells ∧ slots + g ≤ R.slots
def Rm (R : Room) (M : Md) : Prop := mdV M ≤ R.frames ∧ 64 * mdV M ≤ R.locals
def hdl (M : Md) (c : Code) : Prop := c.exceptionTable.toList.map (fun h => (h.startPc, h.endPc, h.handlerPc, h.catchType)) = (mdH M).getD []
def Cx (G : Gm) (M : Md) (p : Program) (s : State) (m : MethodId) (meth : Method) (c : Code) : Prop := p.tables.exec = Jvm.exec ∧ c.code = mdC M ∧ meth.sig.returnType = mdR M ∧ c.maxLocals = mdL M ∧ meth.locks = false ∧ s.vm.findClass (mdY M).cls = some m.cls ∧ meth.name = (mdY M).name ∧ (Gs G).WarmedH s.vm ∧ hdl M c ∧ ∀ a : Nat, a < gN G → s.heap[a]? = (Gs G).heap[a]?
def EndQ (G : Gm) (below : List Frame) (s : State) (R : Room) (Q : Rs → Wd → Prop) (t : State) : Prop := ∃ (r : Rs) (w : Wd), Q r w ∧ t.status = .running ∧ Ended t below (rsOut r) ∧ Rp G w t.heap ∧ s.WarmedH t.vm ∧ ∃ (L : List Loc) (k n : Nat), s.sameButNew ({ t with vm := s.vm } : State) L k n ∧ (∀ q ∈ L, gN G ≤ q.base) ∧ Fit R k n w.2.2
/-- THE JUDGEMENT: in whatever frame of M the machine stands at pc, with these locals and operands, in a heap that holds the world w: M comes to an end r, in a world w', with Q r w' -/
def Rn (G : Gm) (M : Md) (pc : Nat) (lv : List (Nat × Value)) (st : List Value) (w : Wd) (Q : Rs → Wd → Prop) : Prop :=
  Gok G → mdDc M → ∀ (p : Program) (e : Env) (s : State) (m : MethodId) (args : Array Value) (below : List Frame) (meth : Method) (c : Code) (R : Room) (H : Heap) (locs : List Loc) (cells slots : Nat) (ls : Array Slot),
    Cx G M p s m meth c → Rm R M → Rp G w H → Fit R cells slots w.2.2 → (∀ q ∈ locs, gN G ≤ q.base) → lv_has ls (mdL M) lv →
    W p (Gl G) e R s m args below meth c H locs cells slots (EndQ G below s R Q) (F0 m pc ls st)
/-- a call of M: its arguments as its first locals -/
def Ev (G : Gm) (M : Md) (as : List Value) (w : Wd) (Q : Rs → Wd → Prop) : Prop := Rn G M 0 (lv_args 0 as) [] w Q
theorem Rn.mono {G : Gm} {M : Md} {pc : Nat} {lv : List (Nat × Value)} {st : List Value} {w : Wd} {Q Q' : Rs → Wd → Prop} (h : Rn G M pc lv st w Q) (hq : ∀ r w', Q r w' → Q' r w') : Rn G M pc lv st w Q' := by
  intro hG hM p e s m args below meth c R H locs cells slots ls hC hR hP hF hL hl T hT X
  obtain ⟨t, a, r, w', h1, h2⟩ := h hG hM p e s m args below meth c R H locs cells slots ls hC hR hP hF hL hl T hT X
  exact ⟨t, a, r, w', hq r w' h1, h2⟩
theorem Rn.gok {G : Gm} {M : Md} {pc : Nat} {lv : List (Nat × Value)} {st : List Value} {w : Wd} {Q : Rs → Wd → Prop} (h : Gok G → Rn G M pc lv st w Q) : Rn G M pc lv st w Q := fun hG => h hG hG
/-- the world's own facts: what has been made lies behind the start and below the next address -/
def Wok (G : Gm) (w : Wd) : Prop := (∀ a o, w.1 a = some o → gN G ≤ a ∧ a < w.2.1) ∧ gN G ≤ w.2.1
theorem Rp.wok {G : Gm} {w : Wd} {H : Heap} (h : Rp G w H) : Wok G w := ⟨fun a o ho => ⟨(h.1 a o ho).1, by rw [← h.2.1]; exact (h.1 a o ho).2.lt⟩, h.2.2.1⟩
theorem Rn.wok {G : Gm} {M : Md} {pc : Nat} {lv : List (Nat × Value)} {st : List Value} {w : Wd} {Q : Rs → Wd → Prop} (h : Wok G w → Rn G M pc lv st w Q) : Rn G M pc lv st w Q := by
  intro hG hM p e s m args below meth c R H locs cells slots ls hC hR hP hF hL hl
  exact h hP.wok hG hM p e s m args below meth c R H locs cells slots ls hC hR hP hF hL hl
/-- .. and at the end -/
theorem Rn.mono' {G : Gm} {M : Md} {pc : Nat} {lv : List (Nat × Value)} {st : List Value} {w : Wd} {Q Q' : Rs → Wd → Prop} (h : Rn G M pc lv st w Q) (hq : ∀ r w', Wok G w' → Q r w' → Q' r w') : Rn G M pc lv st w Q' := by
  intro hG hM p e s m args below meth c R H locs cells slots ls hC hR hP hF hL hl T hT X
  obtain ⟨t, a, r, w', h1, h2, h3, h4, h5⟩ := h hG hM p e s m args below meth c R H locs cells slots ls hC hR hP hF hL hl T hT X
  exact ⟨t, a, r, w', hq r w' h4.wok h1, h2, h3, h4, h5⟩
theorem Gok.word {G : Gm} (hG : Gok G) {s : State} (hW : (Gs G).WarmedH s.vm) {x : Cond} (hx : x ∈ lw_all) (args : Array Value) : x.before args s = true := by
  obtain ⟨b, h, -⟩ := hG
  exact word_at hW (lw_self x hx).2 (h x (lw_all_tbl hx))
theorem Gok.words {G : Gm} (hG : Gok G) {s : State} (hW : (Gs G).WarmedH s.vm) (args : Array Value) : ∀ x ∈ lw_all, x.before args s = true := fun _ hx => hG.word hW hx args
theorem Gok.K {G : Gm} (hG : Gok G) {s : State} (hW : (Gs G).WarmedH s.vm) {c : Nat} {q : vw_C} (hq : clT[c]? = some q) : kN s q.1 q.2.1 q.2.2 ((GD G).1 c) ((GD G).2 c) := by
  obtain ⟨b, -, -, h, -⟩ := hG
  exact (h c q hq).moved hW.alike
theorem Gok.arr0 {G : Gm} (hG : Gok G) {ty : FieldType} (ht : ty ∈ gTys) : ArrOfT (Gs G) (GA G ty) ty ∧ va_RA (Gs G) (GA G ty) ty := by
  obtain ⟨b, -, -, -, h, -⟩ := hG
  exact h ty ht
theorem Gok.arr {G : Gm} (hG : Gok G) {s : State} (hW : (Gs G).WarmedH s.vm) {ty : FieldType} (ht : ty ∈ gTys) : ArrOfT s (GA G ty) ty ∧ va_RA s (GA G ty) ty := by
  obtain ⟨b, -, -, -, h, -⟩ := hG
  exact ⟨arrOfT_moved hW.alike (h ty ht).1, (h ty ht).2.moved hW.alike⟩
section RR
variable {G : Gm} {M : Md} {pc : Nat} {lv : List (Nat × Value)} {st : List Value} {w : Wd} {Q : Rs → Wd → Prop}
/-- fewer locals, in any order: by their places -/
theorem r_sub {lv' : List (Nat × Value)} (ks : List Nat) (h : lv_pick lv ks = lv') (kk : Rn G M pc lv' st w Q) : Rn G M pc lv st w Q := by
  intro hG hM p e s m args below meth c R H locs cells slots ls hC hR hP hF hL hl
  exact kk hG hM p e s m args below meth c R H locs cells slots ls hC hR hP hF hL (lv_sub hl ks h)
theorem r_gas {g : Nat} (h : g ≤ w.2.2) (kk : Rn G M pc lv st (w.1, w.2.1, g) Q) : Rn G M pc lv st w Q := by
  intro hG hM p e s m args below meth c R H locs cells slots ls hC hR hP hF hL hl
  refine kk hG hM p e s m args below meth c R H locs cells slots ls hC hR hP ⟨?_, ?_⟩ hL hl
  · have := hF.1; show 12 * cells + g ≤ _; omega
  · have := hF.2; show slots + g ≤ _; omega
theorem r_iconst {i : Int} (k pn : Nat) (hd : (mdT M)[k]? = some (pc, .iconst i, 1)) (hn : pc + 1 = pn) {v : Int32} (hv : Int32.ofInt i = v) (kk : Rn G M pn lv (.int v :: st) w Q) : Rn G M pc lv (st) w Q := by
  intro hG hM p e s m args below meth c R H locs cells slots ls hC hR hP hF hL hl
  subst hn
  exact lv_iconst hC.1 hC.2.1 (mdD hM hd) hv (kk hG hM p e s m args below meth c R H locs cells slots ls hC hR hP hF hL hl)
theorem r_bipush {i : Int} (k pn : Nat) (hd : (mdT M)[k]? = some (pc, .bipush i, 2)) (hn : pc + 2 = pn) {v : Int32} (hv : (Int8.ofInt i).toInt32 = v) (kk : Rn G M pn lv (.int v :: st) w Q) : Rn G M pc lv (st) w Q := by
  intro hG hM p e s m args below meth c R H locs cells slots ls hC hR hP hF hL hl
  subst hn
  exact lv_bipush hC.1 hC.2.1 (mdD hM hd) hv (kk hG hM p e s m args below meth c R H locs cells slots ls hC hR hP hF hL hl)
theorem r_sipush {i : Int} (k pn : Nat) (hd : (mdT M)[k]? = some (pc, .sipush i, 3)) (hn : pc + 3 = pn) {v : Int32} (hv : (Int16.ofInt i).toInt32 = v) (kk : Rn G M pn lv (.int v :: st) w Q) : Rn G M pc lv (st) w Q := by
  intro hG hM p e s m args below meth c R H locs cells slots ls hC hR hP hF hL hl
  subst hn
  exact lv_sipush hC.1 hC.2.1 (mdD hM hd) hv (kk hG hM p e s m args below meth c R H locs cells slots ls hC hR hP hF hL hl)
theorem r_lconst {i : Fin 2} (k pn : Nat) (hd : (mdT M)[k]? = some (pc, .lconst i, 1)) (hn : pc + 1 = pn) {v : Int64} (hv : Int64.ofNat (i : Nat) = v) (kk : Rn G M pn lv (.long v :: st) w Q) : Rn G M pc lv (st) w Q := by
  intro hG hM p e s m args below meth c R H locs cells slots ls hC hR hP hF hL hl
  subst hn
  exact lv_lconst hC.1 hC.2.1 (mdD hM hd) hv (kk hG hM p e s m args below meth c R H locs cells slots ls hC hR hP hF hL hl)
theorem r_iload_n {i : Fin 4} {x : Int32} (k pn j : Nat) (hd : (mdT M)[k]? = some (pc, .iload_n i, 1)) (hn : pc + 1 = pn) (hj : lv[j]? = some ((i : Nat), .int x)) (kk : Rn G M pn lv (.int x :: st) w Q) : Rn G M pc lv st w Q := by
  intro hG hM p e s m args below meth c R H locs cells slots ls hC hR hP hF hL hl
  subst hn
  exact lv_iload_n hC.1 hC.2.1 (mdD hM hd) rfl (lv_at hl j hj) (kk hG hM p e s m args below meth c R H locs cells slots ls hC hR hP hF hL hl)
theorem r_iload {i : Nat} {x : Int32} (k pn j : Nat) (hd : (mdT M)[k]? = some (pc, .iload i, 2)) (hn : pc + 2 = pn) (hj : lv[j]? = some (i, .int x)) (kk : Rn G M pn lv (.int x :: st) w Q) : Rn G M pc lv st w Q := by
  intro hG hM p e s m args below meth c R H locs cells slots ls hC hR hP hF hL hl
  subst hn
  exact lv_iload hC.1 hC.2.1 (mdD hM hd) (lv_at hl j hj) (kk hG hM p e s m args below meth c R H locs cells slots ls hC hR hP hF hL hl)
theorem r_lload_n {i : Fin 4} {x : Int64} (k pn j : Nat) (hd : (mdT M)[k]? = some (pc, .lload_n i, 1)) (hn : pc + 1 = pn) (hj : lv[j]? = some ((i : Nat), .long x)) (kk : Rn G M pn lv (.long x :: st) w Q) : Rn G M pc lv st w Q := by
  intro hG hM p e s m args below meth c R H locs cells slots ls hC hR hP hF hL hl
  subst hn
  exact lv_lload_n hC.1 hC.2.1 (mdD hM hd) rfl (lv_at hl j hj) (kk hG hM p e s m args below meth c R H locs cells slots ls hC hR hP hF hL hl)
theorem r_lload {i : Nat} {x : Int64} (k pn j : Nat) (hd : (mdT M)[k]? = some (pc, .lload i, 2)) (hn : pc + 2 = pn) (hj : lv[j]? = some (i, .long x)) (kk : Rn G M pn lv (.long x :: st) w Q) : Rn G M pc lv st w Q := by
  intro hG hM p e s m args below meth c R H locs cells slots ls hC hR hP hF hL hl
  subst hn
  exact lv_lload hC.1 hC.2.1 (mdD hM hd) (lv_at hl j hj) (kk hG hM p e s m args below meth c R H locs cells slots ls hC hR hP hF hL hl)
theorem r_aload_n {i : Fin 4} {x : Nat} (k pn j : Nat) (hd : (mdT M)[k]? = some (pc, .aload_n i, 1)) (hn : pc + 1 = pn) (hj : lv[j]? = some ((i : Nat), .ref x)) (kk : Rn G M pn lv (.ref x :: st) w Q) : Rn G M pc lv st w Q := by
  intro hG hM p e s m args below meth c R H locs cells slots ls hC hR hP hF hL hl
  subst hn
  exact lv_aload_n hC.1 hC.2.1 (mdD hM hd) rfl (lv_at hl j hj) (kk hG hM p e s m args below meth c R H locs cells slots ls hC hR hP hF hL hl)
theorem r_aload {i : Nat} {x : Nat} (k pn j : Nat) (hd : (mdT M)[k]? = some (pc, .aload i, 2)) (hn : pc + 2 = pn) (hj : lv[j]? = some (i, .ref x)) (kk : Rn G M pn lv (.ref x :: st) w Q) : Rn G M pc lv st w Q := by
  intro hG hM p e s m args below meth c R H locs cells slots ls hC hR hP hF hL hl
  subst hn
  exact lv_aload hC.1 hC.2.1 (mdD hM hd) (lv_at hl j hj) (kk hG hM p e s m args below meth c R H locs cells slots ls hC hR hP hF hL hl)
theorem r_aloadN_n {i : Fin 4} (k pn j : Nat) (hd : (mdT M)[k]? = some (pc, .aload_n i, 1)) (hn : pc + 1 = pn) (hj : lv[j]? = some ((i : Nat), .null)) (kk : Rn G M pn lv (.null :: st) w Q) : Rn G M pc lv st w Q := by
  intro hG hM p e s m args below meth c R H locs cells slots ls hC hR hP hF hL hl
  subst hn
  exact lv_aload_nN hC.1 hC.2.1 (mdD hM hd) rfl (lv_at hl j hj) (kk hG hM p e s m args below meth c R H locs cells slots ls hC hR hP hF hL hl)
theorem r_aloadN {i : Nat} (k pn j : Nat) (hd : (mdT M)[k]? = some (pc, .aload i, 2)) (hn : pc + 2 = pn) (hj : lv[j]? = some (i, .null)) (kk : Rn G M pn lv (.null :: st) w Q) : Rn G M pc lv st w Q := by
  intro hG hM p e s m args below meth c R H locs cells slots ls hC hR hP hF hL hl
  subst hn
  exact lv_aloadN hC.1 hC.2.1 (mdD hM hd) (lv_at hl j hj) (kk hG hM p e s m args below meth c R H locs cells slots ls hC hR hP hF hL hl)
theorem r_istore_n {i : Fin 4} {x : Int32} {lv' : List (Nat × Value)} (k pn : Nat) (hd : (mdT M)[k]? = some (pc, .istore_n i, 1)) (hn : pc + 1 = pn) (hi : (i : Nat) < mdL M) (hv : ((i : Nat), Value.int x) :: lv.filter (fun q => !(q.1 == (i : Nat)) && !(q.1 + 1 == (i : Nat) && q.2.category == 2)) = lv') (kk : Rn G M pn lv' st w Q) : Rn G M pc lv (.int x :: st) w Q := by
  intro hG hM p e s m args below meth c R H locs cells slots ls hC hR hP hF hL hl
  subst hn
  exact lv_istore_n hC.1 hC.2.1 (mdD hM hd) rfl hl hi hv (fun ls hl => kk hG hM p e s m args below meth c R H locs cells slots ls hC hR hP hF hL hl)
theorem r_istore {i : Nat} {x : Int32} {lv' : List (Nat × Value)} (k pn : Nat) (hd : (mdT M)[k]? = some (pc, .istore i, 2)) (hn : pc + 2 = pn) (hi : i < mdL M) (hv : (i, Value.int x) :: lv.filter (fun q => !(q.1 == i) && !(q.1 + 1 == i && q.2.category == 2)) = lv') (kk : Rn G M pn lv' st w Q) : Rn G M pc lv (.int x :: st) w Q := by
  intro hG hM p e s m args below meth c R H locs cells slots ls hC hR hP hF hL hl
  subst hn
  exact lv_istore hC.1 hC.2.1 (mdD hM hd) hl hi hv (fun ls hl => kk hG hM p e s m args below meth c R H locs cells slots ls hC hR hP hF hL hl)
theorem r_lstore_n {i : Fin 4} {x : Int64} {lv' : List (Nat × Value)} (k pn : Nat) (hd : (mdT M)[k]? = some (pc, .lstore_n i, 1)) (hn : pc + 1 = pn) (hi : (i : Nat) + 1 < mdL M) (hv : ((i : Nat), Value.long x) :: lv.filter (fun q => !(q.1 == (i : Nat)) && (!(q.1 == (i : Nat) + 1) && !(q.1 + 1 == (i : Nat) && q.2.category == 2))) = lv') (kk : Rn G M pn lv' st w Q) : Rn G M pc lv (.long x :: st) w Q := by
  intro hG hM p e s m args below meth c R H locs cells slots ls hC hR hP hF hL hl
  subst hn
  exact lv_lstore_n hC.1 hC.2.1 (mdD hM hd) rfl hl hi hv (fun ls hl => kk hG hM p e s m args below meth c R H locs cells slots ls hC hR hP hF hL hl)
theorem r_lstore {i : Nat} {x : Int64} {lv' : List (Nat × Value)} (k pn : Nat) (hd : (mdT M)[k]? = some (pc, .lstore i, 2)) (hn : pc + 2 = pn) (hi : i + 1 < mdL M) (hv : (i, Value.long x) :: lv.filter (fun q => !(q.1 == i) && (!(q.1 == i + 1) && !(q.1 + 1 == i && q.2.category == 2))) = lv') (kk : Rn G M pn lv' st w Q) : Rn G M pc lv (.long x :: st) w Q := by
  intro hG hM p e s m args below meth c R H locs cells slots ls hC hR hP hF hL hl
  subst hn
  exact lv_lstore hC.1 hC.2.1 (mdD hM hd) hl hi hv (fun ls hl => kk hG hM p e s m args below meth c R H locs cells slots ls hC hR hP hF hL hl)
theorem r_astore_n {i : Fin 4} {x : Nat} {lv' : List (Nat × Value)} (k pn : Nat) (hd : (mdT M)[k]? = some (pc, .astore_n i, 1)) (hn : pc + 1 = pn) (hi : (i : Nat) < mdL M) (hv : ((i : Nat), Value.ref x) :: lv.filter (fun q => !(q.1 == (i : Nat)) && !(q.1 + 1 == (i : Nat) && q.2.category == 2)) = lv') (kk : Rn G M pn lv' st w Q) : Rn G M pc lv (.ref x :: st) w Q := by
  intro hG hM p e s m args below meth c R H locs cells slots ls hC hR hP hF hL hl
  subst hn
  exact lv_astore_n hC.1 hC.2.1 (mdD hM hd) rfl hl hi hv (fun ls hl => kk hG hM p e s m args below meth c R H locs cells slots ls hC hR hP hF hL hl)
theorem r_astore {i : Nat} {x : Nat} {lv' : List (Nat × Value)} (k pn : Nat) (hd : (mdT M)[k]? = some (pc, .astore i, 2)) (hn : pc + 2 = pn) (hi : i < mdL M) (hv : (i, Value.ref x) :: lv.filter (fun q => !(q.1 == i) && !(q.1 + 1 == i && q.2.category == 2)) = lv') (kk : Rn G M pn lv' st w Q) : Rn G M pc lv (.ref x :: st) w Q := by
  intro hG hM p e s m args below meth c R H locs cells slots ls hC hR hP hF hL hl
  subst hn
  exact lv_astore hC.1 hC.2.1 (mdD hM hd) hl hi hv (fun ls hl => kk hG hM p e s m args below meth c R H locs cells slots ls hC hR hP hF hL hl)
theorem r_astoreN_n {i : Fin 4} {lv' : List (Nat × Value)} (k pn : Nat) (hd : (mdT M)[k]? = some (pc, .astore_n i, 1)) (hn : pc + 1 = pn) (hi : (i : Nat) < mdL M) (hv : ((i : Nat), Value.null) :: lv.filter (fun q => !(q.1 == (i : Nat)) && !(q.1 + 1 == (i : Nat) && q.2.category == 2)) = lv') (kk : Rn G M pn lv' st w Q) : Rn G M pc lv (.null :: st) w Q := by
  intro hG hM p e s m args below meth c R H locs cells slots ls hC hR hP hF hL hl
  subst hn
  exact lv_astore_nN hC.1 hC.2.1 (mdD hM hd) rfl hl hi hv (fun ls hl => kk hG hM p e s m args below meth c R H locs cells slots ls hC hR hP hF hL hl)
theorem r_astoreN {i : Nat} {lv' : List (Nat × Value)} (k pn : Nat) (hd : (mdT M)[k]? = some (pc, .astore i, 2)) (hn : pc + 2 = pn) (hi : i < mdL M) (hv : (i, Value.null) :: lv.filter (fun q => !(q.1 == i) && !(q.1 + 1 == i && q.2.category == 2)) = lv') (kk : Rn G M pn lv' st w Q) : Rn G M pc lv (.null :: st) w Q := by
  intro hG hM p e s m args below meth c R H locs cells slots ls hC hR hP hF hL hl
  subst hn
  exact lv_astoreN hC.1 hC.2.1 (mdD hM hd) hl hi hv (fun ls hl => kk hG hM p e s m args below meth c R H locs cells slots ls hC hR hP hF hL hl)
theorem r_iinc {i : Nat} {n : Int} {x v : Int32} {lv' : List (Nat × Value)} (k pn j : Nat) (hd : (mdT M)[k]? = some (pc, .iinc i n, 3)) (hn : pc + 3 = pn) (hj : lv[j]? = some (i, .int x)) (hx : x + Int32.ofInt n = v) (hi : i < mdL M) (hv : (i, Value.int v) :: lv.filter (fun q => !(q.1 == i) && !(q.1 + 1 == i && q.2.category == 2)) = lv') (kk : Rn G M pn lv' st w Q) : Rn G M pc lv st w Q := by
  intro hG hM p e s m args below meth c R H locs cells slots ls hC hR hP hF hL hl
  subst hn
  exact lv_iinc hC.1 hC.2.1 (mdD hM hd) hl hj hx hi hv (fun ls hl => kk hG hM p e s m args below meth c R H locs cells slots ls hC hR hP hF hL hl)
theorem r_iadd {x y : Int32} (k pn : Nat) (hd : (mdT M)[k]? = some (pc, .iadd, 1)) (hn : pc + 1 = pn) (kk : Rn G M pn lv (.int (x + y) :: st) w Q) : Rn G M pc lv (.int y :: .int x :: st) w Q := by
  intro hG hM p e s m args below meth c R H locs cells slots ls hC hR hP hF hL hl
  subst hn
  exact lv_iadd hC.1 hC.2.1 (mdD hM hd) (kk hG hM p e s m args below meth c R H locs cells slots ls hC hR hP hF hL hl)
theorem r_isub {x y : Int32} (k pn : Nat) (hd : (mdT M)[k]? = some (pc, .isub, 1)) (hn : pc + 1 = pn) (kk : Rn G M pn lv (.int (x - y) :: st) w Q) : Rn G M pc lv (.int y :: .int x :: st) w Q := by
  intro hG hM p e s m args below meth c R H locs cells slots ls hC hR hP hF hL hl
  subst hn
  exact lv_isub hC.1 hC.2.1 (mdD hM hd) (kk hG hM p e s m args below meth c R H locs cells slots ls hC hR hP hF hL hl)
theorem r_imul {x y : Int32} (k pn : Nat) (hd : (mdT M)[k]? = some (pc, .imul, 1)) (hn : pc + 1 = pn) (kk : Rn G M pn lv (.int (x * y) :: st) w Q) : Rn G M pc lv (.int y :: .int x :: st) w Q := by
  intro hG hM p e s m args below meth c R H locs cells slots ls hC hR hP hF hL hl
  subst hn
  exact lv_imul hC.1 hC.2.1 (mdD hM hd) (kk hG hM p e s m args below meth c R H locs cells slots ls hC hR hP hF hL hl)
theorem r_iand {x y : Int32} (k pn : Nat) (hd : (mdT M)[k]? = some (pc, .iand, 1)) (hn : pc + 1 = pn) (kk : Rn G M pn lv (.int (x &&& y) :: st) w Q) : Rn G M pc lv (.int y :: .int x :: st) w Q := by
  intro hG hM p e s m args below meth c R H locs cells slots ls hC hR hP hF hL hl
  subst hn
  exact lv_iand hC.1 hC.2.1 (mdD hM hd) (kk hG hM p e s m args below meth c R H locs cells slots ls hC hR hP hF hL hl)
theorem r_ior {x y : Int32} (k pn : Nat) (hd : (mdT M)[k]? = some (pc, .ior, 1)) (hn : pc + 1 = pn) (kk : Rn G M pn lv (.int (x ||| y) :: st) w Q) : Rn G M pc lv (.int y :: .int x :: st) w Q := by
  intro hG hM p e s m args below meth c R H locs cells slots ls hC hR hP hF hL hl
  subst hn
  exact lv_ior hC.1 hC.2.1 (mdD hM hd) (kk hG hM p e s m args below meth c R H locs cells slots ls hC hR hP hF hL hl)
theorem r_ixor {x y : Int32} (k pn : Nat) (hd : (mdT M)[k]? = some (pc, .ixor, 1)) (hn : pc + 1 = pn) (kk : Rn G M pn lv (.int (x ^^^ y) :: st) w Q) : Rn G M pc lv (.int y :: .int x :: st) w Q := by
  intro hG hM p e s m args below meth c R H locs cells slots ls hC hR hP hF hL hl
  subst hn
  exact lv_ixor hC.1 hC.2.1 (mdD hM hd) (kk hG hM p e s m args below meth c R H locs cells slots ls hC hR hP hF hL hl)
theorem r_ladd {x y : Int64} (k pn : Nat) (hd : (mdT M)[k]? = some (pc, .ladd, 1)) (hn : pc + 1 = pn) (kk : Rn G M pn lv (.long (x + y) :: st) w Q) : Rn G M pc lv (.long y :: .long x :: st) w Q := by
  intro hG hM p e s m args below meth c R H locs cells slots ls hC hR hP hF hL hl
  subst hn
  exact lv_ladd hC.1 hC.2.1 (mdD hM hd) (kk hG hM p e s m args below meth c R H locs cells slots ls hC hR hP hF hL hl)
theorem r_lsub {x y : Int64} (k pn : Nat) (hd : (mdT M)[k]? = some (pc, .lsub, 1)) (hn : pc + 1 = pn) (kk : Rn G M pn lv (.long (x - y) :: st) w Q) : Rn G M pc lv (.long y :: .long x :: st) w Q := by
  intro hG hM p e s m args below meth c R H locs cells slots ls hC hR hP hF hL hl
  subst hn
  exact lv_lsub hC.1 hC.2.1 (mdD hM hd) (kk hG hM p e s m args below meth c R H locs cells slots ls hC hR hP hF hL hl)
theorem r_lmul {x y : Int64} (k pn : Nat) (hd : (mdT M)[k]? = some (pc, .lmul, 1)) (hn : pc + 1 = pn) (kk : Rn G M pn lv (.long (x * y) :: st) w Q) : Rn G M pc lv (.long y :: .long x :: st) w Q := by
  intro hG hM p e s m args below meth c R H locs cells slots ls hC hR hP hF hL hl
  subst hn
  exact lv_lmul hC.1 hC.2.1 (mdD hM hd) (kk hG hM p e s m args below meth c R H locs cells slots ls hC hR hP hF hL hl)
theorem r_land {x y : Int64} (k pn : Nat) (hd : (mdT M)[k]? = some (pc, .land, 1)) (hn : pc + 1 = pn) (kk : Rn G M pn lv (.long (x &&& y) :: st) w Q) : Rn G M pc lv (.long y :: .long x :: st) w Q := by
  intro hG hM p e s m args below meth c R H locs cells slots ls hC hR hP hF hL hl
  subst hn
  exact lv_land hC.1 hC.2.1 (mdD hM hd) (kk hG hM p e s m args below meth c R H locs cells slots ls hC hR hP hF hL hl)
theorem r_lor {x y : Int64} (k pn : Nat) (hd : (mdT M)[k]? = some (pc, .lor, 1)) (hn : pc + 1 = pn) (kk : Rn G M pn lv (.long (x ||| y) :: st) w Q) : Rn G M pc lv (.long y :: .long x :: st) w Q := by
  intro hG hM p e s m args below meth c R H locs cells slots ls hC hR hP hF hL hl
  subst hn
  exact lv_lor hC.1 hC.2.1 (mdD hM hd) (kk hG hM p e s m args below meth c R H locs cells slots ls hC hR hP hF hL hl)
theorem r_lxor {x y : Int64} (k pn : Nat) (hd : (mdT M)[k]? = some (pc, .lxor, 1)) (hn : pc + 1 = pn) (kk : Rn G M pn lv (.long (x ^^^ y) :: st) w Q) : Rn G M pc lv (.long y :: .long x :: st) w Q := by
  intro hG hM p e s m args below meth c R H locs cells slots ls hC hR hP hF hL hl
  subst hn
  exact lv_lxor hC.1 hC.2.1 (mdD hM hd) (kk hG hM p e s m args below meth c R H locs cells slots ls hC hR hP hF hL hl)
theorem r_idiv {x y : Int32} (k pn : Nat) (hd : (mdT M)[k]? = some (pc, .idiv, 1)) (hn : pc + 1 = pn) (hne : ¬ y = 0) (kk : Rn G M pn lv (.int (x / y) :: st) w Q) : Rn G M pc lv (.int y :: .int x :: st) w Q := by
  intro hG hM p e s m args below meth c R H locs cells slots ls hC hR hP hF hL hl
  subst hn
  exact lv_idiv hC.1 hC.2.1 (mdD hM hd) hne (kk hG hM p e s m args below meth c R H locs cells slots ls hC hR hP hF hL hl)
theorem r_irem {x y : Int32} (k pn : Nat) (hd : (mdT M)[k]? = some (pc, .irem, 1)) (hn : pc + 1 = pn) (hne : ¬ y = 0) (kk : Rn G M pn lv (.int (x - x / y * y) :: st) w Q) : Rn G M pc lv (.int y :: .int x :: st) w Q := by
  intro hG hM p e s m args below meth c R H locs cells slots ls hC hR hP hF hL hl
  subst hn
  exact lv_irem hC.1 hC.2.1 (mdD hM hd) hne (kk hG hM p e s m args below meth c R H locs cells slots ls hC hR hP hF hL hl)
theorem r_ineg {x : Int32} (k pn : Nat) (hd : (mdT M)[k]? = some (pc, .ineg, 1)) (hn : pc + 1 = pn) (kk : Rn G M pn lv (.int (-x) :: st) w Q) : Rn G M pc lv (.int x :: st) w Q := by
  intro hG hM p e s m args below meth c R H locs cells slots ls hC hR hP hF hL hl
  subst hn
  exact lv_ineg hC.1 hC.2.1 (mdD hM hd) (kk hG hM p e s m args below meth c R H locs cells slots ls hC hR hP hF hL hl)
theorem r_ishl {x y : Int32} (k pn : Nat) (hd : (mdT M)[k]? = some (pc, .ishl, 1)) (hn : pc + 1 = pn) (kk : Rn G M pn lv (.int (x <<< (y &&& 31)) :: st) w Q) : Rn G M pc lv (.int y :: .int x :: st) w Q := by
  intro hG hM p e s m args below meth c R H locs cells slots ls hC hR hP hF hL hl
  subst hn
  exact lv_ishl hC.1 hC.2.1 (mdD hM hd) (kk hG hM p e s m args below meth c R H locs cells slots ls hC hR hP hF hL hl)
theorem r_ishr {x y : Int32} (k pn : Nat) (hd : (mdT M)[k]? = some (pc, .ishr, 1)) (hn : pc + 1 = pn) (kk : Rn G M pn lv (.int (x >>> (y &&& 31)) :: st) w Q) : Rn G M pc lv (.int y :: .int x :: st) w Q := by
  intro hG hM p e s m args below meth c R H locs cells slots ls hC hR hP hF hL hl
  subst hn
  exact lv_ishr hC.1 hC.2.1 (mdD hM hd) (kk hG hM p e s m args below meth c R H locs cells slots ls hC hR hP hF hL hl)
theorem r_iushr {x y : Int32} (k pn : Nat) (hd : (mdT M)[k]? = some (pc, .iushr, 1)) (hn : pc + 1 = pn) (kk : Rn G M pn lv (.int ((x.toUInt32 >>> (y.toUInt32 &&& Int32.toUInt32 31)).toInt32) :: st) w Q) : Rn G M pc lv (.int y :: .int x :: st) w Q := by
  intro hG hM p e s m args below meth c R H locs cells slots ls hC hR hP hF hL hl
  subst hn
  exact lv_iushr hC.1 hC.2.1 (mdD hM hd) rfl (kk hG hM p e s m args below meth c R H locs cells slots ls hC hR hP hF hL hl)
theorem r_lushr {x : Int64} {y : Int32} (k pn : Nat) (hd : (mdT M)[k]? = some (pc, .lushr, 1)) (hn : pc + 1 = pn) (kk : Rn G M pn lv (.long ((x.toUInt64 >>> (y.toInt64.toUInt64 &&& Int64.toUInt64 63)).toInt64) :: st) w Q) : Rn G M pc lv (.int y :: .long x :: st) w Q := by
  intro hG hM p e s m args below meth c R H locs cells slots ls hC hR hP hF hL hl
  subst hn
  exact lv_lushr hC.1 hC.2.1 (mdD hM hd) rfl (kk hG hM p e s m args below meth c R H locs cells slots ls hC hR hP hF hL hl)
theorem r_lshl {x : Int64} {y : Int32} (k pn : Nat) (hd : (mdT M)[k]? = some (pc, .lshl, 1)) (hn : pc + 1 = pn) (kk : Rn G M pn lv (.long (x <<< (y.toInt64 &&& 63)) :: st) w Q) : Rn G M pc lv (.int y :: .long x :: st) w Q := by
  intro hG hM p e s m args below meth c R H locs cells slots ls hC hR hP hF hL hl
  subst hn
  exact lv_lshl hC.1 hC.2.1 (mdD hM hd) rfl (kk hG hM p e s m args below meth c R H locs cells slots ls hC hR hP hF hL hl)
theorem r_lshr {x : Int64} {y : Int32} (k pn : Nat) (hd : (mdT M)[k]? = some (pc, .lshr, 1)) (hn : pc + 1 = pn) (kk : Rn G M pn lv (.long (x >>> (y.toInt64 &&& 63)) :: st) w Q) : Rn G M pc lv (.int y :: .long x :: st) w Q := by
  intro hG hM p e s m args below meth c R H locs cells slots ls hC hR hP hF hL hl
  subst hn
  exact lv_lshr hC.1 hC.2.1 (mdD hM hd) rfl (kk hG hM p e s m args below meth c R H locs cells slots ls hC hR hP hF hL hl)
theorem r_i2l {x : Int32} (k pn : Nat) (hd : (mdT M)[k]? = some (pc, .i2l, 1)) (hn : pc + 1 = pn) (kk : Rn G M pn lv (.long x.toInt64 :: st) w Q) : Rn G M pc lv (.int x :: st) w Q := by
  intro hG hM p e s m args below meth c R H locs cells slots ls hC hR hP hF hL hl
  subst hn
  exact lv_i2l hC.1 hC.2.1 (mdD hM hd) rfl (kk hG hM p e s m args below meth c R H locs cells slots ls hC hR hP hF hL hl)
theorem r_l2i {x : Int64} (k pn : Nat) (hd : (mdT M)[k]? = some (pc, .l2i, 1)) (hn : pc + 1 = pn) (kk : Rn G M pn lv (.int x.toInt32 :: st) w Q) : Rn G M pc lv (.long x :: st) w Q := by
  intro hG hM p e s m args below meth c R H locs cells slots ls hC hR hP hF hL hl
  subst hn
  exact lv_l2i hC.1 hC.2.1 (mdD hM hd) rfl (kk hG hM p e s m args below meth c R H locs cells slots ls hC hR hP hF hL hl)
theorem r_i2b {x : Int32} (k pn : Nat) (hd : (mdT M)[k]? = some (pc, .i2b, 1)) (hn : pc + 1 = pn) (kk : Rn G M pn lv (.int x.toInt8.toInt32 :: st) w Q) : Rn G M pc lv (.int x :: st) w Q := by
  intro hG hM p e s m args below meth c R H locs cells slots ls hC hR hP hF hL hl
  subst hn
  exact lv_i2b hC.1 hC.2.1 (mdD hM hd) rfl (kk hG hM p e s m args below meth c R H locs cells slots ls hC hR hP hF hL hl)
theorem r_i2c {x : Int32} (k pn : Nat) (hd : (mdT M)[k]? = some (pc, .i2c, 1)) (hn : pc + 1 = pn) (kk : Rn G M pn lv (.int (x.toUInt32 % 65536).toInt32 :: st) w Q) : Rn G M pc lv (.int x :: st) w Q := by
  intro hG hM p e s m args below meth c R H locs cells slots ls hC hR hP hF hL hl
  subst hn
  exact lv_i2c hC.1 hC.2.1 (mdD hM hd) rfl (kk hG hM p e s m args below meth c R H locs cells slots ls hC hR hP hF hL hl)
theorem r_dup {a : Value} (k pn : Nat) (hd : (mdT M)[k]? = some (pc, .dup, 1)) (hn : pc + 1 = pn) (ha : a.category = 1) (kk : Rn G M pn lv (a :: a :: st) w Q) : Rn G M pc lv (a :: st) w Q := by
  intro hG hM p e s m args below meth c R H locs cells slots ls hC hR hP hF hL hl
  subst hn
  exact lv_dup hC.1 hC.2.1 (mdD hM hd) ha (kk hG hM p e s m args below meth c R H locs cells slots ls hC hR hP hF hL hl)
theorem r_pop {a : Value} (k pn : Nat) (hd : (mdT M)[k]? = some (pc, .pop, 1)) (hn : pc + 1 = pn) (ha : a.category = 1) (kk : Rn G M pn lv (st) w Q) : Rn G M pc lv (a :: st) w Q := by
  intro hG hM p e s m args below meth c R H locs cells slots ls hC hR hP hF hL hl
  subst hn
  exact lv_pop hC.1 hC.2.1 (mdD hM hd) ha (kk hG hM p e s m args below meth c R H locs cells slots ls hC hR hP hF hL hl)
theorem r_dup_x1 {a b : Value} (k pn : Nat) (hd : (mdT M)[k]? = some (pc, .dup_x1, 1)) (hn : pc + 1 = pn) (ha : a.category = 1) (hb : b.category = 1) (kk : Rn G M pn lv (a :: b :: a :: st) w Q) : Rn G M pc lv (a :: b :: st) w Q := by
  intro hG hM p e s m args below meth c R H locs cells slots ls hC hR hP hF hL hl
  subst hn
  exact lv_dup_x1 hC.1 hC.2.1 (mdD hM hd) ha hb (kk hG hM p e s m args below meth c R H locs cells slots ls hC hR hP hF hL hl)
theorem r_dup2 {a b : Value} (k pn : Nat) (hd : (mdT M)[k]? = some (pc, .dup2, 1)) (hn : pc + 1 = pn) (ha : a.category = 1) (hb : b.category = 1) (kk : Rn G M pn lv (a :: b :: a :: b :: st) w Q) : Rn G M pc lv (a :: b :: st) w Q := by
  intro hG hM p e s m args below meth c R H locs cells slots ls hC hR hP hF hL hl
  subst hn
  exact lv_dup2_11 hC.1 hC.2.1 (mdD hM hd) ha hb (kk hG hM p e s m args below meth c R H locs cells slots ls hC hR hP hF hL hl)
theorem r_null (k pn : Nat) (hd : (mdT M)[k]? = some (pc, .aconst_null, 1)) (hn : pc + 1 = pn) (kk : Rn G M pn lv (.null :: st) w Q) : Rn G M pc lv (st) w Q := by
  intro hG hM p e s m args below meth c R H locs cells slots ls hC hR hP hF hL hl
  subst hn
  exact lv_null hC.1 hC.2.1 (mdD hM hd) (kk hG hM p e s m args below meth c R H locs cells slots ls hC hR hP hF hL hl)
theorem r_if_eq {x : Int32} {off : Int} (k pn pt : Nat) (hd : (mdT M)[k]? = some (pc, .ifCond .eq off, 3)) (hn : pc + 3 = pn) (ht : (pc : Int) + off = (pt : Int)) (kt : x = 0 → Rn G M pt lv st w Q) (kf : ¬ x = 0 → Rn G M pn lv st w Q) : Rn G M pc lv (.int x :: st) w Q := by
  intro hG hM p e s m args below meth c R H locs cells slots ls hC hR hP hF hL hl
  subst hn
  exact lv_if_eq hC.1 hC.2.1 (mdD hM hd) ht (fun h => kt h hG hM p e s m args below meth c R H locs cells slots ls hC hR hP hF hL hl) (fun h => kf h hG hM p e s m args below meth c R H locs cells slots ls hC hR hP hF hL hl)
theorem r_if_ne {x : Int32} {off : Int} (k pn pt : Nat) (hd : (mdT M)[k]? = some (pc, .ifCond .ne off, 3)) (hn : pc + 3 = pn) (ht : (pc : Int) + off = (pt : Int)) (kt : ¬ x = 0 → Rn G M pt lv st w Q) (kf : x = 0 → Rn G M pn lv st w Q) : Rn G M pc lv (.int x :: st) w Q := by
  intro hG hM p e s m args below meth c R H locs cells slots ls hC hR hP hF hL hl
  subst hn
  exact lv_if_ne hC.1 hC.2.1 (mdD hM hd) ht (fun h => kt h hG hM p e s m args below meth c R H locs cells slots ls hC hR hP hF hL hl) (fun h => kf h hG hM p e s m args below meth c R H locs cells slots ls hC hR hP hF hL hl)
theorem r_if_lt {x : Int32} {off : Int} (k pn pt : Nat) (hd : (mdT M)[k]? = some (pc, .ifCond .lt off, 3)) (hn : pc + 3 = pn) (ht : (pc : Int) + off = (pt : Int)) (kt : x < 0 → Rn G M pt lv st w Q) (kf : ¬ x < 0 → Rn G M pn lv st w Q) : Rn G M pc lv (.int x :: st) w Q := by
  intro hG hM p e s m args below meth c R H locs cells slots ls hC hR hP hF hL hl
  subst hn
  exact lv_if_lt hC.1 hC.2.1 (mdD hM hd) ht (fun h => kt h hG hM p e s m args below meth c R H locs cells slots ls hC hR hP hF hL hl) (fun h => kf h hG hM p e s m args below meth c R H locs cells slots ls hC hR hP hF hL hl)
theorem r_if_ge {x : Int32} {off : Int} (k pn pt : Nat) (hd : (mdT M)[k]? = some (pc, .ifCond .ge off, 3)) (hn : pc + 3 = pn) (ht : (pc : Int) + off = (pt : Int)) (kt : 0 ≤ x → Rn G M pt lv st w Q) (kf : ¬ 0 ≤ x → Rn G M pn lv st w Q) : Rn G M pc lv (.int x :: st) w Q := by
  intro hG hM p e s m args below meth c R H locs cells slots ls hC hR hP hF hL hl
  subst hn
  exact lv_if_ge hC.1 hC.2.1 (mdD hM hd) ht (fun h => kt h hG hM p e s m args below meth c R H locs cells slots ls hC hR hP hF hL hl) (fun h => kf h hG hM p e s m args below meth c R H locs cells slots ls hC hR hP hF hL hl)
theorem r_if_gt {x : Int32} {off : Int} (k pn pt : Nat) (hd : (mdT M)[k]? = some (pc, .ifCond .gt off, 3)) (hn : pc + 3 = pn) (ht : (pc : Int) + off = (pt : Int)) (kt : 0 < x → Rn G M pt lv st w Q) (kf : ¬ 0 < x → Rn G M pn lv st w Q) : Rn G M pc lv (.int x :: st) w Q := by
  intro hG hM p e s m args below meth c R H locs cells slots ls hC hR hP hF hL hl
  subst hn
  exact lv_if_gt hC.1 hC.2.1 (mdD hM hd) ht (fun h => kt h hG hM p e s m args below meth c R H locs cells slots ls hC hR hP hF hL hl) (fun h => kf h hG hM p e s m args below meth c R H locs cells slots ls hC hR hP hF hL hl)
theorem r_if_le {x : Int32} {off : Int} (k pn pt : Nat) (hd : (mdT M)[k]? = some (pc, .ifCond .le off, 3)) (hn : pc + 3 = pn) (ht : (pc : Int) + off = (pt : Int)) (kt : x ≤ 0 → Rn G M pt lv st w Q) (kf : ¬ x ≤ 0 → Rn G M pn lv st w Q) : Rn G M pc lv (.int x :: st) w Q := by
  intro hG hM p e s m args below meth c R H locs cells slots ls hC hR hP hF hL hl
  subst hn
  exact lv_if_le hC.1 hC.2.1 (mdD hM hd) ht (fun h => kt h hG hM p e s m args below meth c R H locs cells slots ls hC hR hP hF hL hl) (fun h => kf h hG hM p e s m args below meth c R H locs cells slots ls hC hR hP hF hL hl)
theorem r_icmp_eq {x y : Int32} {off : Int} (k pn pt : Nat) (hd : (mdT M)[k]? = some (pc, .if_icmp .eq off, 3)) (hn : pc + 3 = pn) (ht : (pc : Int) + off = (pt : Int)) (kt : x = y → Rn G M pt lv st w Q) (kf : ¬ x = y → Rn G M pn lv st w Q) : Rn G M pc lv (.int y :: .int x :: st) w Q := by
  intro hG hM p e s m args below meth c R H locs cells slots ls hC hR hP hF hL hl
  subst hn
  exact lv_icmp_eq hC.1 hC.2.1 (mdD hM hd) ht (fun h => kt h hG hM p e s m args below meth c R H locs cells slots ls hC hR hP hF hL hl) (fun h => kf h hG hM p e s m args below meth c R H locs cells slots ls hC hR hP hF hL hl)
theorem r_icmp_ne {x y : Int32} {off : Int} (k pn pt : Nat) (hd : (mdT M)[k]? = some (pc, .if_icmp .ne off, 3)) (hn : pc + 3 = pn) (ht : (pc : Int) + off = (pt : Int)) (kt : ¬ x = y → Rn G M pt lv st w Q) (kf : x = y → Rn G M pn lv st w Q) : Rn G M pc lv (.int y :: .int x :: st) w Q := by
  intro hG hM p e s m args below meth c R H locs cells slots ls hC hR hP hF hL hl
  subst hn
  exact lv_icmp_ne hC.1 hC.2.1 (mdD hM hd) ht (fun h => kt h hG hM p e s m args below meth c R H locs cells slots ls hC hR hP hF hL hl) (fun h => kf h hG hM p e s m args below meth c R H locs cells slots ls hC hR hP hF hL hl)
theorem r_icmp_lt {x y : Int32} {off : Int} (k pn pt : Nat) (hd : (mdT M)[k]? = some (pc, .if_icmp .lt off, 3)) (hn : pc + 3 = pn) (ht : (pc : Int) + off = (pt : Int)) (kt : x < y → Rn G M pt lv st w Q) (kf : ¬ x < y → Rn G M pn lv st w Q) : Rn G M pc lv (.int y :: .int x :: st) w Q := by
  intro hG hM p e s m args below meth c R H locs cells slots ls hC hR hP hF hL hl
  subst hn
  exact lv_icmp_lt hC.1 hC.2.1 (mdD hM hd) ht (fun h => kt h hG hM p e s m args below meth c R H locs cells slots ls hC hR hP hF hL hl) (fun h => kf h hG hM p e s m args below meth c R H locs cells slots ls hC hR hP hF hL hl)
theorem r_icmp_ge {x y : Int32} {off : Int} (k pn pt : Nat) (hd : (mdT M)[k]? = some (pc, .if_icmp .ge off, 3)) (hn : pc + 3 = pn) (ht : (pc : Int) + off = (pt : Int)) (kt : y ≤ x → Rn G M pt lv st w Q) (kf : ¬ y ≤ x → Rn G M pn lv st w Q) : Rn G M pc lv (.int y :: .int x :: st) w Q := by
  intro hG hM p e s m args below meth c R H locs cells slots ls hC hR hP hF hL hl
  subst hn
  exact lv_icmp_ge hC.1 hC.2.1 (mdD hM hd) ht (fun h => kt h hG hM p e s m args below meth c R H locs cells slots ls hC hR hP hF hL hl) (fun h => kf h hG hM p e s m args below meth c R H locs cells slots ls hC hR hP hF hL hl)
theorem r_icmp_gt {x y : Int32} {off : Int} (k pn pt : Nat) (hd : (mdT M)[k]? = some (pc, .if_icmp .gt off, 3)) (hn : pc + 3 = pn) (ht : (pc : Int) + off = (pt : Int)) (kt : y < x → Rn G M pt lv st w Q) (kf : ¬ y < x → Rn G M pn lv st w Q) : Rn G M pc lv (.int y :: .int x :: st) w Q := by
  intro hG hM p e s m args below meth c R H locs cells slots ls hC hR hP hF hL hl
  subst hn
  exact lv_icmp_gt hC.1 hC.2.1 (mdD hM hd) ht (fun h => kt h hG hM p e s m args below meth c R H locs cells slots ls hC hR hP hF hL hl) (fun h => kf h hG hM p e s m args below meth c R H locs cells slots ls hC hR hP hF hL hl)
theorem r_icmp_le {x y : Int32} {off : Int} (k pn pt : Nat) (hd : (mdT M)[k]? = some (pc, .if_icmp .le off, 3)) (hn : pc + 3 = pn) (ht : (pc : Int) + off = (pt : Int)) (kt : x ≤ y → Rn G M pt lv st w Q) (kf : ¬ x ≤ y → Rn G M pn lv st w Q) : Rn G M pc lv (.int y :: .int x :: st) w Q := by
  intro hG hM p e s m args below meth c R H locs cells slots ls hC hR hP hF hL hl
  subst hn
  exact lv_icmp_le hC.1 hC.2.1 (mdD hM hd) ht (fun h => kt h hG hM p e s m args below meth c R H locs cells slots ls hC hR hP hF hL hl) (fun h => kf h hG hM p e s m args below meth c R H locs cells slots ls hC hR hP hF hL hl)
theorem r_goto {off : Int} (k pt : Nat) (hd : (mdT M)[k]? = some (pc, .goto off, 3)) (ht : (pc : Int) + off = (pt : Int)) (kk : Rn G M pt lv st w Q) : Rn G M pc lv st w Q := by
  intro hG hM p e s m args below meth c R H locs cells slots ls hC hR hP hF hL hl
  exact lv_goto hC.1 hC.2.1 (mdD hM hd) ht (kk hG hM p e s m args below meth c R H locs cells slots ls hC hR hP hF hL hl)
end RR
