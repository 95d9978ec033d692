set_option maxRecDepth 100000
theorem endq_ret {G : Gm} {M : Md} {p : Program} {e : Env} {R : Room} {s : State} {m : MethodId} {args : Array Value} {below : List Frame} {meth : Method} {c : Code} {T : State} {locs : List Loc} {cells slots : Nat} {w : Wd} {Q : Rs → Wd → Prop} {v : Option Value}
    (X : Stand p (Gl G) e R s m args below meth c T locs cells slots) (hC : Cx G M p s m meth c) (hP : Rp G w T.heap) (hF : Fit R cells slots w.2.2) (hL : ∀ q ∈ locs, gN G ≤ q.base) (hv : mdR M = none → v = none) (hq : Q (.inl v) w) :
    ∃ fs, (∀ (f : JFrame) (acts : List Action), f.method = m → f.locked = none → f.entered = [] → (doReturn e (T.setTop f) acts v).1 = T.setFrames fs) ∧ EndQ G below s R Q (T.setFrames fs) := by
  obtain ⟨fs, hret, hrun, hended, hW, hframe⟩ := X.leave (v := v) (fun h => hv (hC.2.2.1.symm.trans h)) (hlocks := hC.2.2.2.2.1)
  exact ⟨fs, hret, .inl v, w, hq, hrun, hended, hP, hW, locs, cells, slots, hframe, hL, hF⟩
section R4
variable {G : Gm} {M : Md} {pc : Nat} {lv : List (Nat × Value)} {st : List Value} {w : Wd} {Q : Rs → Wd → Prop}
theorem r_iret {v : Int32} (k : Nat) (hd : (mdT M)[k]? = some (pc, .ireturn, 1)) {ty : FieldType} (hr : mdR M = some ty) (hn : narrow ty (.int v) = .int v) (hq : Q (.inl (some (.int v))) w) : Rn G M pc lv [.int v] w Q := by
  intro hG hM p e s m args below meth c R H locs cells slots ls hC hR hP hF hL hl T hT X
  subst hT
  obtain ⟨fs, hret, hE⟩ := endq_ret (v := some (.int v)) X hC hP hF hL (fun h => by rw [hr] at h; cases h) hq
  have hmeth' : T.vm.method? m = some meth := X.method'
  have hb := hC.2.1
  have hx := hC.1
  have hdg := mdD hM hd
  have hr' : meth.sig.returnType = some ty := hC.2.2.1.trans hr
  refine ⟨T.setFrames fs, ?_, hE⟩
  jvm_step X.here [X.here.top, hx, hb, hdg, hmeth', hr', hn]
  (try refine ⟨rfl, ?_⟩); (try refine ⟨rfl, ?_⟩)
  first | (intro acts; rw [hret _ acts rfl rfl rfl]) | rw [hret _ _ rfl rfl rfl]
  exact Steps.refl _
theorem r_lret {v : Int64} (k : Nat) (hd : (mdT M)[k]? = some (pc, .lreturn, 1)) (hr : mdR M = some .long) (hq : Q (.inl (some (.long v))) w) : Rn G M pc lv [.long v] w Q := by
  intro hG hM p e s m args below meth c R H locs cells slots ls hC hR hP hF hL hl T hT X
  subst hT
  obtain ⟨fs, hret, hE⟩ := endq_ret (v := some (.long v)) X hC hP hF hL (fun h => by rw [hr] at h; cases h) hq
  have hmeth' : T.vm.method? m = some meth := X.method'
  have hb := hC.2.1
  have hx := hC.1
  have hdg := mdD hM hd
  have hr' : meth.sig.returnType = some .long := hC.2.2.1.trans hr
  refine ⟨T.setFrames fs, ?_, hE⟩
  jvm_step X.here [X.here.top, hx, hb, hdg, hmeth', hr', narrow]
  (try refine ⟨rfl, ?_⟩); (try refine ⟨rfl, ?_⟩)
  first | (intro acts; rw [hret _ acts rfl rfl rfl]) | rw [hret _ _ rfl rfl rfl]
  exact Steps.refl _
theorem r_vret (k : Nat) (hd : (mdT M)[k]? = some (pc, .return_, 1)) (hr : mdR M = none) (hq : Q (.inl none) w) : Rn G M pc lv [] w Q := by
  intro hG hM p e s m args below meth c R H locs cells slots ls hC hR hP hF hL hl T hT X
  subst hT
  obtain ⟨fs, hret, hE⟩ := endq_ret (v := none) X hC hP hF hL (fun _ => rfl) hq
  have hmeth' : T.vm.method? m = some meth := X.method'
  have hb := hC.2.1
  have hx := hC.1
  have hdg := mdD hM hd
  have hr' : meth.sig.returnType = none := hC.2.2.1.trans hr
  refine ⟨T.setFrames fs, ?_, hE⟩
  jvm_step X.here [X.here.top, hx, hb, hdg, hmeth', hr']
  (try refine ⟨rfl, ?_⟩); (try refine ⟨rfl, ?_⟩)
  first | (intro acts; rw [hret _ acts rfl rfl rfl]) | rw [hret _ _ rfl rfl rfl]
  exact Steps.refl _
theorem r_aret {v : Value} (k : Nat) (hd : (mdT M)[k]? = some (pc, .areturn, 1)) {rt : FieldType} (hr : mdR M = some rt) (hrt : (∃ n, rt = .object n) ∨ ∃ t, rt = .array t) (hv : v = .null ∨ ∃ a, v = .ref a) (hq : Q (.inl (some v)) w) : Rn G M pc lv [v] w Q := by
  intro hG hM p e s m args below meth c R H locs cells slots ls hC hR hP hF hL hl T hT X
  subst hT
  obtain ⟨fs, hret, hE⟩ := endq_ret (v := some v) X hC hP hF hL (fun h => by rw [hr] at h; cases h) hq
  have hmeth' : T.vm.method? m = some meth := X.method'
  have hb := hC.2.1
  have hx := hC.1
  have hdg := mdD hM hd
  have hr' : meth.sig.returnType = some rt := hC.2.2.1.trans hr
  refine ⟨T.setFrames fs, ?_, hE⟩
  rcases hrt with ⟨n, rfl⟩ | ⟨t, rfl⟩ <;> rcases hv with rfl | ⟨a, rfl⟩ <;>
    (jvm_step X.here [X.here.top, hx, hb, hdg, hmeth', hr']
     (try refine ⟨rfl, ?_⟩); (try refine ⟨rfl, ?_⟩)
     first | (intro acts; rw [hret _ acts rfl rfl rfl]) | rw [hret _ _ rfl rfl rfl]
     exact Steps.refl _)
/-- a throw that leaves the method: it has no handlers -/
theorem r_athrow {a : Nat} (k : Nat) (hd : (mdT M)[k]? = some (pc, .athrow, 1)) (hh : mdH M = none) (hq : Q (.inr a) w) : Rn G M pc lv (.ref a :: st) w Q := by
  intro hG hM p e s m args below meth c R H locs cells slots ls hC hR hP hF hL hl T hT X
  subst hT
  have hdg := mdD hM hd
  have he : c.exceptionTable.toList = [] := by
    have h := hC.2.2.2.2.2.2.2.2.1
    unfold hdl at h
    rw [hh] at h
    exact List.map_eq_nil_iff.mp h
  obtain ⟨h1, h2, h3, h4, h5⟩ := X.athrowLeaves hC.1 (g := F0 m pc ls (.ref a :: st)) rfl rfl rfl (fun x hx => by rw [he] at hx; cases hx) (a := a) (rest := st) rfl (by rw [hC.2.1]; exact hdg) (hlocks := hC.2.2.2.2.1)
  exact ⟨_, h1, .inr a, w, hq, h2, h3, hP, h4, locs, cells, slots, h5, hL, hF⟩
end R4
/-! fields -/
/-- the field k of the class number ci, as the pool entry idx of the class own names it -/
def FL (own : String) (idx ci k : Nat) (C : String) (T : u_T) (N : Nat) : Prop := clT[ci]? = some (C, T, N) ∧ k < N ∧ ∃ ref : String, Cond.fieldLink own idx ref (T k).2.1 (T k).2.2.1 ∈ lw_all ∧ (ref = (T k).1 ∨ Cond.sameField ref (T k).1 (T k).2.1 (T k).2.2.1 ∈ lw_all)
theorem FL.same {own : String} {idx ci k : Nat} {C : String} {T : u_T} {N : Nat} {G : Gm} (hG : Gok G) {s : State} (hW : (Gs G).WarmedH s.vm) {ref : String} (h : ref = (T k).1 ∨ Cond.sameField ref (T k).1 (T k).2.1 (T k).2.2.1 ∈ lw_all) : ∀ x, s.fieldFound? (T k).1 (T k).2.1 (T k).2.2.1 = some x → s.fieldFound? ref (T k).2.1 (T k).2.2.1 = some x := by
  intro x hx
  rcases h with h | h
  · rw [h]; exact hx
  · exact u_same (hG.word hW h #[]) x hx
section R5
variable {G : Gm} {M : Md} {pc : Nat} {lv : List (Nat × Value)} {st : List Value} {w : Wd} {Q : Rs → Wd → Prop}
theorem r_get {idx ci i : Nat} {C : String} {T : u_T} {N : Nat} (hf : FL (mdY M).cls idx ci i C T N) {a : Nat} {fs : List Value} {v : Value} (k pn : Nat) (hd : (mdT M)[k]? = some (pc, .getfield idx, 3)) (hn : pc + 3 = pn) (ho : Lk G w a (.inl (ci, fs))) (hv : fs[i]? = some v) (kk : Rn G M pn lv (v :: st) w Q) : Rn G M pc lv (.ref a :: st) w Q := by
  intro hG hM p e s m args below meth c R H locs cells slots ls hC hR hP hF hL hl
  subst hn
  obtain ⟨hc, hi, ref, h1, h2⟩ := hf
  have hW := hC.2.2.2.2.2.2.2.1
  obtain ⟨r, cell, g1, g2, g3, g4, g5, g6⟩ := hP.at ho
  obtain ⟨cf, kf, fi, fd, q1, q2, q3⟩ := (hG.K hW hc).1 i hi
  exact W.getf hC.1 hC.2.1 hC.2.2.2.2.2.1 (hG.word hW h1 args) (FL.same (own := "") (idx := 0) (ci := 0) (C := C) (N := 0) hG hW h2 _ q1) q3 g3 g4.1 (v := v) (by rw [q2]; exact g6 i v hv) rfl rfl (mdD hM hd) (kk hG hM p e s m args below meth c R H locs cells slots ls hC hR hP hF hL hl)
end R5
/-- a world with another object at a -/
def wset (w : Wd) (a : Nat) (o : Ob) : Wd := (fun q => if q = a then some o else w.1 q, w.2.1, w.2.2)
/-- a world with a new object, of n slots -/
def wnew (w : Wd) (o : Ob) (n : Nat) : Wd := (fun q => if q = w.2.1 then some o else w.1 q, w.2.1 + 1, w.2.2 - (12 + n))
theorem Rp.set {G : Gm} {w : Wd} {H H1 : Heap} {a : Nat} {o : Ob} (h : Rp G w H) (ha : gN G ≤ a) (h1 : obAt G a o H1) (hz : H1.size = H.size) (hq : ∀ q : Nat, q ≠ a → H1[q]? = H[q]?) : Rp G (wset w a o) H1 := by
  refine ⟨fun q x hx => ?_, hz.trans h.2.1, h.2.2.1, fun q hl => ?_⟩
  · by_cases e : q = a
    · subst e
      simp [wset] at hx
      rw [← hx]; exact ⟨ha, h1⟩
    · simp [wset, e] at hx
      exact ⟨(h.1 q x hx).1, (h.1 q x hx).2.kept (hq q e)⟩
  · have e : q ≠ a := by omega
    exact (hq q e).trans (h.2.2.2 q hl)
theorem Rp.new {G : Gm} {w : Wd} {H H1 : Heap} {o : Ob} {n : Nat} (h : Rp G w H) (h1 : obAt G H.size o H1) (hz : H1.size = H.size + 1) (hq : ∀ q : Nat, q < H.size → H1[q]? = H[q]?) : Rp G (wnew w o n) H1 := by
  have hs := h.2.1
  refine ⟨fun q x hx => ?_, hz.trans (by rw [hs]; rfl), Nat.le_succ_of_le h.2.2.1, fun q hl => ?_⟩
  · by_cases e : q = w.2.1
    · subst e
      simp [wnew] at hx
      rw [← hx]
      exact ⟨h.2.2.1, by rw [← hs]; exact h1⟩
    · simp [wnew, e] at hx
      exact ⟨(h.1 q x hx).1, (h.1 q x hx).2.kept (hq q (h.1 q x hx).2.lt)⟩
  · have hl2 : q < w.2.1 := Nat.lt_of_lt_of_le hl h.2.2.1
    exact (hq q (by rw [hs]; exact hl2)).trans (h.2.2.2 q hl)
theorem Fit.new {R : Room} {cells slots g n : Nat} (h : Fit R cells slots g) (hg : 12 + n ≤ g) : cells + 1 ≤ R.cells ∧ slots + n ≤ R.slots ∧ Fit R (cells + 1) (slots + n) (g - (12 + n)) := by
  obtain ⟨h1, h2⟩ := h
  refine ⟨by omega, by omega, by omega, by omega⟩
theorem locs_put {G : Gm} {locs : List Loc} {a i : Nat} (hL : ∀ q ∈ locs, gN G ≤ q.base) (ha : gN G ≤ a) : ∀ q ∈ locs ++ [(⟨a, i⟩ : Loc)], gN G ≤ q.base := by
  intro q hq
  rcases List.mem_append.mp hq with h | h
  · exact hL q h
  · rw [List.mem_singleton.mp h]; exact ha
section R6
variable {G : Gm} {M : Md} {pc : Nat} {lv : List (Nat × Value)} {st : List Value} {w : Wd} {Q : Rs → Wd → Prop}
theorem r_put {idx ci i : Nat} {C : String} {T : u_T} {N : Nat} (hf : FL (mdY M).cls idx ci i C T N) (hin : ∀ x ∈ u_ws C T N, x ∈ lw_all) {nI0 : Nat} (hinst : Cond.instantiable C nI0 ∈ lw_all) {a : Nat} {fs : List Value} {v : Value} {ty0 : Nat → FieldType} (hty : ∀ k, k < N → parseFieldDescriptor (T k).2.2.1 = some (ty0 k)) (hnm : ∀ a, a < N → ∀ b, b < N → a ≠ b → (T a).2.1 ≠ (T b).2.1) (k pn : Nat) (hd : (mdT M)[k]? = some (pc, .putfield idx, 3)) (hn : pc + 3 = pn) (ho : w.1 a = some (.inl (ci, fs))) (hfin : (T i).2.2.2 = false) (hnar : narrow (ty0 i) v = v) (hfit : fits (ty0 i) v = true) (hl : i < fs.length) (kk : Rn G M pn lv st (wset w a (.inl (ci, fs.set i v))) Q) : Rn G M pc lv (v :: .ref a :: st) w Q := by
  intro hG hM p e s m args below meth c R H locs cells slots ls hC hR hP hF hL hlv
  subst hn
  obtain ⟨hc, hi, ref, h1, h2⟩ := hf
  have hW := hC.2.2.2.2.2.2.2.1
  obtain ⟨ha, r, cell, hr, hlen, q1, q3, q2, q4⟩ := hP.1 a _ ho
  have hre : r = (C, T, N) := Option.some.inj (hr.symm.trans hc)
  subst hre
  obtain ⟨hS, hfc, -⟩ := hG.K hW hc
  obtain ⟨cC, kC, hfc', hkC, hkind, -⟩ := Cond.instantiable_spec (hG.word hW hinst args)
  cases hfc.symm.trans hfc'
  have hap : ∀ x y, x < N → y < N → x ≠ y → (GD G).2 ci x ≠ (GD G).2 ci y := by
    intro x y hx hy hne
    obtain ⟨_, _, _, fa, hia, ea, -⟩ := hS x hx
    obtain ⟨_, _, _, fb, hib, eb, -⟩ := hS y hy
    rw [← ea, ← eb]
    refine u_apart (u_lays (hG.words hW args) hin hx) (u_lays (hG.words hW args) hin hy) hia hib ?_
    rw [(State.fieldFound?_type hia (hty x hx)).1, (State.fieldFound?_type hib (hty y hy)).1]
    exact hnm x hx y hy hne
  obtain ⟨cf, kf, fi, f, hfi, hsl, -⟩ := hS i hi
  have hslot : (GD G).2 ci i < cell.slots.size := by
    have h9 : fs[i]? = some fs[i] := List.getElem?_eq_getElem hl
    exact (Array.getElem?_eq_some_iff.mp (q4 i _ h9)).1
  have hlay := hG.words hW args _ (hin _ (u_in_lay hi))
  unfold u_lay at hlay
  rw [if_neg (by rw [hfin]; decide)] at hlay
  have hst := (u_facts hfc hkC (u_lays (hG.words hW args) hin hi) hfi).1
  have h6 := u_store hfc hkC hkind hlay hfi (hty i hi) hnar hfit
  refine W.putK hC.1 hC.2.1 (f := f) ⟨hC.2.2.2.2.2.1, hG.word hW h1 args, ⟨_, _, _, FL.same (own := "") (idx := 0) (ci := 0) (C := C) (N := 0) hG hW h2 _ hfi⟩, hst⟩ (by rw [q2]; exact h6) q1 (q3.2.2 ha).1 (by rw [hsl]; exact hslot) rfl rfl (mdD hM hd) fun H1 e1 e2 e3 => ?_
  rw [hsl] at e1 ⊢
  refine kk hG hM p e s m args below meth c R H1 _ cells slots ls hC hR (hP.set ha ?_ e2 e3) hF (locs_put hL ha) hlv
  refine ⟨_, _, hc, by rw [List.length_set]; exact hlen, e1, q3, q2, fun j x hx => ?_⟩
  by_cases e : j = i
  · subst e
    rw [List.getElem?_set_self hl] at hx
    rw [Cell.slots_setSlot_self _ hslot]
    exact hx
  · rw [List.getElem?_set_ne (Ne.symm e)] at hx
    have hj : j < N := Nat.lt_of_lt_of_le (List.getElem?_eq_some_iff.mp hx).1 hlen
    rw [slot_ne _ _ (hap i j hi hj (Ne.symm e))]
    exact q4 j x hx
/-- a final field, in its class's own constructor -/
theorem r_putF {idx ci i : Nat} {C : String} {T : u_T} {N : Nat} (hf : FL (mdY M).cls idx ci i C T N) (hin : ∀ x ∈ u_ws C T N, x ∈ lw_all) {nI0 : Nat} (hinst : Cond.instantiable C nI0 ∈ lw_all) {a : Nat} {fs : List Value} {v : Value} {ty0 : Nat → FieldType} (hty : ∀ k, k < N → parseFieldDescriptor (T k).2.2.1 = some (ty0 k)) (hnm : ∀ a, a < N → ∀ b, b < N → a ≠ b → (T a).2.1 ≠ (T b).2.1) (k pn : Nat) (hd : (mdT M)[k]? = some (pc, .putfield idx, 3)) (hn : pc + 3 = pn) (ho : w.1 a = some (.inl (ci, fs))) (hfin : (T i).2.2.2 = true) (hini : (mdY M).name = "<init>") (hdecl : (T i).1 = (mdY M).cls) (hnar : narrow (ty0 i) v = v) (hfit : fits (ty0 i) v = true) (hl : i < fs.length) (kk : Rn G M pn lv st (wset w a (.inl (ci, fs.set i v))) Q) : Rn G M pc lv (v :: .ref a :: st) w Q := by
  intro hG hM p e s m args below meth c R H locs cells slots ls hC hR hP hF hL hlv
  subst hn
  obtain ⟨hc, hi, ref, h1, h2⟩ := hf
  have hW := hC.2.2.2.2.2.2.2.1
  obtain ⟨ha, r, cell, hr, hlen, q1, q3, q2, q4⟩ := hP.1 a _ ho
  have hre : r = (C, T, N) := Option.some.inj (hr.symm.trans hc)
  subst hre
  obtain ⟨hS, hfc, -⟩ := hG.K hW hc
  obtain ⟨cC, kC, hfc', hkC, hkind, -⟩ := Cond.instantiable_spec (hG.word hW hinst args)
  cases hfc.symm.trans hfc'
  have hap : ∀ x y, x < N → y < N → x ≠ y → (GD G).2 ci x ≠ (GD G).2 ci y := by
    intro x y hx hy hne
    obtain ⟨_, _, _, fa, hia, ea, -⟩ := hS x hx
    obtain ⟨_, _, _, fb, hib, eb, -⟩ := hS y hy
    rw [← ea, ← eb]
    refine u_apart (u_lays (hG.words hW args) hin hx) (u_lays (hG.words hW args) hin hy) hia hib ?_
    rw [(State.fieldFound?_type hia (hty x hx)).1, (State.fieldFound?_type hib (hty y hy)).1]
    exact hnm x hx y hy hne
  obtain ⟨cf, kf, fi, f, hfi, hsl, -⟩ := hS i hi
  have hslot : (GD G).2 ci i < cell.slots.size := by
    have h9 : fs[i]? = some fs[i] := List.getElem?_eq_getElem hl
    exact (Array.getElem?_eq_some_iff.mp (q4 i _ h9)).1
  have hlay := hG.words hW args _ (hin _ (u_in_lay hi))
  unfold u_lay at hlay
  rw [if_pos hfin] at hlay
  have hst := (u_facts hfc hkC (u_lays (hG.words hW args) hin hi) hfi).1
  have hown := hC.2.2.2.2.2.1
  have hcf : m.cls = cf := by
    obtain ⟨_, _, c', _, _, _, -, -, hf', -, -, -, hown2, -⟩ := Cond.laysFinal_spec hlay
    have e1 : c' = cf := by have := hfi.symm.trans hf'; simp at this; exact this.1.symm
    rw [hdecl] at hown2
    rw [← e1]; exact Option.some.inj (hown.symm.trans hown2)
  have h6 := u_fits hfc hkC hkind (Or.inr hlay) hfi (hty i hi) hnar hfit
  refine W.putFinK hC.1 hC.2.1 hown (hG.word hW h1 args) (FL.same (own := "") (idx := 0) (ci := 0) (C := C) (N := 0) hG hW h2 _ hfi) hst hcf (hC.2.2.2.2.2.2.1.trans hini) (by rw [q2]; exact h6) q1 (q3.2.2 ha).1 (by rw [hsl]; exact hslot) rfl rfl (mdD hM hd) fun H1 e1 e2 e3 => ?_
  rw [hsl] at e1 ⊢
  refine kk hG hM p e s m args below meth c R H1 _ cells slots ls hC hR (hP.set ha ?_ e2 e3) hF (locs_put hL ha) hlv
  refine ⟨_, _, hc, by rw [List.length_set]; exact hlen, e1, q3, q2, fun j x hx => ?_⟩
  by_cases e : j = i
  · subst e
    rw [List.getElem?_set_self hl] at hx
    rw [Cell.slots_setSlot_self _ hslot]
    exact hx
  · rw [List.getElem?_set_ne (Ne.symm e)] at hx
    have hj : j < N := Nat.lt_of_lt_of_le (List.getElem?_eq_some_iff.mp hx).1 hlen
    rw [slot_ne _ _ (hap i j hi hj (Ne.symm e))]
    exact q4 j x hx
/-- new -/
theorem r_new {idx ci : Nat} {C : String} {T : u_T} {N n : Nat} {fs : List Value} {ty : Nat → FieldType} (k pn : Nat) (hd : (mdT M)[k]? = some (pc, .new idx, 3)) (hn : pc + 3 = pn) (hc : clT[ci]? = some (C, T, N)) (hin : ∀ x ∈ u_ws C T N, x ∈ lw_all) (hty : ∀ k, k < N → parseFieldDescriptor (T k).2.2.1 = some (ty k)) (h1 : Cond.classLink (mdY M).cls idx C ∈ lw_all) (h2 : Cond.instantiable C n ∈ lw_all) (h3 : Cond.initialized C ∈ lw_all) (hlen : fs.length = N) (hfs : ∀ j, j < N → fs[j]? = some (defaultValue (ty j))) (hg : 12 + n ≤ w.2.2) (kk : Rn G M pn lv (.ref w.2.1 :: st) (wnew w (.inl (ci, fs)) n) Q) : Rn G M pc lv st w Q := by
  intro hG hM p e s m args below meth c R H locs cells slots ls hC hR hP hF hL hlv
  subst hn
  have hW := hC.2.2.2.2.2.2.2.1
  obtain ⟨f1, f2, f3⟩ := hF.new hg
  obtain ⟨hS, hfc, -⟩ := hG.K hW hc
  refine W.newcK hC.1 hC.2.1 hC.2.2.2.2.2.1 (hG.word hW h1 args) (hG.word hW h2 args) (hG.word hW h3 args) rfl (mdD hM hd) f1 f2 hfc rfl fun H1 kC hkC e1 z1 o1 => ?_
  have hk := kk hG hM p e s m args below meth c R H1 locs (cells + 1) (slots + n) ls hC hR (hP.new (n := n) ⟨_, _, hc, Nat.le_of_eq hlen, e1, ⟨(fun h => by cases h), rfl, fun _ => ⟨rfl, rfl, rfl⟩⟩, rfl, fun j v hv => by
    have hj : j < N := by rw [← hlen]; exact (List.getElem?_eq_some_iff.mp hv).1
    rw [hfs j hj] at hv
    cases hv
    obtain ⟨cf, kf, fi, fd, hi, he, -⟩ := hS j hj
    have h3 := (u_facts hfc hkC (u_lays (hG.words hW args) hin hj) hi).2.2
    rw [(State.fieldFound?_type hi (hty j hj)).2] at h3
    rw [← he]
    exact k2_blank h3⟩ z1 o1) f3 hL hlv
  rw [← hP.2.1] at hk
  exact hk
/-- newarray -/
theorem r_newa {atype : ArrayType} {ty : FieldType} {n : Int32} (k pn : Nat) (hd : (mdT M)[k]? = some (pc, .newarray atype, 2)) (hn : pc + 2 = pn) (hty : newarray.typeOf atype = ty) (h1 : Cond.arrayClass ty ∈ lw_all) (hA : ty ∈ gTys) (hRA : ∀ (U : State) (cA : ClassId), va_RA U cA ty → U.vm.findClass ("[" ++ ty.toString) = some cA) (h0 : ¬ n < 0) {N : Nat} (hN : n.toNatClampNeg = N) (hb : N * componentBytes ty ≤ 536870912) (hg : 12 + N ≤ w.2.2) (kk : Rn G M pn lv (.ref w.2.1 :: st) (wnew w (.inr (ty, N, fun _ => defaultValue ty)) N) Q) : Rn G M pc lv (.int n :: st) w Q := by
  intro hG hM p e s m args below meth c R H locs cells slots ls hC hR hP hF hL hlv
  subst hn
  subst hty
  have hW := hC.2.2.2.2.2.2.2.1
  obtain ⟨f1, f2, f3⟩ := hF.new hg
  refine va_newaK hC.1 hC.2.1 (hG.word hW h1 args) rfl (mdD hM hd) rfl h0 hN hb f1 f2 rfl fun H1 cA e1 z1 o1 hAr hNm => ?_
  have hcA : cA = GA G (newarray.typeOf atype) := Option.some.inj (hNm.symm.trans (hRA s _ (hG.arr hW hA).2))
  subst hcA
  have hk := kk hG hM p e s m args below meth c R H1 locs (cells + 1) (slots + N) ls hC hR (hP.new (n := N) ⟨_, e1, ⟨(fun h => by cases h), rfl, fun _ => ⟨rfl, rfl, rfl⟩⟩, (hG.arr0 hA).1 _ _, fun _ => rfl, ⟨by rw [arrV_size]; exact Nat.le_refl _, fun _ => arrV_size ..⟩, by rw [arrV_size]; rfl, fun j hj => arrV_read _ _ hj⟩ z1 o1) f3 hL hlv
  rw [← hP.2.1] at hk
  exact hk
/-- arrays of whole numbers -/
theorem r_alen {a n : Nat} {ty : FieldType} {f : Nat → Value} (k pn : Nat) (hd : (mdT M)[k]? = some (pc, .arraylength, 1)) (hn : pc + 1 = pn) (ho : Lk G w a (.inr (ty, n, f))) (kk : Rn G M pn lv (.int (nI n) :: st) w Q) : Rn G M pc lv (.ref a :: st) w Q := by
  intro hG hM p e s m args below meth c R H locs cells slots ls hC hR hP hF hL hlv
  subst hn
  have hW := hC.2.2.2.2.2.2.2.1
  obtain ⟨cell, g1, g2, g3, g4, g5, g6, g7⟩ := hP.at ho
  exact W.alen hC.1 hC.2.1 g1 (State.isArrayOf_alike hW.alike g3) (n := nI n) g6 rfl rfl (mdD hM hd) (kk hG hM p e s m args below meth c R H locs cells slots ls hC hR hP hF hL hlv)
end R6
