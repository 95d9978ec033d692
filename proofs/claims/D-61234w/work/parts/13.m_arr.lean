set_option maxRecDepth 100000
/-! arrays of references; copies; clones; class objects -/
theorem nn_i32 {z : Int32} (hz : ¬ z < 0) : z.toInt = (z.toNatClampNeg : Int) := by
  have hz0 : (0 : Int) ≤ z.toInt := by
    have := Int32.not_lt.mp hz
    simpa using Int32.le_iff_toInt_le.mp this
  show z.toInt = ((z.toInt.toNat : Nat) : Int)
  omega
/-- what may lie in an array of Objects -/
def OkO (G : Gm) (w : Wd) (v : Value) : Prop := v = .null ∨ ∃ (b ci : Nat) (fs : List Value) (r : vw_C), v = .ref b ∧ Lk G w b (.inl (ci, fs)) ∧ clT[ci]? = some r ∧ Cond.castable r.1 "java/lang/Object" ∈ lw_tbl
section RA
variable {G : Gm} {M N : Md} {pc : Nat} {lv : List (Nat × Value)} {st : List Value} {w : Wd} {Q Q' : Rs → Wd → Prop}
theorem r_anew {idx : Nat} {C : String} {n : Int32} (k pn : Nat) (hd : (mdT M)[k]? = some (pc, .anewarray idx, 3)) (hn : pc + 3 = pn) (h1 : Cond.classLink (mdY M).cls idx C ∈ lw_all) (h2 : Cond.arrayOver (.object C) ∈ lw_tbl) (hA : FieldType.object C ∈ gTys) (h0 : ¬ n < 0) {N : Nat} (hN : n.toNatClampNeg = N) (hb : N * 4 ≤ 536870912) (hg : 12 + N ≤ w.2.2) (kk : Rn G M pn lv (.ref w.2.1 :: st) (wnew w (.inr (.object C, N, fun _ => .null)) N) Q) : Rn G M pc lv (.int n :: st) w Q := by
  intro hG hM p e s m args below meth c R H locs cells slots ls hC hR hP hF hL hlv
  subst hn
  subst hN
  have hW := hC.2.2.2.2.2.2.2.1
  obtain ⟨f1, f2, f3⟩ := hF.new hg
  have hao : va_AO C s := va_AO.moved hW.alike (by
    obtain ⟨b, h, -⟩ := hG
    exact va_AO.of (h _ h2))
  refine W.anew hC.1 hC.2.1 hC.2.2.2.2.2.1 (hG.word hW h1 args) (va_AO.use hao) rfl (mdD hM hd) rfl h0 hb f1 f2 fun cA kA comp g1 g2 g3 g4 => ?_
  obtain ⟨kA', comp', r1, r2, r3, r4⟩ := (hG.arr hW hA).2
  have hcA : cA = GA G (.object C) := Option.some.inj (g1.symm.trans r4)
  subst hcA
  generalize hH1 : H.push ({ cls := GA G (.object C), slots := Array.replicate n.toNatClampNeg .null, vm := .none } : Cell) = H1
  have z1 : H1.size = H.size + 1 := by rw [← hH1, Array.size_push]
  have e1 : H1[H.size]? = some (arrV (GA G (.object C)) n.toNatClampNeg (fun _ => .null)) := by rw [← hH1, Array.getElem?_push_size, ← arrV_new]
  have o1 : ∀ q : Nat, q < H.size → H1[q]? = H[q]? := fun q hq => by rw [← hH1, Array.getElem?_push, if_neg (Nat.ne_of_lt hq)]
  have hk := kk hG hM p e s m args below meth c R H1 locs (cells + 1) (slots + n.toNatClampNeg) ls hC hR (hP.new (n := n.toNatClampNeg) ⟨_, e1, ⟨(fun h => by cases h), rfl, fun _ => ⟨rfl, rfl, rfl⟩⟩, (hG.arr0 hA).1 _ _, fun _ => rfl, ⟨by rw [arrV_size]; exact Nat.le_refl _, fun _ => arrV_size ..⟩, by rw [arrV_size]; rfl, fun j hj => arrV_read _ _ hj⟩ z1 o1) f3 hL hlv
  rw [← hP.2.1] at hk
  exact hk
/-- aastore -/
theorem r_aast {a n v ci : Nat} {E C : String} {TT : u_T} {NN : Nat} {fs : List Value} {f : Nat → Value} {i : Int32} (k pn : Nat) (hd : (mdT M)[k]? = some (pc, .aastore, 1)) (hn : pc + 1 = pn) (hA : FieldType.object E ∈ gTys) (ho : w.1 a = some (.inr (.object E, n, f))) (hv : Lk G w v (.inl (ci, fs))) (hc : clT[ci]? = some (C, TT, NN)) (hca : C = E ∨ Cond.castable C E ∈ lw_tbl) (hin : vp_in i n) (kk : Rn G M pn lv st (wset w a (.inr (.object E, n, updV f i.toNatClampNeg (.ref v)))) Q) : Rn G M pc lv (.ref v :: .int i :: .ref a :: st) w Q := by
  intro hG hM p e s m args below meth c R H locs cells slots ls hC hR hP hF hL hl
  subst hn
  have hW := hC.2.2.2.2.2.2.2.1
  obtain ⟨ha, cell, g1, g2, g3, g4, g5, g6, g7⟩ := hP.1 a _ ho
  obtain ⟨cellV, e1, e2, e3⟩ := hP.recv hG hW hv hc
  obtain ⟨kA, comp, r1, r2, r3, r4⟩ := (hG.arr hW hA).2
  obtain ⟨kE, hkE⟩ := Vm.classAt_of_findClass r3
  obtain ⟨kV, hkV⟩ := Vm.classAt_of_findClass e3
  have hasg : s.vm.assignable cellV.cls comp = true := by
    rcases hca with h | h
    · subst h
      cases e3.symm.trans r3
      exact va_asg _ _
    · obtain ⟨c1, c2, h1, h2, h3⟩ := Cond.castable_spec (va_Nw.use (A := args) rfl (va_Nw.warmC hW (hG.tbl h rfl)))
      cases e3.symm.trans h1
      cases r3.symm.trans h2
      exact h3
  refine W.aast hC.1 hC.2.1 g1 (fun q => VmData.ne_statics_of g2.2.1 q) g2.1 (by rw [g4 (Or.inl rfl)]; exact r1) r2 rfl hkE ⟨fun q => hin (Or.inl q), Nat.lt_of_lt_of_le (vp_lt hin) g5.1⟩ e1 (fun q => VmData.ne_statics_of e2 q) hkV hasg rfl rfl (mdD hM hd) fun H1 z1 z2 z3 => ?_
  exact kk hG hM p e s m args below meth c R H1 _ cells slots ls hC hR (hP.set ha (ob_put g2 g3 g4 g5 g6 g7 z1) z2 z3) hF (locs_put hL ha) hl
theorem r_aastN {a n : Nat} {E : String} {f : Nat → Value} {i : Int32} (k pn : Nat) (hd : (mdT M)[k]? = some (pc, .aastore, 1)) (hn : pc + 1 = pn) (ho : w.1 a = some (.inr (.object E, n, f))) (hin : vp_in i n) (kk : Rn G M pn lv st (wset w a (.inr (.object E, n, updV f i.toNatClampNeg .null))) Q) : Rn G M pc lv (.null :: .int i :: .ref a :: st) w Q := by
  intro hG hM p e s m args below meth c R H locs cells slots ls hC hR hP hF hL hl
  subst hn
  have hW := hC.2.2.2.2.2.2.2.1
  obtain ⟨ha, cell, g1, g2, g3, g4, g5, g6, g7⟩ := hP.1 a _ ho
  refine va_WaastN (C := E) hC.1 hC.2.1 g1 (State.isArrayOf_alike hW.alike g3) g2.1 (vp_big hin g5.1) (g := F0 m pc ls (.null :: .int i :: .ref a :: st)) rfl rfl (mdD hM hd) fun H1 z1 z2 z3 => ?_
  exact kk hG hM p e s m args below meth c R H1 _ cells slots ls hC hR (hP.set ha (ob_put g2 g3 g4 g5 g6 g7 z1) z2 z3) hF (locs_put hL ha) hl
/-- System.arraycopy -/
theorem r_copy {ty : FieldType} {idx a0 a n0 n1 : Nat} {f g : Nat → Value} {sp dp n : Int32} {S D L : Nat} (k pn : Nat) (hd : (mdT M)[k]? = some (pc, .invokestatic idx, 3)) (hn : pc + 3 = pn) (h1 : Cond.methodLink (mdY M).cls idx arraycopyName ∈ lw_all) (ho0 : Lk G w a0 (.inr (ty, n0, f))) (ho : w.1 a = some (.inr (ty, n1, g))) (hsp : ¬ sp < 0 ∧ sp.toNatClampNeg = S) (hdp : ¬ dp < 0 ∧ dp.toNatClampNeg = D) (hnn : ¬ n < 0 ∧ n.toNatClampNeg = L) (hs : S + L ≤ n0) (hd2 : D + L ≤ n1)
    (hok : (refKind ty = false ∧ ∀ i, i < L → fits ty (f (S + i)) = true ∧ ∀ x, f (S + i) ≠ .ref x) ∨ (ty = .object "java/lang/Object" ∧ ∀ i, i < L → OkO G w (f (S + i)))) (hlev : 1 ≤ mdV M) (hst : (st.map fun v => v.category).sum ≤ 20) (kk : Rn G M pn lv st (wset w a (.inr (ty, n1, va_cpy f g S D L))) Q) : Rn G M pc lv (.int n :: .int dp :: .ref a :: .int sp :: .ref a0 :: st) w Q := by
  intro hG hM p e s m args below meth c R H locs cells slots ls hC hR hP hF hL hl T hT X
  subst hT
  subst hn
  obtain ⟨hsp, rfl⟩ := hsp
  obtain ⟨hdp, rfl⟩ := hdp
  obtain ⟨hnn, rfl⟩ := hnn
  have hW := hC.2.2.2.2.2.2.2.1
  obtain ⟨ha, cell, g1, g2, g3, g4, g5, g6, g7⟩ := hP.1 a _ ho
  obtain ⟨cell0, f1, f2, f3, f4, f5, f6, f7⟩ := hP.at ho0
  obtain ⟨hob1, kd, hkd, dComp, hdk⟩ := State.isArrayOf_alike hW.alike g3
  obtain ⟨hob0, ks, hks, sComp, hsk⟩ := State.isArrayOf_alike hW.alike f3
  have hdg : decode c.code pc = .ok (.invokestatic idx, 3) := by rw [hC.2.1]; exact mdD hM hd
  have hget : ∀ i, i < n.toNatClampNeg → cell0.slots.getD (sp.toNatClampNeg + i) .null = f (sp.toNatClampNeg + i) := by
    intro i hi
    have f7' : ∀ j : Nat, j < n0 → cell0.slots[j]? = some (f j) := f7
    rw [Array.getD_eq_getD_getElem?, f7' _ (by omega)]; rfl
  have hRf := hR.1
  have hRl := hR.2
  have hwd : nativeFrameWords "java/lang/System" "arraycopy" 5 = 7 := by decide
  obtain ⟨vm', X', step⟩ := X.arraycopy hC.1 hC.2.2.2.2.2.1 (hG.word hW h1 args) (hG.word hW q462 args) (hG.word hW q461 args) (hG.word hW q79 args) (src := a0) (dst := a) (cs := cell0) (cd := cell) (srcPos := sp) (destPos := dp) (n := n) f1 g1
    hob0 hob1 f2.1 g2.1 hks hkd hsk hdk (by cases h : refKind ty <;> simp [h]) hsp hdp hnn
    (by rw [nn_i32 hsp, nn_i32 hnn]; have := f5.1; show ¬ ((sp.toNatClampNeg : Int) + n.toNatClampNeg > (cell0.slots.size : Int)); have : n0 ≤ cell0.slots.size := this; omega)
    (by rw [nn_i32 hdp, nn_i32 hnn]; have : n1 ≤ cell.slots.size := g5.1; show ¬ ((dp.toNatClampNeg : Int) + n.toNatClampNeg > (cell.slots.size : Int)); omega)
    (fun vm₁ hvm i hi => by
      rw [hget i hi]
      rcases hok with ⟨-, hf⟩ | ⟨hty, hf⟩
      · obtain ⟨p1, p2⟩ := hf i hi
        refine ⟨p1, ?_⟩
        cases hv : f (sp.toNatClampNeg + i) with
        | ref x => exact absurd hv (p2 x)
        | _ => exact trivial
      · subst hty
        rcases hf i hi with hv | ⟨b, ci, fs, r, hv, hb, hr, hca⟩
        · rw [hv]; exact ⟨rfl, trivial⟩
        · rw [hv]
          refine ⟨rfl, ?_⟩
          obtain ⟨C, TT, NN⟩ := r
          obtain ⟨cellV, e1, e2, e3⟩ := hP.recv hG hW hb hr
          obtain ⟨c1, c2, h1, h2, h3⟩ := Cond.castable_spec (va_Nw.use (A := args) rfl (va_Nw.warmC hW (hG.tbl hca rfl)))
          cases e3.symm.trans h1
          obtain ⟨kA, comp, r1, r2, r3, r4⟩ := (hG.arr hW (ty := .object "java/lang/Object") (by decide)).2
          have hcl : cell.cls = GA G (.object "java/lang/Object") := g4 (Or.inl rfl)
          rw [hcl] at hkd
          cases hkd.symm.trans r1
          have hcomp : dComp = comp := by
            have := hdk.symm.trans r2
            simpa using this
          subst hcomp
          cases r3.symm.trans h2
          obtain ⟨kV, hkV⟩ := Vm.classAt_of_findClass e3
          obtain ⟨kE, hkE⟩ := Vm.classAt_of_findClass r3
          obtain ⟨kV', hkV', -⟩ := hvm.2.2 _ _ hkV
          obtain ⟨kE', hkE', -⟩ := hvm.2.2 _ _ hkE
          exact ⟨cellV, e1, fun q => VmData.ne_statics_of e2 q, ⟨kV', hkV'⟩, ⟨kE', hkE'⟩, by show vm₁.assignable _ _ = true; rw [hvm.assignable]; exact h3⟩)
    (g := F0 m pc ls (.int n :: .int dp :: .ref a :: .int sp :: .ref a0 :: st)) rfl (hl.1.trans hC.2.2.2.1.symm) (rest := st) rfl hdg (by omega) (by show 2 * 0 + _ + _ ≤ _; rw [hwd]; omega)
  have hlt : a < T.heap.size := (Array.getElem?_eq_some_iff.mp g1).1
  have hlen : (cell0.stretch sp.toNatClampNeg n.toNatClampNeg).length = n.toNatClampNeg := by simp [Cell.stretch]
  obtain ⟨c1, c2, c3, c4, c5⟩ := Cell.storePairs_facts cell dp.toNatClampNeg (cell0.stretch sp.toNatClampNeg n.toNatClampNeg).zipIdx
  have hob : obAt G a (.inr (ty, n1, va_cpy f g sp.toNatClampNeg dp.toNatClampNeg n.toNatClampNeg)) (((T.setVm vm').setCell a (copied cell0 cell sp dp n))).heap := by
    refine ⟨_, heapAt_setCell_self _ hlt, ?_, ?_, ?_, ?_, ?_, fun j hj => ?_⟩
    · exact ⟨by show (cell.storeRun _ _).vm ≠ _; unfold Cell.storeRun; rw [c2]; exact g2.1, by show (cell.storeRun _ _).vm.isStatics = _; unfold Cell.storeRun; rw [c2]; exact g2.2.1, fun h => by
        show (cell.storeRun _ _).vm = _ ∧ (cell.storeRun _ _).monitor.owner = _ ∧ (cell.storeRun _ _).monitor.count = _
        unfold Cell.storeRun
        rw [c2, c5]; exact g2.2.2 h⟩
    · obtain ⟨i1, i2, i3, i4, i5⟩ := g3
      exact ⟨fun q h => i1 q (by rw [← h]; exact c2.symm), i2, (congrArg (fun z => (Gs G).vm.classes[z]?) c1).trans i3, i4, i5⟩
    · intro h
      exact c1.trans (g4 h)
    · exact ⟨Nat.le_trans g5.1 (Nat.le_of_eq c3.symm), fun h => c3.trans (g5.2 h)⟩
    · exact (congrArg Nat.toInt32 c3).trans g6
    · show (cell.storeRun _ _).slots[j]? = _
      rw [Cell.storeRun_get _ _ _ _ (by rw [hlen]; exact Nat.le_trans hd2 g5.1), hlen]
      show _ = some (if dp.toNatClampNeg ≤ j ∧ j < dp.toNatClampNeg + n.toNatClampNeg then f (sp.toNatClampNeg + (j - dp.toNatClampNeg)) else g j)
      by_cases h : dp.toNatClampNeg ≤ j ∧ j < dp.toNatClampNeg + n.toNatClampNeg
      · rw [if_pos h, if_pos h]
        unfold Cell.stretch
        rw [List.getElem?_map, List.getElem?_range (by omega)]
        show some (cell0.slots.getD _ _) = _
        rw [hget _ (by omega)]
      · rw [if_neg h, if_neg h]
        exact g7 j hj
  obtain ⟨t, ht, hE⟩ := kk hG hM p e s m args below meth c R _ _ cells slots ls hC hR (hP.set ha hob (by show (T.heap.setIfInBounds a _).size = _; exact Array.size_setIfInBounds ..) (fun q hq => heapAt_setCell_ne _ (Ne.symm hq))) hF (fun q hq => by
      rcases List.mem_append.mp hq with h | h
      · exact hL q h
      · obtain ⟨z, -, hz⟩ := List.mem_map.mp h
        rw [← hz]; exact ha) hl _ rfl X'
  exact ⟨t, step t ht, hE⟩
/-- an array's clone() -/
theorem r_clone {ty : FieldType} {ad : String} {idx a n : Nat} {f : Nat → Value} (k pn : Nat) (hd : (mdT M)[k]? = some (pc, .invokevirtual idx, 3)) (hn : pc + 3 = pn) (h1 : Cond.methodLink (mdY M).cls idx ⟨ad, "clone", "()Ljava/lang/Object;"⟩ ∈ lw_all) (h2 : Cond.sameMethod ad "java/lang/Object" "clone" "()Ljava/lang/Object;" ∈ lw_all) (h3 : Cond.selects ad ⟨ad, "clone", "()Ljava/lang/Object;"⟩ ⟨"java/lang/Object", "clone", "()Ljava/lang/Object;"⟩ ∈ lw_all) (h4 : Cond.castable ad "java/lang/Cloneable" ∈ lw_tbl) (hA : ty ∈ gTys) (had : ∀ (U : State) (cA : ClassId), va_RA U cA ty → U.vm.findClass ad = some cA)
    (ho : Lk G w a (.inr (ty, n, f))) (hex : gN G ≤ a ∨ ∀ cell, (Gs G).heap[a]? = some cell → cell.slots.size = n ∧ cell.cls = GA G ty) (hfit : ∀ i, i < n → fits ty (f i) = true) (hlev : 1 ≤ mdV M) (hst : (st.map fun v => v.category).sum ≤ 20) (hg : 12 + n ≤ w.2.2) (kk : Rn G M pn lv (.ref w.2.1 :: st) (wnew w (.inr (ty, n, f)) n) Q) : Rn G M pc lv (.ref a :: st) w Q := by
  intro hG hM p e s m args below meth c R H locs cells slots ls hC hR hP hF hL hl T hT X
  subst hT
  subst hn
  have hW := hC.2.2.2.2.2.2.2.1
  obtain ⟨f1, f2, f3⟩ := hF.new hg
  obtain ⟨cell, g1, g2, g3, g4, g5, g6, g7⟩ := hP.at ho
  have hx : cell.slots.size = n ∧ cell.cls = GA G ty := by
    rcases hex with h | h
    · exact ⟨g5.2 h, g4 (Or.inr h)⟩
    · by_cases hl2 : a < gN G
      · exact h cell (by rw [← hP.2.2.2 a hl2]; exact g1)
      · exact ⟨g5.2 (by omega), g4 (Or.inr (by omega))⟩
  obtain ⟨hsz, hcl⟩ := hx
  obtain ⟨hob1, kd, hkd, dComp, hdk⟩ := State.isArrayOf_alike hW.alike g3
  have hgT := State.isArrayOf_alike (State.WarmedH.trans hW X.warmed).alike g3
  obtain ⟨hob2, kT, hkT, dC2, hdk2⟩ := hgT
  have hdg : decode c.code pc = .ok (.invokevirtual idx, 3) := by rw [hC.2.1]; exact mdD hM hd
  obtain ⟨c0, t0, j1, j2, j3⟩ := Cond.castable_spec (va_Nw.use (A := args) rfl (va_Nw.warmC hW (hG.tbl h4 rfl)))
  have hnm := had s _ (hG.arr hW hA).2
  rw [← hcl] at hnm
  cases hnm.symm.trans j1
  have hRf := hR.1
  have hRl := hR.2
  obtain ⟨vm', X', stp⟩ := X.cloneArray hC.1 hC.2.2.2.2.2.1 (hG.word hW h1 args) (hG.word hW h2 args) (hG.word hW q454 args) (hG.word hW q455 args) (hG.word hW h3 args) (a := a) (cell := cell) g1 (fun q => VmData.ne_statics_of g2.2.1 q) g2.1 hnm j2 j3
    (fun i v hv => by
      have hi : i < n := by rw [← hsz]; exact (Array.getElem?_eq_some_iff.mp hv).1
      rw [g7 i hi] at hv
      cases hv
      simpa [State.fitsSlot, State.slotType?, hkT, hdk2] using hfit i hi)
    (g := F0 m pc ls (.ref a :: st)) rfl (hl.1.trans hC.2.2.2.1.symm) rfl hdg (by omega) (by show 2 * 0 + _ + 14 ≤ _; omega) f1 (by rw [hsz]; exact f2) (hloader := Vm.clonesLoader_of_array hkd hdk)
  rw [hsz] at X'
  have e1 : (T.heap.push ({ cls := cell.cls, slots := cell.slots } : Cell))[T.heap.size]? = some ({ cls := cell.cls, slots := cell.slots } : Cell) := Array.getElem?_push_size
  have o1 : ∀ q : Nat, q < T.heap.size → (T.heap.push ({ cls := cell.cls, slots := cell.slots } : Cell))[q]? = T.heap[q]? := fun q hq => by rw [Array.getElem?_push, if_neg (Nat.ne_of_lt hq)]
  have hk := kk hG hM p e s m args below meth c R (T.heap.push ({ cls := cell.cls, slots := cell.slots } : Cell)) locs (cells + 1) (slots + n) ls hC hR (hP.new (n := n) ⟨_, e1, ⟨(fun h => by cases h), rfl, fun _ => ⟨rfl, rfl, rfl⟩⟩, by
      obtain ⟨i1, i2, i3, i4, i5⟩ := g3
      exact ⟨(fun q h => by cases h), i2, i3, i4, i5⟩, fun _ => hcl, ⟨g5.1, fun _ => hsz⟩, g6, g7⟩ (Array.size_push ..) o1) f3 hL hl
  rw [← hP.2.1] at hk
  obtain ⟨t, b1, b2⟩ := hk ((T.setVm vm').pushCell ({ cls := cell.cls, slots := cell.slots } : Cell)) rfl X'
  exact ⟨t, stp t b1, b2⟩
/-- the class object of Object[] -/
theorem r_getC {idx a n mi : Nat} {E : String} {f : Nat → Value} (k pn : Nat) (hd : (mdT M)[k]? = some (pc, .invokevirtual idx, 3)) (hn : pc + 3 = pn) (h1 : Cond.methodLink (mdY M).cls idx ⟨"java/lang/Object", "getClass", "()Ljava/lang/Class;"⟩ ∈ lw_all) (h2 : Cond.selects ("[" ++ (FieldType.object E).toString) ⟨"java/lang/Object", "getClass", "()Ljava/lang/Class;"⟩ ⟨"java/lang/Object", "getClass", "()Ljava/lang/Class;"⟩ ∈ lw_all) (hA : FieldType.object E ∈ gTys) (hM' : va_Mi ("[" ++ (FieldType.object E).toString) mi (Gs G)) (ho : Lk G w a (.inr (.object E, n, f))) (hlev : 1 ≤ mdV M) (hst : (st.map fun v => v.category).sum ≤ 20) (kk : Rn G M pn lv (.ref mi :: st) w Q) : Rn G M pc lv (.ref a :: st) w Q := by
  intro hG hM p e s m args below meth c R H locs cells slots ls hC hR hP hF hL hl
  subst hn
  have hW := hC.2.2.2.2.2.2.2.1
  obtain ⟨cell, g1, g2, g3, g4, -⟩ := hP.at ho
  obtain ⟨kA, comp, r1, r2, r3, r4⟩ := (hG.arr hW hA).2
  have hRf := hR.1
  have hRl := hR.2
  exact va_getC hC.1 hC.2.1 (hC.2.2.2.1.trans hl.1.symm) hC.2.2.2.2.2.1 (hG.word hW h1 args) (va_tabs (c := .declares _) rfl rfl (va_Nw.warmD hW (hG.tbl q2285 rfl))) (hG.word hW h2 args) (hG.word hW q859 args) (hG.word hW q882 args) (va_Mi.moved hW.alike hM') ⟨cell, g1, g2.2.1, by rw [g4 (Or.inl rfl)]; exact r4⟩ (by omega) (by omega) (mdD hM hd) (kk hG hM p e s m args below meth c R H locs cells slots ls hC hR hP hF hL hl)
theorem r_ldcM {idx mi : Nat} {C : String} (k pn : Nat) (hd : (mdT M)[k]? = some (pc, .ldc idx, 2)) (hn : pc + 2 = pn) (h1 : Cond.classLink (mdY M).cls idx C ∈ lw_all) (hM' : va_Mi C mi (Gs G)) (kk : Rn G M pn lv (.ref mi :: st) w Q) : Rn G M pc lv st w Q := by
  intro hG hM p e s m args below meth c R H locs cells slots ls hC hR hP hF hL hl
  subst hn
  have hW := hC.2.2.2.2.2.2.2.1
  exact va_ldcM hC.1 hC.2.1 hC.2.2.2.2.2.1 (hG.word hW h1 args) (va_Mi.moved hW.alike hM') (mdD hM hd) (kk hG hM p e s m args below meth c R H locs cells slots ls hC hR hP hF hL hl)
end RA
/-- a private method, called on an object of whatever class -/
def LkR (own : String) (idx : Nat) (N : Md) (np : Nat) : Prop := mdOk N ∧ Cond.methodLink own idx (mdY N) ∈ lw_all ∧ Cond.instanceMethod (mdY N) ∈ lw_all ∧ Cond.privateMethod (mdY N) ∈ lw_tbl ∧ (∃ (C : String) (x y : MethodName), Cond.selects C x y ∈ lw_all ∧ y.cls = (mdY N).cls) ∧ ((mdY N).cls ≠ "java/lang/invoke/MethodHandle" ∧ (mdY N).cls ≠ "java/lang/invoke/VarHandle") ∧ (parseMethodDescriptor (mdY N).desc).map (fun d => d.parameters.length) = some np
section RR2
variable {G : Gm} {M N : Md} {pc : Nat} {lv : List (Nat × Value)} {st : List Value} {w : Wd} {Q Q' : Rs → Wd → Prop}
theorem r_callR {idx np ci : Nat} {C : String} {TT : u_T} {NN : Nat} (hk : LkR (mdY M).cls idx N np) (hc : clT[ci]? = some (C, TT, NN)) {b : Nat} {fs : List Value} (ho : Lk G w b (.inl (ci, fs))) (k pn : Nat) (hd : (mdT M)[k]? = some (pc, .invokevirtual idx, 3)) (hn : pc + 3 = pn) (hlev : mdV N < mdV M) (as : List Value) {stk : List Value} (hs : as.reverse ++ .ref b :: st = stk) (hnp : as.length = np) (hsl : (lg_sl (.ref b :: as)).length ≤ mdL N) (hst : (st.map fun v => v.category).sum ≤ 20) (hE : Ev G N (.ref b :: as) w Q') (kk : ∀ r w', Q' r w' → Af G M pc pn lv st r w' Q) : Rn G M pc lv stk w Q := by
  intro hG hM p e s m args below meth c R H locs cells slots ls hC hR hP hF hL hl T hT X
  subst hs
  subst hT
  obtain ⟨hN, k1, k2, k5, ⟨C9, x9, y9, k9, hy9⟩, k3, k4⟩ := hk
  have hW := hC.2.2.2.2.2.2.2.1
  obtain ⟨mk, methM, hnm, hmethM, hstM, habM⟩ := Cond.instanceMethod_spec (hG.word hW k2 args)
  obtain ⟨methk, ck, h1, h2, h3, h4, h5, h6, h7, h8⟩ := md_at hN (hG.word hW hN.2.1 args) hnm
  cases hmethM.symm.trans h1
  obtain ⟨r, cell, hr, -, g1, g3, g2, -⟩ := hP.at ho
  obtain ⟨c2, r2, m2, q1, q2, q3, q4, kP, hkP, hkPi⟩ := Cond.selects_spec (hG.word hW k9 args)
  have hcm : m2.cls = mk.cls := by
    have e1 := findClass_of_methodNamed q3
    have e2 := findClass_of_methodNamed hnm
    rw [hy9] at e1
    exact Option.some.inj (e1.symm.trans e2)
  rw [hcm] at hkP
  have hpr : (Cond.privateMethod (mdY N)).before #[] s = true := va_tabs (c := .privateMethod _) rfl (rfl : ((Gs G).setVm s.vm).vm = s.vm) (by rw [Cond.privateMethod_setVm hW.alike]; exact hG.tbl k5 rfl)
  have hpv : methM.isPrivate = true := Cond.privateMethod_at hpr mk methM hnm h1
  have hselP : selectMethod e.platform s.vm cell.cls mk = .method mk := selectMethod_private h1 hpv
  have hdg : decode c.code pc = .ok (.invokevirtual idx, 3) := by rw [hC.2.1]; exact mdD hM hd
  obtain ⟨vm₁, X₁, hstep₁⟩ := X.invokevirtual hC.1 hC.2.2.2.2.2.1 (hG.word hW k1 args) hnm h1 hstM hkP hkPi k3 (a := b) (cell := cell) g1 (fun z h => by have := g3.2.1; rw [h] at this; cases this) hselP h1 habM hkP hkPi (g := F0 m pc ls (as.reverse ++ .ref b :: st)) rfl (argsL := as) (rest := st) (hnp.trans (np_of k4 _ h8)) rfl hdg
  obtain ⟨t, ht, hE⟩ := call_end hG hM hC X₁ hR hP hF hL hN hlev hE hsl (X₁.named hnm) hl hst hdg hn kk
  exact ⟨t, hstep₁ t ht, hE⟩
/-- checkcast of a made array of whole numbers to its own class -/
theorem r_castP {ty : FieldType} {idx a n : Nat} {ad : String} {f : Nat → Value} (h1 : Cond.classLink (mdY M).cls idx ad ∈ lw_all) (hA : ty ∈ gTys) (had : ∀ (U : State) (cA : ClassId), va_RA U cA ty → U.vm.findClass ad = some cA) (k pn : Nat) (hd : (mdT M)[k]? = some (pc, .checkcast idx, 3)) (hn : pc + 3 = pn) (ho : w.1 a = some (.inr (ty, n, f))) (kk : Rn G M pn lv (.ref a :: st) w Q) : Rn G M pc lv (.ref a :: st) w Q := by
  intro hG hM p e s m args below meth c R H locs cells slots ls hC hR hP hF hL hl
  subst hn
  have hW := hC.2.2.2.2.2.2.2.1
  obtain ⟨ha, cell, g1, g2, g3, g4, -⟩ := hP.1 a _ ho
  exact va_castE hC.1 hC.2.1 hC.2.2.2.2.2.1 (hG.word hW h1 args) ⟨cell, g1, g2.2.1, by rw [g4 (Or.inr ha)]; exact had s _ (hG.arr hW hA).2⟩ (mdD hM hd) (kk hG hM p e s m args below meth c R H locs cells slots ls hC hR hP hF hL hl)
end RR2
