set_option maxRecDepth 100000
/-! worlds, layer by layer -/
theorem wset_s {w : Wd} {a : Nat} {o : Ob} : (wset w a o).1 a = some o := by simp [wset]
theorem wset_n {w : Wd} {a b : Nat} {o o' : Ob} (h : w.1 a = some o) (hne : a ≠ b) : (wset w b o').1 a = some o := by simp [wset, hne, h]
theorem wnew_s {w : Wd} {o : Ob} {n : Nat} : (wnew w o n).1 w.2.1 = some o := by simp [wnew]
theorem wnew_n {w : Wd} {a n : Nat} {o o' : Ob} (h : w.1 a = some o) (hlt : a < w.2.1) : (wnew w o' n).1 a = some o := by
  have : a ≠ w.2.1 := by omega
  simp [wnew, this, h]
theorem Lk.set_n {G : Gm} {w : Wd} {a b : Nat} {o o' : Ob} (h : Lk G w a o) (hne : a ≠ b) : Lk G (wset w b o') a o := h.elim (fun h => Or.inl (wset_n h hne)) Or.inr
theorem Lk.new_n {G : Gm} {w : Wd} {a n : Nat} {o o' : Ob} (h : Lk G w a o) (hlt : a < w.2.1) : Lk G (wnew w o' n) a o := h.elim (fun h => Or.inl (wnew_n h hlt)) Or.inr
theorem Lk.lt {G : Gm} {w : Wd} {a : Nat} {o : Ob} (h : Lk G w a o) (hw : Wok G w) : a < w.2.1 := h.elim (fun h => (hw.1 a o h).2) (fun h => Nat.lt_of_lt_of_le h.1 hw.2)
theorem Lk.ne {G : Gm} {w : Wd} {a b : Nat} {o o' : Ob} (h : Lk G w a o) (h' : w.1 b = some o') (hw : Wok G w) (hne : o ≠ o') : a ≠ b := by
  rintro rfl
  rcases h with h | h
  · exact hne (Option.some.inj (h.symm.trans h'))
  · exact absurd h.1 (Nat.not_lt.mpr (hw.1 a o' h').1)
theorem wset_wset {w : Wd} {a : Nat} {o o' : Ob} : wset (wset w a o) a o' = wset w a o' := by
  refine Prod.ext (funext fun q => ?_) rfl
  by_cases h : q = a <;> simp [wset, h]
theorem wset_wnew {w : Wd} {n : Nat} {o o' : Ob} : wset (wnew w o n) w.2.1 o' = wnew w o' n := by
  refine Prod.ext (funext fun q => ?_) rfl
  by_cases h : q = w.2.1 <;> simp [wset, wnew, h]
/-- arrays of whole numbers, of longs, of references -/
abbrev arI (ty : FieldType) (n : Nat) (g : Nat → Int32) : Ob := .inr (ty, n, fun j => .int (g j))
abbrev arL (n : Nat) (g : Nat → Int64) : Ob := .inr (.long, n, fun j => .long (g j))
abbrev arR (C : String) (n : Nat) (g : Nat → Option Nat) : Ob := .inr (.object C, n, fun j => va_rf (g j))
def upF {α : Type} (g : Nat → α) (i : Nat) (x : α) : Nat → α := fun j => if j = i then x else g j
theorem updV_mk {α : Type} (mk : α → Value) (g : Nat → α) (i : Nat) (x : α) : updV (fun j => mk (g j)) i (mk x) = fun j => mk (upF g i x j) := by
  funext j
  simp only [updV, upF]
  split <;> rfl
theorem cpy_mk {α : Type} (mk : α → Value) (f g : Nat → α) (S D L : Nat) : va_cpy (fun j => mk (f j)) (fun j => mk (g j)) S D L = fun j => mk (va_cpy f g S D L j) := by
  funext j
  simp only [va_cpy]
  split <;> rfl
section RW
variable {G : Gm} {M N : Md} {pc : Nat} {lv : List (Nat × Value)} {st : List Value} {w : Wd} {Q Q' : Rs → Wd → Prop}
theorem x_iald {a n : Nat} {g : Nat → Int32} {i : Int32} (k pn : Nat) (hd : (mdT M)[k]? = some (pc, .iaload, 1)) (hn : pc + 1 = pn) (ho : Lk G w a (arI .int n g)) (hin : vp_in i n) (kk : Rn G M pn lv (.int (g i.toNatClampNeg) :: st) w Q) : Rn G M pc lv (.int i :: .ref a :: st) w Q := r_iald k pn hd hn ho hin rfl kk
theorem x_bald {a n : Nat} {g : Nat → Int32} {i : Int32} (k pn : Nat) (hd : (mdT M)[k]? = some (pc, .baload, 1)) (hn : pc + 1 = pn) (ho : Lk G w a (arI .byte n g)) (hin : vp_in i n) (kk : Rn G M pn lv (.int (g i.toNatClampNeg) :: st) w Q) : Rn G M pc lv (.int i :: .ref a :: st) w Q := r_bald k pn hd hn ho hin rfl kk
theorem x_lald {a n : Nat} {g : Nat → Int64} {i : Int32} (k pn : Nat) (hd : (mdT M)[k]? = some (pc, .laload, 1)) (hn : pc + 1 = pn) (ho : Lk G w a (arL n g)) (hin : vp_in i n) (kk : Rn G M pn lv (.long (g i.toNatClampNeg) :: st) w Q) : Rn G M pc lv (.int i :: .ref a :: st) w Q := r_lald k pn hd hn ho hin rfl kk
theorem x_aald {a n : Nat} {C : String} {g : Nat → Option Nat} {i : Int32} (k pn : Nat) (hd : (mdT M)[k]? = some (pc, .aaload, 1)) (hn : pc + 1 = pn) (ho : Lk G w a (arR C n g)) (hin : vp_in i n) {v : Option Nat} (hv : g i.toNatClampNeg = v) (kk : Rn G M pn lv (va_rf v :: st) w Q) : Rn G M pc lv (.int i :: .ref a :: st) w Q := r_aald k pn hd hn ho hin (congrArg va_rf hv) kk
theorem x_iast {a n : Nat} {g : Nat → Int32} {i x : Int32} (k pn : Nat) (hd : (mdT M)[k]? = some (pc, .iastore, 1)) (hn : pc + 1 = pn) (ho : w.1 a = some (arI .int n g)) (hin : vp_in i n) (kk : Rn G M pn lv st (wset w a (arI .int n (upF g i.toNatClampNeg x))) Q) : Rn G M pc lv (.int x :: .int i :: .ref a :: st) w Q :=
  r_iast k pn hd hn ho hin (by rw [updV_mk (fun z => Value.int z)]; exact kk)
theorem x_bast {a n : Nat} {g : Nat → Int32} {i x : Int32} (k pn : Nat) (hd : (mdT M)[k]? = some (pc, .bastore, 1)) (hn : pc + 1 = pn) (ho : w.1 a = some (arI .byte n g)) (hin : vp_in i n) (hx : narrow .byte (.int x) = .int x) (kk : Rn G M pn lv st (wset w a (arI .byte n (upF g i.toNatClampNeg x))) Q) : Rn G M pc lv (.int x :: .int i :: .ref a :: st) w Q :=
  r_bast k pn hd hn ho hin (by rw [hx, updV_mk (fun z => Value.int z)]; exact kk)
theorem x_last {a n : Nat} {g : Nat → Int64} {i : Int32} {x : Int64} (k pn : Nat) (hd : (mdT M)[k]? = some (pc, .lastore, 1)) (hn : pc + 1 = pn) (ho : w.1 a = some (arL n g)) (hin : vp_in i n) (kk : Rn G M pn lv st (wset w a (arL n (upF g i.toNatClampNeg x))) Q) : Rn G M pc lv (.long x :: .int i :: .ref a :: st) w Q :=
  r_last k pn hd hn ho hin (by rw [updV_mk (fun z => Value.long z)]; exact kk)
theorem x_aast {a n v ci : Nat} {E C : String} {TT : u_T} {NN : Nat} {fs : List Value} {g : Nat → Option Nat} {i : Int32} (k pn : Nat) (hd : (mdT M)[k]? = some (pc, .aastore, 1)) (hn : pc + 1 = pn) (hA : FieldType.object E ∈ gTys) (ho : w.1 a = some (arR E n g)) (hv : Lk G w v (.inl (ci, fs))) (hc : clT[ci]? = some (C, TT, NN)) (hca : C = E ∨ Cond.castable C E ∈ lw_tbl) (hin : vp_in i n) (kk : Rn G M pn lv st (wset w a (arR E n (upF g i.toNatClampNeg (some v)))) Q) : Rn G M pc lv (.ref v :: .int i :: .ref a :: st) w Q :=
  r_aast k pn hd hn hA ho hv hc hca hin (by rw [show Value.ref v = va_rf (some v) from rfl, updV_mk va_rf]; exact kk)
theorem x_aastO {a n v : Nat} {g : Nat → Option Nat} {i : Int32} (k pn : Nat) (hd : (mdT M)[k]? = some (pc, .aastore, 1)) (hn : pc + 1 = pn) (ho : w.1 a = some (arR "java/lang/Object" n g)) (hv : OkO G w (.ref v)) (hin : vp_in i n) (kk : Rn G M pn lv st (wset w a (arR "java/lang/Object" n (upF g i.toNatClampNeg (some v)))) Q) : Rn G M pc lv (.ref v :: .int i :: .ref a :: st) w Q := by
  rcases hv with hv | ⟨b, ci, fs, ⟨C, TT, NN⟩, hv, hb, hr, hca⟩
  · cases hv
  · cases hv
    exact x_aast k pn hd hn (by decide) ho hb hr (Or.inr hca) hin kk
theorem x_copyI {ty : FieldType} {idx a0 a n0 n1 : Nat} {f g : Nat → Int32} {sp dp n : Int32} {S D L : Nat} (k pn : Nat) (hd : (mdT M)[k]? = some (pc, .invokestatic idx, 3)) (hn : pc + 3 = pn) (h1 : Cond.methodLink (mdY M).cls idx arraycopyName ∈ lw_all) (hty : refKind ty = false) (ho0 : Lk G w a0 (arI ty n0 f)) (ho : w.1 a = some (arI ty n1 g)) (hsp : ¬ sp < 0 ∧ sp.toNatClampNeg = S) (hdp : ¬ dp < 0 ∧ dp.toNatClampNeg = D) (hnn : ¬ n < 0 ∧ n.toNatClampNeg = L) (hs : S + L ≤ n0) (hd2 : D + L ≤ n1)
    (hok : ∀ i, i < L → fits ty (.int (f (S + i))) = true) (hlev : 1 ≤ mdV M) (hst : (st.map fun v => v.category).sum ≤ 20) (kk : Rn G M pn lv st (wset w a (arI ty n1 (va_cpy f g S D L))) Q) : Rn G M pc lv (.int n :: .int dp :: .ref a :: .int sp :: .ref a0 :: st) w Q :=
  r_copy k pn hd hn h1 ho0 ho hsp hdp hnn hs hd2 (Or.inl ⟨hty, fun i hi => ⟨hok i hi, fun x h => by cases h⟩⟩) hlev hst (by rw [cpy_mk (fun z => Value.int z)]; exact kk)
theorem x_copyL {idx a0 a n0 n1 : Nat} {f g : Nat → Int64} {sp dp n : Int32} {S D L : Nat} (k pn : Nat) (hd : (mdT M)[k]? = some (pc, .invokestatic idx, 3)) (hn : pc + 3 = pn) (h1 : Cond.methodLink (mdY M).cls idx arraycopyName ∈ lw_all) (ho0 : Lk G w a0 (arL n0 f)) (ho : w.1 a = some (arL n1 g)) (hsp : ¬ sp < 0 ∧ sp.toNatClampNeg = S) (hdp : ¬ dp < 0 ∧ dp.toNatClampNeg = D) (hnn : ¬ n < 0 ∧ n.toNatClampNeg = L) (hs : S + L ≤ n0) (hd2 : D + L ≤ n1)
    (hlev : 1 ≤ mdV M) (hst : (st.map fun v => v.category).sum ≤ 20) (kk : Rn G M pn lv st (wset w a (arL n1 (va_cpy f g S D L))) Q) : Rn G M pc lv (.int n :: .int dp :: .ref a :: .int sp :: .ref a0 :: st) w Q :=
  r_copy k pn hd hn h1 ho0 ho hsp hdp hnn hs hd2 (Or.inl ⟨rfl, fun i hi => ⟨rfl, fun x h => by cases h⟩⟩) hlev hst (by rw [cpy_mk (fun z => Value.long z)]; exact kk)
theorem x_copyR {idx a0 a n0 n1 : Nat} {f g : Nat → Option Nat} {sp dp n : Int32} {S D L : Nat} (k pn : Nat) (hd : (mdT M)[k]? = some (pc, .invokestatic idx, 3)) (hn : pc + 3 = pn) (h1 : Cond.methodLink (mdY M).cls idx arraycopyName ∈ lw_all) (ho0 : Lk G w a0 (arR "java/lang/Object" n0 f)) (ho : w.1 a = some (arR "java/lang/Object" n1 g)) (hsp : ¬ sp < 0 ∧ sp.toNatClampNeg = S) (hdp : ¬ dp < 0 ∧ dp.toNatClampNeg = D) (hnn : ¬ n < 0 ∧ n.toNatClampNeg = L) (hs : S + L ≤ n0) (hd2 : D + L ≤ n1)
    (hok : ∀ i, i < L → OkO G w (va_rf (f (S + i)))) (hlev : 1 ≤ mdV M) (hst : (st.map fun v => v.category).sum ≤ 20) (kk : Rn G M pn lv st (wset w a (arR "java/lang/Object" n1 (va_cpy f g S D L))) Q) : Rn G M pc lv (.int n :: .int dp :: .ref a :: .int sp :: .ref a0 :: st) w Q :=
  r_copy k pn hd hn h1 ho0 ho hsp hdp hnn hs hd2 (Or.inr ⟨rfl, hok⟩) hlev hst (by rw [cpy_mk va_rf]; exact kk)
theorem x_i2b {x : Int32} (k pn : Nat) (hd : (mdT M)[k]? = some (pc, .i2b, 1)) (hn : pc + 1 = pn) (hx : x.toInt8.toInt32 = x) (kk : Rn G M pn lv (.int x :: st) w Q) : Rn G M pc lv (.int x :: st) w Q := r_i2b k pn hd hn (by rw [hx]; exact kk)
theorem x_i2c {x : Int32} (k pn : Nat) (hd : (mdT M)[k]? = some (pc, .i2c, 1)) (hn : pc + 1 = pn) (hx : (x.toUInt32 % 65536).toInt32 = x) (kk : Rn G M pn lv (.int x :: st) w Q) : Rn G M pc lv (.int x :: st) w Q := r_i2c k pn hd hn (by rw [hx]; exact kk)
theorem x_eq {x y : Int32} (h : x = y) (kk : Rn G M pc lv (.int y :: st) w Q) : Rn G M pc lv (.int x :: st) w Q := by rw [h]; exact kk
theorem x_gh {a n : Nat} {ty : FieldType} {f f' : Nat → Value} (ho : w.1 a = some (.inr (ty, n, f))) (hf : ∀ j, j < n → f' j = f j) (kk : Rn G M pc lv st (wset w a (.inr (ty, n, f'))) Q) : Rn G M pc lv st w Q := by
  intro hG hM p e s m args below meth c R H locs cells slots ls hC hR hP hF hL hl
  obtain ⟨ha, cell, g1, g2, g3, g4, g5, g6, g7⟩ := hP.1 a _ ho
  refine kk hG hM p e s m args below meth c R H locs cells slots ls hC hR (hP.set ha ⟨cell, g1, g2, g3, g4, g5, g6, fun j hj => ?_⟩ rfl (fun _ _ => rfl)) hF hL hl
  show _ = some (f' j)
  rw [hf j hj]
  exact g7 j hj
end RW
