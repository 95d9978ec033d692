set_option maxRecDepth 100000
/-! THE REFERENCE's world: its whole-number fields, its arrays of ints (by the number of the field), its array of longs -/
abbrev TW : Type := (Nat → Int32) × (Nat → Nat → Int32) × (Nat → Int64)
/-- where the array of field k lies behind the object -/
def twOf (k : Nat) : Nat := if k < 18 then k - 1 else k - 4
def twLn (k : Nat) : Nat := match k with
  | 2 => 1200 | 3 => 1200 | 4 => 2 | 5 => 24 | 6 => 192 | 7 => 24 | 8 => 192 | 9 => 192 | 10 => 3 | 11 => 120 | 12 => 120 | 13 => 960 | 14 => 120 | 15 => 960 | 16 => 960 | 17 => 19200 | 21 => 40 | 22 => 40 | 23 => 40 | _ => 0
def twFs (T : Nat) (σ : TW) : List Value := [.int (σ.1 0), .int (σ.1 1), .ref (T + 1), .ref (T + 2), .ref (T + 3), .ref (T + 4), .ref (T + 5), .ref (T + 6), .ref (T + 7), .ref (T + 8), .ref (T + 9), .ref (T + 10), .ref (T + 11), .ref (T + 12), .ref (T + 13), .ref (T + 14), .ref (T + 15), .ref (T + 16), .int (σ.1 18), .int (σ.1 19), .int (σ.1 20), .ref (T + 17), .ref (T + 18), .ref (T + 19), .int (σ.1 24)]
def twAr (σ : TW) (k : Nat) : Ob := if k = 23 then .inr (.long, 40, fun j => .long (σ.2.2 j)) else if k = 9 then .inr (.boolean, 192, fun j => .int (σ.2.1 9 j)) else .inr (.int, twLn k, fun j => .int (σ.2.1 k j))
/-- which field's array lies so far behind the object -/
def twFd (d : Nat) : Nat := if d < 17 then d + 1 else d + 4
def tw (T : Nat) (σ : TW) (w : Wd) : Wd := (fun q => if q = T then some (.inl (nX2, twFs T σ)) else if T < q ∧ q ≤ T + 19 then some (twAr σ (twFd (q - T))) else w.1 q, w.2.1, w.2.2)
theorem tw_o {T : Nat} {σ : TW} {w : Wd} : (tw T σ w).1 T = some (.inl (nX2, twFs T σ)) := by simp [tw]
theorem tw_a {T : Nat} {σ : TW} {w : Wd} (d : Nat) (h1 : 1 ≤ d) (h2 : d ≤ 19) : (tw T σ w).1 (T + d) = some (twAr σ (twFd d)) := by
  have e1 : ¬ T + d = T := by omega
  have e2 : T < T + d ∧ T + d ≤ T + 19 := by omega
  show (if T + d = T then _ else if T < T + d ∧ T + d ≤ T + 19 then some (twAr σ (twFd (T + d - T))) else _) = _
  rw [if_neg e1, if_pos e2, Nat.add_sub_cancel_left]
theorem tw_out {T : Nat} {σ : TW} {w : Wd} {q : Nat} (h : q < T ∨ T + 19 < q) : (tw T σ w).1 q = w.1 q := by
  have e1 : ¬ q = T := by omega
  have e2 : ¬ (T < q ∧ q ≤ T + 19) := by omega
  show (if q = T then _ else if T < q ∧ q ≤ T + 19 then _ else w.1 q) = _
  rw [if_neg e1, if_neg e2]
/-- a whole-number field set -/
def tsI (σ : TW) (k : Nat) (x : Int32) : TW := (fun j => if j = k then x else σ.1 j, σ.2.1, σ.2.2)
/-- a place of an array of ints set -/
def tsA (σ : TW) (k i : Nat) (x : Int32) : TW := (σ.1, fun f => if f = k then (fun j => if j = i then x else σ.2.1 k j) else σ.2.1 f, σ.2.2)
def tsL (σ : TW) (i : Nat) (x : Int64) : TW := (σ.1, σ.2.1, fun j => if j = i then x else σ.2.2 j)
theorem tw_setI {T : Nat} {σ : TW} {w : Wd} (k : Nat) (x : Int32) (hk : (twFs T σ).set k (.int x) = twFs T (tsI σ k x)) : wset (tw T σ w) T (.inl (nX2, (twFs T σ).set k (.int x))) = tw T (tsI σ k x) w := by
  rw [hk]
  refine Prod.ext (funext fun q => ?_) rfl
  show (if q = T then _ else if q = T then _ else if T < q ∧ q ≤ T + 19 then some (twAr σ (twFd (q - T))) else w.1 q) = (if q = T then _ else if T < q ∧ q ≤ T + 19 then some (twAr (tsI σ k x) (twFd (q - T))) else w.1 q)
  by_cases e : q = T
  · rw [if_pos e, if_pos e]
  · rw [if_neg e, if_neg e, if_neg e]
    rfl
theorem twFd_inj {a b : Nat} (ha : 1 ≤ a ∧ a ≤ 19) (hb : 1 ≤ b ∧ b ≤ 19) (h : twFd a = twFd b) : a = b := by
  unfold twFd at h
  split at h <;> split at h <;> omega
theorem tw_setA {T : Nat} {σ : TW} {w : Wd} (d : Nat) (h1 : 1 ≤ d) (h2 : d ≤ 19) (h9 : twFd d ≠ 23) (i : Nat) (x : Int32) {o : Ob} (ho : o = twAr (tsA σ (twFd d) i x) (twFd d)) : wset (tw T σ w) (T + d) o = tw T (tsA σ (twFd d) i x) w := by
  subst ho
  refine Prod.ext (funext fun q => ?_) rfl
  show (if q = T + d then some (twAr (tsA σ (twFd d) i x) (twFd d)) else if q = T then some (.inl (nX2, twFs T σ)) else if T < q ∧ q ≤ T + 19 then some (twAr σ (twFd (q - T))) else w.1 q) = (if q = T then some (.inl (nX2, twFs T (tsA σ (twFd d) i x))) else if T < q ∧ q ≤ T + 19 then some (twAr (tsA σ (twFd d) i x) (twFd (q - T))) else w.1 q)
  by_cases e : q = T + d
  · have e1 : ¬ q = T := by omega
    have e2 : T < q ∧ q ≤ T + 19 := by omega
    rw [if_pos e, if_neg e1, if_pos e2, e, Nat.add_sub_cancel_left]
  · rw [if_neg e]
    by_cases e1 : q = T
    · rw [if_pos e1, if_pos e1]; rfl
    · rw [if_neg e1, if_neg e1]
      by_cases e2 : T < q ∧ q ≤ T + 19
      · rw [if_pos e2, if_pos e2]
        have hne : twFd (q - T) ≠ twFd d := fun h => by
          have := twFd_inj (a := q - T) (b := d) (by omega) ⟨h1, h2⟩ h
          omega
        unfold twAr
        by_cases e3 : twFd (q - T) = 23
        · rw [if_pos e3, if_pos e3]; rfl
        · rw [if_neg e3, if_neg e3]
          by_cases e4 : twFd (q - T) = 9
          · rw [if_pos e4, if_pos e4]
            have hne' : ¬ 9 = twFd d := fun h => hne (e4.trans h)
            simp [tsA, hne']
          · rw [if_neg e4, if_neg e4]
            simp [tsA, hne]
      · rw [if_neg e2, if_neg e2]
theorem tw_setL {T : Nat} {σ : TW} {w : Wd} (i : Nat) (x : Int64) {o : Ob} (ho : o = twAr (tsL σ i x) 23) : wset (tw T σ w) (T + 19) o = tw T (tsL σ i x) w := by
  subst ho
  refine Prod.ext (funext fun q => ?_) rfl
  show (if q = T + 19 then some (twAr (tsL σ i x) 23) else if q = T then some (.inl (nX2, twFs T σ)) else if T < q ∧ q ≤ T + 19 then some (twAr σ (twFd (q - T))) else w.1 q) = (if q = T then some (.inl (nX2, twFs T (tsL σ i x))) else if T < q ∧ q ≤ T + 19 then some (twAr (tsL σ i x) (twFd (q - T))) else w.1 q)
  by_cases e : q = T + 19
  · have e1 : ¬ q = T := by omega
    have e2 : T < q ∧ q ≤ T + 19 := by omega
    rw [if_pos e, if_neg e1, if_pos e2, e, Nat.add_sub_cancel_left]; rfl
  · rw [if_neg e]
    by_cases e1 : q = T
    · rw [if_pos e1, if_pos e1]; rfl
    · rw [if_neg e1, if_neg e1]
      by_cases e2 : T < q ∧ q ≤ T + 19
      · rw [if_pos e2, if_pos e2]
        have hne : twFd (q - T) ≠ 23 := fun h => by
          have := twFd_inj (a := q - T) (b := 19) (by omega) (by omega) (h.trans rfl)
          omega
        unfold twAr
        rw [if_neg hne, if_neg hne]
        rfl
      · rw [if_neg e2, if_neg e2]
/-- the judgement over the reference's world: T: where it lies; w: all else, which stays -/
def Tn (G : Gm) (T : Nat) (w : Wd) (M : Md) (pc : Nat) (lv : List (Nat × Value)) (st : List Value) (σ : TW) (Q : Option Value → TW → Prop) : Prop :=
  gN G ≤ T → Rn G M pc lv st (tw T σ w) (fun r w' => ∃ v σ', r = .inl v ∧ w' = tw T σ' w ∧ Q v σ')
def Tv (G : Gm) (T : Nat) (w : Wd) (M : Md) (as : List Value) (σ : TW) (Q : Option Value → TW → Prop) : Prop := Tn G T w M 0 (lv_args 0 as) [] σ Q
/-- a method that touches nothing: static, over numbers -/
def Sv (G : Gm) (M : Md) (as : List Value) (Q : Option Value → Prop) : Prop := ∀ w : Wd, Ev G M as w (fun r w' => ∃ v, r = .inl v ∧ w' = w ∧ Q v)
theorem Tn.mono {G : Gm} {T : Nat} {w : Wd} {M : Md} {pc : Nat} {lv : List (Nat × Value)} {st : List Value} {σ : TW} {Q Q' : Option Value → TW → Prop} (h : Tn G T w M pc lv st σ Q) (hq : ∀ v σ', Q v σ' → Q' v σ') : Tn G T w M pc lv st σ Q' :=
  fun hT => (h hT).mono fun r w' ⟨v, σ', h1, h2, h3⟩ => ⟨v, σ', h1, h2, hq v σ' h3⟩
/-- contracts by their answers -/
def Tvi (G : Gm) (T : Nat) (w : Wd) (M : Md) (as : List Value) (σ : TW) (Q : Int32 → TW → Prop) : Prop := Tv G T w M as σ (fun v σ' => ∃ x, v = some (.int x) ∧ Q x σ')
def Tvl (G : Gm) (T : Nat) (w : Wd) (M : Md) (as : List Value) (σ : TW) (Q : Int64 → TW → Prop) : Prop := Tv G T w M as σ (fun v σ' => ∃ x, v = some (.long x) ∧ Q x σ')
def Tvv (G : Gm) (T : Nat) (w : Wd) (M : Md) (as : List Value) (σ : TW) (Q : TW → Prop) : Prop := Tv G T w M as σ (fun v σ' => v = none ∧ Q σ')
def Svi (G : Gm) (M : Md) (as : List Value) (Q : Int32 → Prop) : Prop := Sv G M as (fun v => ∃ x, v = some (.int x) ∧ Q x)
theorem Tvi.mono {G : Gm} {T : Nat} {w : Wd} {M : Md} {as : List Value} {σ : TW} {Q Q' : Int32 → TW → Prop} (h : Tvi G T w M as σ Q) (hq : ∀ v σ', Q v σ' → Q' v σ') : Tvi G T w M as σ Q' := Tn.mono h fun v σ' ⟨x, h1, h2⟩ => ⟨x, h1, hq x σ' h2⟩
theorem Tvv.mono {G : Gm} {T : Nat} {w : Wd} {M : Md} {as : List Value} {σ : TW} {Q Q' : TW → Prop} (h : Tvv G T w M as σ Q) (hq : ∀ σ', Q σ' → Q' σ') : Tvv G T w M as σ Q' := Tn.mono h fun v σ' ⟨h1, h2⟩ => ⟨h1, hq σ' h2⟩
section TT
variable {G : Gm} {T : Nat} {w : Wd} {M N : Md} {pc : Nat} {lv : List (Nat × Value)} {st : List Value} {σ : TW} {Q : Option Value → TW → Prop}
theorem t_geti {idx i : Nat} {v : Value} (hf : FL (mdY M).cls idx nX2 i RX2 TX2 25) (k pn : Nat) (hd : (mdT M)[k]? = some (pc, .getfield idx, 3)) (hn : pc + 3 = pn) (hv : (twFs T σ)[i]? = some v) (kk : Tn G T w M pn lv (v :: st) σ Q) : Tn G T w M pc lv (.ref T :: st) σ Q :=
  fun hT => r_get hf k pn hd hn (Or.inl tw_o) hv (kk hT)
theorem t_puti {idx i : Nat} {x : Int32} (hf : FL (mdY M).cls idx nX2 i RX2 TX2 25) (k pn : Nat) (hd : (mdT M)[k]? = some (pc, .putfield idx, 3)) (hn : pc + 3 = pn) (hfin : (TX2 i).2.2.2 = false) (hty : tyX2 i = .int) (hl : i < 25) (hs : (twFs T σ).set i (.int x) = twFs T (tsI σ i x)) (kk : Tn G T w M pn lv st (tsI σ i x) Q) : Tn G T w M pc lv (.int x :: .ref T :: st) σ Q := by
  intro hT
  refine r_put hf in_X2 q1940 (ty0 := tyX2) tyX2_ok nmX2 k pn hd hn tw_o hfin (by rw [hty]; rfl) (by rw [hty]; rfl) (by simpa [twFs] using hl) ?_
  rw [tw_setI i x hs]
  exact kk hT
theorem t_iald {d f : Nat} {i v : Int32} (k pn : Nat) (hd : (mdT M)[k]? = some (pc, .iaload, 1)) (hn : pc + 1 = pn) (h1 : 1 ≤ d ∧ d ≤ 19) (hf : twFd d = f) (h23 : f ≠ 23 ∧ f ≠ 9) (hin : vp_in i (twLn f)) (hv : σ.2.1 f i.toNatClampNeg = v) (kk : Tn G T w M pn lv (.int v :: st) σ Q) : Tn G T w M pc lv (.int i :: .ref (T + d) :: st) σ Q := by
  intro hT
  subst hf
  subst hv
  refine r_iald (n := twLn (twFd d)) (f := fun j => .int (σ.2.1 (twFd d) j)) k pn hd hn (Or.inl ((tw_a d h1.1 h1.2).trans ?_)) hin rfl (kk hT)
  simp [twAr, h23]
theorem t_zald {i v : Int32} (k pn : Nat) (hd : (mdT M)[k]? = some (pc, .baload, 1)) (hn : pc + 1 = pn) (hin : vp_in i 192) (hv : σ.2.1 9 i.toNatClampNeg = v) (kk : Tn G T w M pn lv (.int v :: st) σ Q) : Tn G T w M pc lv (.int i :: .ref (T + 8) :: st) σ Q := by
  intro hT
  subst hv
  exact r_zald (n := 192) (f := fun j => .int (σ.2.1 9 j)) k pn hd hn (Or.inl ((tw_a 8 (by decide) (by decide)).trans rfl)) hin rfl (kk hT)
theorem t_lald {i : Int32} {v : Int64} (k pn : Nat) (hd : (mdT M)[k]? = some (pc, .laload, 1)) (hn : pc + 1 = pn) (hin : vp_in i 40) (hv : σ.2.2 i.toNatClampNeg = v) (kk : Tn G T w M pn lv (.long v :: st) σ Q) : Tn G T w M pc lv (.int i :: .ref (T + 19) :: st) σ Q := by
  intro hT
  subst hv
  exact r_lald (n := 40) (f := fun j => .long (σ.2.2 j)) k pn hd hn (Or.inl ((tw_a 19 (by decide) (by decide)).trans rfl)) hin rfl (kk hT)
theorem t_iast {d f : Nat} {i x : Int32} (k pn : Nat) (hd : (mdT M)[k]? = some (pc, .iastore, 1)) (hn : pc + 1 = pn) (h1 : 1 ≤ d ∧ d ≤ 19) (hf : twFd d = f) (h23 : f ≠ 23 ∧ f ≠ 9) (hin : vp_in i (twLn f)) (kk : Tn G T w M pn lv st (tsA σ f i.toNatClampNeg x) Q) : Tn G T w M pc lv (.int x :: .int i :: .ref (T + d) :: st) σ Q := by
  intro hT
  subst hf
  refine r_iast (n := twLn (twFd d)) (f := fun j => .int (σ.2.1 (twFd d) j)) k pn hd hn ((tw_a d h1.1 h1.2).trans ?_) hin ?_
  · simp [twAr, h23]
  · rw [tw_setA d h1.1 h1.2 h23.1 i.toNatClampNeg x]
    · exact kk hT
    · simp only [twAr, h23.1, h23.2, if_false]
      congr 3
      funext j
      simp only [updV, tsA, if_true]
      split <;> rfl
theorem t_zast {i x : Int32} (k pn : Nat) (hd : (mdT M)[k]? = some (pc, .bastore, 1)) (hn : pc + 1 = pn) (hin : vp_in i 192) (hx : narrow .boolean (.int x) = .int x) (kk : Tn G T w M pn lv st (tsA σ 9 i.toNatClampNeg x) Q) : Tn G T w M pc lv (.int x :: .int i :: .ref (T + 8) :: st) σ Q := by
  intro hT
  refine r_zast (n := 192) (f := fun j => .int (σ.2.1 9 j)) k pn hd hn ((tw_a 8 (by decide) (by decide)).trans rfl) hin ?_
  rw [hx]
  have h := tw_setA (T := T) (σ := σ) (w := w) 8 (by decide) (by decide) (by decide) i.toNatClampNeg x (o := .inr (.boolean, 192, updV (fun j => .int (σ.2.1 9 j)) i.toNatClampNeg (.int x))) (by
    show _ = Sum.inr _
    congr 3
    funext j
    simp only [updV, tsA, twFd]
    simp
    split <;> rfl)
  rw [h]
  exact kk hT
theorem t_last {i : Int32} {x : Int64} (k pn : Nat) (hd : (mdT M)[k]? = some (pc, .lastore, 1)) (hn : pc + 1 = pn) (hin : vp_in i 40) (kk : Tn G T w M pn lv st (tsL σ i.toNatClampNeg x) Q) : Tn G T w M pc lv (.long x :: .int i :: .ref (T + 19) :: st) σ Q := by
  intro hT
  refine r_last (n := 40) (f := fun j => .long (σ.2.2 j)) k pn hd hn ((tw_a 19 (by decide) (by decide)).trans rfl) hin ?_
  rw [tw_setL i.toNatClampNeg x (o := .inr (.long, 40, updV (fun j => .long (σ.2.2 j)) i.toNatClampNeg (.long x))) (by
    show _ = Sum.inr _
    congr 3
    funext j
    simp only [updV, tsL]
    split <;> rfl)]
  exact kk hT
theorem t_callV {idx np : Nat} {Q' : Option Value → TW → Prop} (hk : LkV (mdY M).cls idx RX2 N np) (k pn : Nat) (hd : (mdT M)[k]? = some (pc, .invokevirtual idx, 3)) (hn : pc + 3 = pn) (hlev : mdV N < mdV M) (as : List Value) {stk : List Value} (hs : as.reverse ++ .ref T :: st = stk) (hnp : as.length = np) (hsl : (lg_sl (.ref T :: as)).length ≤ mdL N) (hst : (st.map fun v => v.category).sum ≤ 20) (hE : Tv G T w N (.ref T :: as) σ Q') (kk : ∀ v σ', Q' v σ' → Tn G T w M pn lv (v.toList ++ st) σ' Q) : Tn G T w M pc lv stk σ Q := by
  intro hT
  refine r_callV hk (ci := nX2) rfl (Or.inl tw_o) k pn hd hn hlev as hs hnp hsl hst (hE hT) ?_
  rintro r w' ⟨v, σ', rfl, rfl, hq⟩
  exact kk v σ' hq hT
theorem t_callS {idx np : Nat} {Q' : Option Value → Prop} (hk : LkS (mdY M).cls idx N np) (k pn : Nat) (hd : (mdT M)[k]? = some (pc, .invokestatic idx, 3)) (hn : pc + 3 = pn) (hlev : mdV N < mdV M) (as : List Value) {stk : List Value} (hs : as.reverse ++ st = stk) (hnp : as.length = np) (hsl : (lg_sl as).length ≤ mdL N) (hst : (st.map fun v => v.category).sum ≤ 20) (hE : Sv G N as Q') (kk : ∀ v, Q' v → Tn G T w M pn lv (v.toList ++ st) σ Q) : Tn G T w M pc lv stk σ Q := by
  intro hT
  refine r_callS hk k pn hd hn hlev as hs hnp hsl hst (hE _) ?_
  rintro r w' ⟨v, rfl, rfl, hq⟩
  exact kk v hq hT
theorem t_callT {idx np : Nat} {Q' : Option Value → TW → Prop} (hk : LkS (mdY M).cls idx N np) (k pn : Nat) (hd : (mdT M)[k]? = some (pc, .invokestatic idx, 3)) (hn : pc + 3 = pn) (hlev : mdV N < mdV M) (as : List Value) {stk : List Value} (hs : as.reverse ++ st = stk) (hnp : as.length = np) (hsl : (lg_sl as).length ≤ mdL N) (hst : (st.map fun v => v.category).sum ≤ 20) (hE : Tv G T w N as σ Q') (kk : ∀ v σ', Q' v σ' → Tn G T w M pn lv (v.toList ++ st) σ' Q) : Tn G T w M pc lv stk σ Q := by
  intro hT
  refine r_callS hk k pn hd hn hlev as hs hnp hsl hst (hE hT) ?_
  rintro r w' ⟨v, σ', rfl, rfl, hq⟩
  exact kk v σ' hq hT
theorem t_cVi {idx np : Nat} {Q' : Int32 → TW → Prop} (hk : LkV (mdY M).cls idx RX2 N np) (k pn : Nat) (hd : (mdT M)[k]? = some (pc, .invokevirtual idx, 3)) (hn : pc + 3 = pn) (hlev : mdV N < mdV M) (as : List Value) {stk : List Value} (hs : as.reverse ++ .ref T :: st = stk) (hnp : as.length = np) (hsl : (lg_sl (.ref T :: as)).length ≤ mdL N) (hst : (st.map fun v => v.category).sum ≤ 20) (hE : Tvi G T w N (.ref T :: as) σ Q') (kk : ∀ x σ', Q' x σ' → Tn G T w M pn lv (.int x :: st) σ' Q) : Tn G T w M pc lv stk σ Q :=
  t_callV hk k pn hd hn hlev as hs hnp hsl hst hE (fun v σ' h => by obtain ⟨x, rfl, h2⟩ := h; exact kk x σ' h2)
theorem t_cVl {idx np : Nat} {Q' : Int64 → TW → Prop} (hk : LkV (mdY M).cls idx RX2 N np) (k pn : Nat) (hd : (mdT M)[k]? = some (pc, .invokevirtual idx, 3)) (hn : pc + 3 = pn) (hlev : mdV N < mdV M) (as : List Value) {stk : List Value} (hs : as.reverse ++ .ref T :: st = stk) (hnp : as.length = np) (hsl : (lg_sl (.ref T :: as)).length ≤ mdL N) (hst : (st.map fun v => v.category).sum ≤ 20) (hE : Tvl G T w N (.ref T :: as) σ Q') (kk : ∀ x σ', Q' x σ' → Tn G T w M pn lv (.long x :: st) σ' Q) : Tn G T w M pc lv stk σ Q :=
  t_callV hk k pn hd hn hlev as hs hnp hsl hst hE (fun v σ' h => by obtain ⟨x, rfl, h2⟩ := h; exact kk x σ' h2)
theorem t_cVv {idx np : Nat} {Q' : TW → Prop} (hk : LkV (mdY M).cls idx RX2 N np) (k pn : Nat) (hd : (mdT M)[k]? = some (pc, .invokevirtual idx, 3)) (hn : pc + 3 = pn) (hlev : mdV N < mdV M) (as : List Value) {stk : List Value} (hs : as.reverse ++ .ref T :: st = stk) (hnp : as.length = np) (hsl : (lg_sl (.ref T :: as)).length ≤ mdL N) (hst : (st.map fun v => v.category).sum ≤ 20) (hE : Tvv G T w N (.ref T :: as) σ Q') (kk : ∀ σ', Q' σ' → Tn G T w M pn lv st σ' Q) : Tn G T w M pc lv stk σ Q :=
  t_callV hk k pn hd hn hlev as hs hnp hsl hst hE (fun v σ' h => by obtain ⟨rfl, h2⟩ := h; exact kk σ' h2)
theorem t_cSi {idx np : Nat} {Q' : Int32 → Prop} (hk : LkS (mdY M).cls idx N np) (k pn : Nat) (hd : (mdT M)[k]? = some (pc, .invokestatic idx, 3)) (hn : pc + 3 = pn) (hlev : mdV N < mdV M) (as : List Value) {stk : List Value} (hs : as.reverse ++ st = stk) (hnp : as.length = np) (hsl : (lg_sl as).length ≤ mdL N) (hst : (st.map fun v => v.category).sum ≤ 20) (hE : Svi G N as Q') (kk : ∀ x, Q' x → Tn G T w M pn lv (.int x :: st) σ Q) : Tn G T w M pc lv stk σ Q :=
  t_callS hk k pn hd hn hlev as hs hnp hsl hst hE (fun v h => by obtain ⟨x, rfl, h2⟩ := h; exact kk x h2)
theorem t_cTi {idx np : Nat} {Q' : Int32 → TW → Prop} (hk : LkS (mdY M).cls idx N np) (k pn : Nat) (hd : (mdT M)[k]? = some (pc, .invokestatic idx, 3)) (hn : pc + 3 = pn) (hlev : mdV N < mdV M) (as : List Value) {stk : List Value} (hs : as.reverse ++ st = stk) (hnp : as.length = np) (hsl : (lg_sl as).length ≤ mdL N) (hst : (st.map fun v => v.category).sum ≤ 20) (hE : Tvi G T w N as σ Q') (kk : ∀ x σ', Q' x σ' → Tn G T w M pn lv (.int x :: st) σ' Q) : Tn G T w M pc lv stk σ Q :=
  t_callT hk k pn hd hn hlev as hs hnp hsl hst hE (fun v σ' h => by obtain ⟨x, rfl, h2⟩ := h; exact kk x σ' h2)
theorem t_iret {v : Int32} (k : Nat) (hd : (mdT M)[k]? = some (pc, .ireturn, 1)) {ty : FieldType} (hr : mdR M = some ty) (hn : narrow ty (.int v) = .int v) (hq : Q (some (.int v)) σ) : Tn G T w M pc lv [.int v] σ Q := fun _ => r_iret k hd hr hn ⟨_, σ, rfl, rfl, hq⟩
theorem t_lret {v : Int64} (k : Nat) (hd : (mdT M)[k]? = some (pc, .lreturn, 1)) (hr : mdR M = some .long) (hq : Q (some (.long v)) σ) : Tn G T w M pc lv [.long v] σ Q := fun _ => r_lret k hd hr ⟨_, σ, rfl, rfl, hq⟩
theorem t_vret (k : Nat) (hd : (mdT M)[k]? = some (pc, .return_, 1)) (hr : mdR M = none) (hq : Q none σ) : Tn G T w M pc lv [] σ Q := fun _ => r_vret k hd hr ⟨_, σ, rfl, rfl, hq⟩
end TT
