set_option maxRecDepth 100000
section R9
variable {G : Gm} {M : Md} {pc : Nat} {lv : List (Nat × Value)} {st : List Value} {w : Wd} {Q : Rs → Wd → Prop}
theorem r_ldc {idx : Nat} {v : Int32} (hc : Cond.constant (mdY M).cls idx v ∈ lw_all) (k pn : Nat) (hd : (mdT M)[k]? = some (pc, .ldc idx, 2)) (hn : pc + 2 = pn) (kk : Rn G M pn lv (.int v :: st) w Q) : Rn G M pc lv st w Q := by
  intro hG hM p e s m args below meth c R H locs cells slots ls hC hR hP hF hL hl
  subst hn
  exact lv_ldc hC.1 hC.2.1 hC.2.2.2.2.2.1 (hG.word hC.2.2.2.2.2.2.2.1 hc args) (mdD hM hd) (kk hG hM p e s m args below meth c R H locs cells slots ls hC hR hP hF hL hl)
theorem r_ldcw {idx : Nat} {v : Int32} (hc : Cond.constant (mdY M).cls idx v ∈ lw_all) (k pn : Nat) (hd : (mdT M)[k]? = some (pc, .ldc_w idx, 3)) (hn : pc + 3 = pn) (kk : Rn G M pn lv (.int v :: st) w Q) : Rn G M pc lv st w Q := by
  intro hG hM p e s m args below meth c R H locs cells slots ls hC hR hP hF hL hl
  subst hn
  exact lv_ldcw hC.1 hC.2.1 hC.2.2.2.2.2.1 (hG.word hC.2.2.2.2.2.2.2.1 hc args) (mdD hM hd) (kk hG hM p e s m args below meth c R H locs cells slots ls hC hR hP hF hL hl)
theorem r_ldc2 {idx : Nat} {v : Int64} (hc : Cond.constantLong (mdY M).cls idx v ∈ lw_all) (k pn : Nat) (hd : (mdT M)[k]? = some (pc, .ldc2_w idx, 3)) (hn : pc + 3 = pn) (kk : Rn G M pn lv (.long v :: st) w Q) : Rn G M pc lv st w Q := by
  intro hG hM p e s m args below meth c R H locs cells slots ls hC hR hP hF hL hl
  subst hn
  exact lv_ldc2 hC.1 hC.2.1 hC.2.2.2.2.2.1 (hG.word hC.2.2.2.2.2.2.2.1 hc args) (mdD hM hd) (kk hG hM p e s m args below meth c R H locs cells slots ls hC hR hP hF hL hl)
theorem r_lcmp {x y : Int64} (k pn : Nat) (hd : (mdT M)[k]? = some (pc, .lcmp, 1)) (hn : pc + 1 = pn) (kk : Rn G M pn lv (.int (lg_cmp x y) :: st) w Q) : Rn G M pc lv (.long y :: .long x :: st) w Q := by
  intro hG hM p e s m args below meth c R H locs cells slots ls hC hR hP hF hL hl
  subst hn
  exact W.lcmp hC.1 hC.2.1 (mdD hM hd) (kk hG hM p e s m args below meth c R H locs cells slots ls hC hR hP hF hL hl)
theorem r_tabOut {d lo hi : Int} {offs : Array Int} {n : Nat} {x : Int32} (k pt : Nat) (hd : (mdT M)[k]? = some (pc, .tableswitch d lo hi offs, n)) (ht : (pc : Int) + d = (pt : Int)) (h : x.toInt < lo ∨ hi < x.toInt) (kk : Rn G M pt lv st w Q) : Rn G M pc lv (.int x :: st) w Q := by
  intro hG hM p e s m args below meth c R H locs cells slots ls hC hR hP hF hL hl
  exact lv_tableOut hC.1 hC.2.1 (mdD hM hd) h ht (kk hG hM p e s m args below meth c R H locs cells slots ls hC hR hP hF hL hl)
theorem r_tabIn {d lo hi off : Int} {offs : Array Int} {n : Nat} {x : Int32} (k pt : Nat) (hd : (mdT M)[k]? = some (pc, .tableswitch d lo hi offs, n)) (h1 : ¬ x.toInt < lo) (h2 : ¬ hi < x.toInt) (ho : offs[(x.toInt - lo).toNat]? = some off) (ht : (pc : Int) + off = (pt : Int)) (kk : Rn G M pt lv st w Q) : Rn G M pc lv (.int x :: st) w Q := by
  intro hG hM p e s m args below meth c R H locs cells slots ls hC hR hP hF hL hl
  exact lv_tableIn hC.1 hC.2.1 (mdD hM hd) h1 h2 ho ht (kk hG hM p e s m args below meth c R H locs cells slots ls hC hR hP hF hL hl)
theorem r_lookup {d off : Int} {ps : Array (Int × Int)} {n : Nat} {x : Int32} (k pt : Nat) (hd : (mdT M)[k]? = some (pc, .lookupswitch d ps, n)) (hp : (ps.toList.zip (ps.toList.drop 1)).all (fun (a, next) => a.1 < next.1) = true) (ho : Op.lookupswitch.offset ps.toList d x.toInt = off) (ht : (pc : Int) + off = (pt : Int)) (kk : Rn G M pt lv st w Q) : Rn G M pc lv (.int x :: st) w Q := by
  intro hG hM p e s m args below meth c R H locs cells slots ls hC hR hP hF hL hl
  exact lv_lookup hC.1 hC.2.1 (mdD hM hd) hp ho ht (kk hG hM p e s m args below meth c R H locs cells slots ls hC hR hP hF hL hl)
theorem r_ifnull {x : Nat} {off : Int} (k pn : Nat) (hd : (mdT M)[k]? = some (pc, .ifnull off, 3)) (hn : pc + 3 = pn) (kk : Rn G M pn lv st w Q) : Rn G M pc lv (.ref x :: st) w Q := by
  intro hG hM p e s m args below meth c R H locs cells slots ls hC hR hP hF hL hl
  subst hn
  exact lv_ifnull hC.1 hC.2.1 (mdD hM hd) (kk hG hM p e s m args below meth c R H locs cells slots ls hC hR hP hF hL hl)
theorem r_ifnullN {off : Int} (k pt : Nat) (hd : (mdT M)[k]? = some (pc, .ifnull off, 3)) (ht : (pc : Int) + off = (pt : Int)) (kk : Rn G M pt lv st w Q) : Rn G M pc lv (.null :: st) w Q := by
  intro hG hM p e s m args below meth c R H locs cells slots ls hC hR hP hF hL hl
  exact lv_ifnullN hC.1 hC.2.1 (mdD hM hd) ht (kk hG hM p e s m args below meth c R H locs cells slots ls hC hR hP hF hL hl)
theorem r_ifnonnull {x : Nat} {off : Int} (k pt : Nat) (hd : (mdT M)[k]? = some (pc, .ifnonnull off, 3)) (ht : (pc : Int) + off = (pt : Int)) (kk : Rn G M pt lv st w Q) : Rn G M pc lv (.ref x :: st) w Q := by
  intro hG hM p e s m args below meth c R H locs cells slots ls hC hR hP hF hL hl
  exact lv_ifnonnull hC.1 hC.2.1 (mdD hM hd) ht (kk hG hM p e s m args below meth c R H locs cells slots ls hC hR hP hF hL hl)
theorem r_ifnonnullN {off : Int} (k pn : Nat) (hd : (mdT M)[k]? = some (pc, .ifnonnull off, 3)) (hn : pc + 3 = pn) (kk : Rn G M pn lv st w Q) : Rn G M pc lv (.null :: st) w Q := by
  intro hG hM p e s m args below meth c R H locs cells slots ls hC hR hP hF hL hl
  subst hn
  exact lv_ifnonnullN hC.1 hC.2.1 (mdD hM hd) (kk hG hM p e s m args below meth c R H locs cells slots ls hC hR hP hF hL hl)
theorem r_acmp_eq {rx ry : Option Nat} {a b : Value} {off : Int} (k pn pt : Nat) (hd : (mdT M)[k]? = some (pc, .if_acmp .eq off, 3)) (hn : pc + 3 = pn) (ht : (pc : Int) + off = (pt : Int)) (ha : va_rf rx = a) (hb : va_rf ry = b) (kt : rx = ry → Rn G M pt lv st w Q) (kf : ¬ rx = ry → Rn G M pn lv st w Q) : Rn G M pc lv (b :: a :: st) w Q := by
  intro hG hM p e s m args below meth c R H locs cells slots ls hC hR hP hF hL hl
  subst hn; subst ha; subst hb
  exact lv_acmp_eq hC.1 hC.2.1 (mdD hM hd) ht (fun h => kt h hG hM p e s m args below meth c R H locs cells slots ls hC hR hP hF hL hl) (fun h => kf h hG hM p e s m args below meth c R H locs cells slots ls hC hR hP hF hL hl)
theorem r_acmp_ne {rx ry : Option Nat} {a b : Value} {off : Int} (k pn pt : Nat) (hd : (mdT M)[k]? = some (pc, .if_acmp .ne off, 3)) (hn : pc + 3 = pn) (ht : (pc : Int) + off = (pt : Int)) (ha : va_rf rx = a) (hb : va_rf ry = b) (kt : ¬ rx = ry → Rn G M pt lv st w Q) (kf : rx = ry → Rn G M pn lv st w Q) : Rn G M pc lv (b :: a :: st) w Q := by
  intro hG hM p e s m args below meth c R H locs cells slots ls hC hR hP hF hL hl
  subst hn; subst ha; subst hb
  exact lv_acmp_ne hC.1 hC.2.1 (mdD hM hd) ht (fun h => kt h hG hM p e s m args below meth c R H locs cells slots ls hC hR hP hF hL hl) (fun h => kf h hG hM p e s m args below meth c R H locs cells slots ls hC hR hP hF hL hl)
end R9
section P9
variable {G : Gm} {T : Nat} {w : Wd} {M : Md} {pc : Nat} {lv : List (Nat × Value)} {st : List Value} {σ : TW} {Q : Option Value → TW → Prop}
theorem p_ldc {idx : Nat} {v : Int32} (hc : Cond.constant (mdY M).cls idx v ∈ lw_all) (k pn : Nat) (hd : (mdT M)[k]? = some (pc, .ldc idx, 2)) (hn : pc + 2 = pn) (kk : Tn G T w M pn lv (.int v :: st) σ Q) : Tn G T w M pc lv st σ Q := fun hT => r_ldc hc k pn hd hn (kk hT)
theorem p_ldcw {idx : Nat} {v : Int32} (hc : Cond.constant (mdY M).cls idx v ∈ lw_all) (k pn : Nat) (hd : (mdT M)[k]? = some (pc, .ldc_w idx, 3)) (hn : pc + 3 = pn) (kk : Tn G T w M pn lv (.int v :: st) σ Q) : Tn G T w M pc lv st σ Q := fun hT => r_ldcw hc k pn hd hn (kk hT)
theorem p_ldc2 {idx : Nat} {v : Int64} (hc : Cond.constantLong (mdY M).cls idx v ∈ lw_all) (k pn : Nat) (hd : (mdT M)[k]? = some (pc, .ldc2_w idx, 3)) (hn : pc + 3 = pn) (kk : Tn G T w M pn lv (.long v :: st) σ Q) : Tn G T w M pc lv st σ Q := fun hT => r_ldc2 hc k pn hd hn (kk hT)
theorem p_lcmp {x y : Int64} (k pn : Nat) (hd : (mdT M)[k]? = some (pc, .lcmp, 1)) (hn : pc + 1 = pn) (kk : Tn G T w M pn lv (.int (lg_cmp x y) :: st) σ Q) : Tn G T w M pc lv (.long y :: .long x :: st) σ Q := fun hT => r_lcmp k pn hd hn (kk hT)
theorem p_tabOut {d lo hi : Int} {offs : Array Int} {n : Nat} {x : Int32} (k pt : Nat) (hd : (mdT M)[k]? = some (pc, .tableswitch d lo hi offs, n)) (ht : (pc : Int) + d = (pt : Int)) (h : x.toInt < lo ∨ hi < x.toInt) (kk : Tn G T w M pt lv st σ Q) : Tn G T w M pc lv (.int x :: st) σ Q := fun hT => r_tabOut k pt hd ht h (kk hT)
theorem p_tabIn {d lo hi off : Int} {offs : Array Int} {n : Nat} {x : Int32} (k pt : Nat) (hd : (mdT M)[k]? = some (pc, .tableswitch d lo hi offs, n)) (h1 : ¬ x.toInt < lo) (h2 : ¬ hi < x.toInt) (ho : offs[(x.toInt - lo).toNat]? = some off) (ht : (pc : Int) + off = (pt : Int)) (kk : Tn G T w M pt lv st σ Q) : Tn G T w M pc lv (.int x :: st) σ Q := fun hT => r_tabIn k pt hd h1 h2 ho ht (kk hT)
end P9
