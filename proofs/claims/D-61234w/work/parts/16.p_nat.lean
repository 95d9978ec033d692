set_option maxRecDepth 100000
/-! the same rules over natural numbers -/
abbrev arB (n : Nat) (g : Nat → Nat) : Ob := arI .byte n (fun j => nI (g j))
theorem upF_mk {α β : Type} (mk : α → β) (g : Nat → α) (i : Nat) (x : α) : upF (fun j => mk (g j)) i (mk x) = fun j => mk (upF g i x j) := by
  funext j
  simp only [upF]
  split <;> rfl
theorem cpyF_mk {α β : Type} (mk : α → β) (f g : Nat → α) (S D L : Nat) : va_cpy (fun j => mk (f j)) (fun j => mk (g j)) S D L = fun j => mk (va_cpy f g S D L j) := by
  funext j
  simp only [va_cpy]
  split <;> rfl
theorem n_toB {e : Nat} (h : e < 128) : (nI e).toInt8.toInt32 = nI e := by
  revert h; revert e; decide +kernel
theorem n_toC {e : Nat} (h : e < 128) : ((nI e).toUInt32 % 65536).toInt32 = nI e := by
  revert h; revert e; decide +kernel
theorem n_and {e : Nat} (h : e < 128) : nI e &&& 255 = nI e := by
  revert h; revert e; decide +kernel
theorem n_char {e : Nat} (h : e < 128) : narrow .char (.int (nI e)) = .int (nI e) := by
  revert h; revert e; decide +kernel
theorem n_byte {e : Nat} (h : e < 128) : narrow .byte (.int (nI e)) = .int (nI e) := by
  revert h; revert e; decide +kernel
theorem n_fitB {e : Nat} (h : e < 128) : fits .byte (.int (nI e)) = true := by
  revert h; revert e; decide +kernel
theorem n_mul (a b : Nat) : nI a * nI b = nI (a * b) := (Int32.ofNat_mul a b).symm
theorem n_shr1 {a : Nat} (h : a < 2 ^ 31) : nI a >>> ((1 : Int32) &&& 31) = nI (a / 2) := by
  have e : nI a >>> ((1 : Int32) &&& 31) = nI a >>> 1 := by congr 1
  rw [e]
  apply Int32.toBitVec_inj.mp
  apply BitVec.eq_of_toNat_eq
  have ha : (nI a).toBitVec.toNat = a := by
    show (Int32.ofNat a).toBitVec.toNat = a
    simp [Int32.toBitVec_ofNat']
    omega
  have hm : (nI a).toBitVec.msb = false := by
    rw [BitVec.msb_eq_decide, ha]
    simp
    omega
  show ((nI a).toBitVec.sshiftRight 1).toNat = (Int32.ofNat (a / 2)).toBitVec.toNat
  rw [BitVec.sshiftRight_eq_of_msb_false hm]
  simp [ha, Int32.toBitVec_ofNat', Nat.shiftRight_eq_div_pow]
  omega
section RN
variable {G : Gm} {M N : Md} {pc : Nat} {lv : List (Nat × Value)} {st : List Value} {w : Wd} {Q Q' : Rs → Wd → Prop}
theorem y_bald {a n i : Nat} {g : Nat → Nat} (k pn : Nat) (hd : (mdT M)[k]? = some (pc, .baload, 1)) (hn : pc + 1 = pn) (ho : Lk G w a (arB n g)) (hi : i < n) (hb : n < 2 ^ 31) (kk : Rn G M pn lv (.int (nI (g i)) :: st) w Q) : Rn G M pc lv (.int (nI i) :: .ref a :: st) w Q :=
  r_bald k pn hd hn ho (vp_in_nI hi hb) (by show Value.int (nI (g (nI i).toNatClampNeg)) = _; rw [nI_clamp (by omega)]) kk
theorem y_iald {a n i : Nat} {g : Nat → Int32} (k pn : Nat) (hd : (mdT M)[k]? = some (pc, .iaload, 1)) (hn : pc + 1 = pn) (ho : Lk G w a (arI .int n g)) (hi : i < n) (hb : n < 2 ^ 31) (kk : Rn G M pn lv (.int (g i) :: st) w Q) : Rn G M pc lv (.int (nI i) :: .ref a :: st) w Q :=
  r_iald k pn hd hn ho (vp_in_nI hi hb) (by show Value.int (g (nI i).toNatClampNeg) = _; rw [nI_clamp (by omega)]) kk
theorem y_lald {a n i : Nat} {g : Nat → Int64} (k pn : Nat) (hd : (mdT M)[k]? = some (pc, .laload, 1)) (hn : pc + 1 = pn) (ho : Lk G w a (arL n g)) (hi : i < n) (hb : n < 2 ^ 31) (kk : Rn G M pn lv (.long (g i) :: st) w Q) : Rn G M pc lv (.int (nI i) :: .ref a :: st) w Q :=
  r_lald k pn hd hn ho (vp_in_nI hi hb) (by show Value.long (g (nI i).toNatClampNeg) = _; rw [nI_clamp (by omega)]) kk
theorem y_aald {a n i : Nat} {C : String} {g : Nat → Option Nat} (k pn : Nat) (hd : (mdT M)[k]? = some (pc, .aaload, 1)) (hn : pc + 1 = pn) (ho : Lk G w a (arR C n g)) (hi : i < n) (hb : n < 2 ^ 31) {v : Option Nat} (hv : g i = v) (kk : Rn G M pn lv (va_rf v :: st) w Q) : Rn G M pc lv (.int (nI i) :: .ref a :: st) w Q :=
  x_aald k pn hd hn ho (vp_in_nI hi hb) (by rw [nI_clamp (by omega)]; exact hv) kk
theorem y_bast {a n i e : Nat} {g : Nat → Nat} (k pn : Nat) (hd : (mdT M)[k]? = some (pc, .bastore, 1)) (hn : pc + 1 = pn) (ho : w.1 a = some (arB n g)) (hi : i < n) (hb : n < 2 ^ 31) (he : e < 128) (kk : Rn G M pn lv st (wset w a (arB n (upF g i e))) Q) : Rn G M pc lv (.int (nI e) :: .int (nI i) :: .ref a :: st) w Q :=
  x_bast k pn hd hn ho (vp_in_nI hi hb) (n_byte he) (by rw [nI_clamp (by omega), upF_mk nI]; exact kk)
theorem y_iast {a n i : Nat} {x : Int32} {g : Nat → Int32} (k pn : Nat) (hd : (mdT M)[k]? = some (pc, .iastore, 1)) (hn : pc + 1 = pn) (ho : w.1 a = some (arI .int n g)) (hi : i < n) (hb : n < 2 ^ 31) (kk : Rn G M pn lv st (wset w a (arI .int n (upF g i x))) Q) : Rn G M pc lv (.int x :: .int (nI i) :: .ref a :: st) w Q :=
  x_iast k pn hd hn ho (vp_in_nI hi hb) (by rw [nI_clamp (by omega)]; exact kk)
theorem y_last {a n i : Nat} {x : Int64} {g : Nat → Int64} (k pn : Nat) (hd : (mdT M)[k]? = some (pc, .lastore, 1)) (hn : pc + 1 = pn) (ho : w.1 a = some (arL n g)) (hi : i < n) (hb : n < 2 ^ 31) (kk : Rn G M pn lv st (wset w a (arL n (upF g i x))) Q) : Rn G M pc lv (.long x :: .int (nI i) :: .ref a :: st) w Q :=
  x_last k pn hd hn ho (vp_in_nI hi hb) (by rw [nI_clamp (by omega)]; exact kk)
theorem y_aast {a n v ci i : Nat} {E C : String} {TT : u_T} {NN : Nat} {fs : List Value} {g : Nat → Option Nat} (k pn : Nat) (hd : (mdT M)[k]? = some (pc, .aastore, 1)) (hn : pc + 1 = pn) (hA : FieldType.object E ∈ gTys) (ho : w.1 a = some (arR E n g)) (hv : Lk G w v (.inl (ci, fs))) (hc : clT[ci]? = some (C, TT, NN)) (hca : C = E ∨ Cond.castable C E ∈ lw_tbl) (hi : i < n) (hb : n < 2 ^ 31) (kk : Rn G M pn lv st (wset w a (arR E n (upF g i (some v)))) Q) : Rn G M pc lv (.ref v :: .int (nI i) :: .ref a :: st) w Q :=
  x_aast k pn hd hn hA ho hv hc hca (vp_in_nI hi hb) (by rw [nI_clamp (by omega)]; exact kk)
theorem y_aastO {a n v i : Nat} {g : Nat → Option Nat} (k pn : Nat) (hd : (mdT M)[k]? = some (pc, .aastore, 1)) (hn : pc + 1 = pn) (ho : w.1 a = some (arR "java/lang/Object" n g)) (hv : OkO G w (.ref v)) (hi : i < n) (hb : n < 2 ^ 31) (kk : Rn G M pn lv st (wset w a (arR "java/lang/Object" n (upF g i (some v)))) Q) : Rn G M pc lv (.ref v :: .int (nI i) :: .ref a :: st) w Q :=
  x_aastO k pn hd hn ho hv (vp_in_nI hi hb) (by rw [nI_clamp (by omega)]; exact kk)
theorem y_pos {n : Nat} (h : n < 2 ^ 31) : ¬ nI n < 0 ∧ (nI n).toNatClampNeg = n := ⟨nI_pos h, nI_clamp h⟩
theorem y_copyB {idx a0 a n0 n1 S D L : Nat} {f g : Nat → Nat} (k pn : Nat) (hd : (mdT M)[k]? = some (pc, .invokestatic idx, 3)) (hn : pc + 3 = pn) (h1 : Cond.methodLink (mdY M).cls idx arraycopyName ∈ lw_all) (ho0 : Lk G w a0 (arB n0 f)) (ho : w.1 a = some (arB n1 g)) (hs : S + L ≤ n0) (hd2 : D + L ≤ n1) (hb0 : n0 < 2 ^ 31) (hb1 : n1 < 2 ^ 31)
    (hok : ∀ i, i < L → f (S + i) < 128) (hlev : 1 ≤ mdV M) (hst : (st.map fun v => v.category).sum ≤ 20) (kk : Rn G M pn lv st (wset w a (arB n1 (va_cpy f g S D L))) Q) : Rn G M pc lv (.int (nI L) :: .int (nI D) :: .ref a :: .int (nI S) :: .ref a0 :: st) w Q :=
  x_copyI k pn hd hn h1 rfl ho0 ho (y_pos (by omega)) (y_pos (by omega)) (y_pos (by omega)) hs hd2 (fun i hi => n_fitB (hok i hi)) hlev hst (by rw [cpyF_mk nI]; exact kk)
theorem y_copyI {idx a0 a n0 n1 S D L : Nat} {f g : Nat → Int32} (k pn : Nat) (hd : (mdT M)[k]? = some (pc, .invokestatic idx, 3)) (hn : pc + 3 = pn) (h1 : Cond.methodLink (mdY M).cls idx arraycopyName ∈ lw_all) (ho0 : Lk G w a0 (arI .int n0 f)) (ho : w.1 a = some (arI .int n1 g)) (hs : S + L ≤ n0) (hd2 : D + L ≤ n1) (hb0 : n0 < 2 ^ 31) (hb1 : n1 < 2 ^ 31)
    (hlev : 1 ≤ mdV M) (hst : (st.map fun v => v.category).sum ≤ 20) (kk : Rn G M pn lv st (wset w a (arI .int n1 (va_cpy f g S D L))) Q) : Rn G M pc lv (.int (nI L) :: .int (nI D) :: .ref a :: .int (nI S) :: .ref a0 :: st) w Q :=
  x_copyI k pn hd hn h1 rfl ho0 ho (y_pos (by omega)) (y_pos (by omega)) (y_pos (by omega)) hs hd2 (fun i hi => rfl) hlev hst kk
theorem y_copyL {idx a0 a n0 n1 S D L : Nat} {f g : Nat → Int64} (k pn : Nat) (hd : (mdT M)[k]? = some (pc, .invokestatic idx, 3)) (hn : pc + 3 = pn) (h1 : Cond.methodLink (mdY M).cls idx arraycopyName ∈ lw_all) (ho0 : Lk G w a0 (arL n0 f)) (ho : w.1 a = some (arL n1 g)) (hs : S + L ≤ n0) (hd2 : D + L ≤ n1) (hb0 : n0 < 2 ^ 31) (hb1 : n1 < 2 ^ 31)
    (hlev : 1 ≤ mdV M) (hst : (st.map fun v => v.category).sum ≤ 20) (kk : Rn G M pn lv st (wset w a (arL n1 (va_cpy f g S D L))) Q) : Rn G M pc lv (.int (nI L) :: .int (nI D) :: .ref a :: .int (nI S) :: .ref a0 :: st) w Q :=
  x_copyL k pn hd hn h1 ho0 ho (y_pos (by omega)) (y_pos (by omega)) (y_pos (by omega)) hs hd2 hlev hst kk
theorem y_copyR {idx a0 a n0 n1 S D L : Nat} {f g : Nat → Option Nat} (k pn : Nat) (hd : (mdT M)[k]? = some (pc, .invokestatic idx, 3)) (hn : pc + 3 = pn) (h1 : Cond.methodLink (mdY M).cls idx arraycopyName ∈ lw_all) (ho0 : Lk G w a0 (arR "java/lang/Object" n0 f)) (ho : w.1 a = some (arR "java/lang/Object" n1 g)) (hs : S + L ≤ n0) (hd2 : D + L ≤ n1) (hb0 : n0 < 2 ^ 31) (hb1 : n1 < 2 ^ 31)
    (hok : ∀ i, i < L → OkO G w (va_rf (f (S + i)))) (hlev : 1 ≤ mdV M) (hst : (st.map fun v => v.category).sum ≤ 20) (kk : Rn G M pn lv st (wset w a (arR "java/lang/Object" n1 (va_cpy f g S D L))) Q) : Rn G M pc lv (.int (nI L) :: .int (nI D) :: .ref a :: .int (nI S) :: .ref a0 :: st) w Q :=
  x_copyR k pn hd hn h1 ho0 ho (y_pos (by omega)) (y_pos (by omega)) (y_pos (by omega)) hs hd2 hok hlev hst kk
theorem y_cloneB {idx a n : Nat} {g : Nat → Nat} (k pn : Nat) (hd : (mdT M)[k]? = some (pc, .invokevirtual idx, 3)) (hn : pc + 3 = pn) (h1 : Cond.methodLink (mdY M).cls idx ⟨"[B", "clone", "()Ljava/lang/Object;"⟩ ∈ lw_all) (h2 : Cond.sameMethod "[B" "java/lang/Object" "clone" "()Ljava/lang/Object;" ∈ lw_all) (h3 : Cond.selects "[B" ⟨"[B", "clone", "()Ljava/lang/Object;"⟩ ⟨"java/lang/Object", "clone", "()Ljava/lang/Object;"⟩ ∈ lw_all) (h4 : Cond.castable "[B" "java/lang/Cloneable" ∈ lw_tbl)
    (ho : w.1 a = some (arB n g)) (hfit : ∀ i, i < n → g i < 128) (hlev : 1 ≤ mdV M) (hst : (st.map fun v => v.category).sum ≤ 20) (hg : 12 + n ≤ w.2.2) (kk : Rn G M pn lv (.ref w.2.1 :: st) (wnew w (arB n g) n) Q) : Rn G M pc lv (.ref a :: st) w Q :=
  Rn.wok fun hwk => r_clone k pn hd hn h1 h2 h3 h4 (by decide) (fun U c h => va_nm_byte h) (Or.inl ho) (Or.inl (hwk.1 a _ ho).1) (fun i hi => n_fitB (hfit i hi)) hlev hst hg kk
theorem y_newB {n : Nat} (k pn : Nat) (hd : (mdT M)[k]? = some (pc, .newarray .byte, 2)) (hn : pc + 2 = pn) (hb : n ≤ 536870912) (hg : 12 + n ≤ w.2.2) (kk : Rn G M pn lv (.ref w.2.1 :: st) (wnew w (arB n (fun _ => 0)) n) Q) : Rn G M pc lv (.int (nI n) :: st) w Q :=
  r_newa (N := n) k pn hd hn rfl q145 gt_byte (fun U c h => h) (nI_pos (by omega)) (nI_clamp (by omega)) (by show n * 1 ≤ _; omega) hg kk
theorem y_newI {n : Nat} (k pn : Nat) (hd : (mdT M)[k]? = some (pc, .newarray .int, 2)) (hn : pc + 2 = pn) (hb : n ≤ 100000000) (hg : 12 + n ≤ w.2.2) (kk : Rn G M pn lv (.ref w.2.1 :: st) (wnew w (arI .int n (fun _ => 0)) n) Q) : Rn G M pc lv (.int (nI n) :: st) w Q :=
  r_newa (N := n) k pn hd hn rfl q1263 gt_int (fun U c h => h) (nI_pos (by omega)) (nI_clamp (by omega)) (by show n * 4 ≤ _; omega) hg kk
theorem y_newL {n : Nat} (k pn : Nat) (hd : (mdT M)[k]? = some (pc, .newarray .long, 2)) (hn : pc + 2 = pn) (hb : n ≤ 50000000) (hg : 12 + n ≤ w.2.2) (kk : Rn G M pn lv (.ref w.2.1 :: st) (wnew w (arL n (fun _ => 0)) n) Q) : Rn G M pc lv (.int (nI n) :: st) w Q :=
  r_newa (N := n) k pn hd hn rfl q638 gt_long (fun U c h => h) (nI_pos (by omega)) (nI_clamp (by omega)) (by show n * 8 ≤ _; omega) hg kk
theorem y_newR {idx n : Nat} {C : String} (k pn : Nat) (hd : (mdT M)[k]? = some (pc, .anewarray idx, 3)) (hn : pc + 3 = pn) (h1 : Cond.classLink (mdY M).cls idx C ∈ lw_all) (h2 : Cond.arrayOver (.object C) ∈ lw_tbl) (hA : FieldType.object C ∈ gTys) (hb : n ≤ 100000000) (hg : 12 + n ≤ w.2.2) (kk : Rn G M pn lv (.ref w.2.1 :: st) (wnew w (arR C n (fun _ => none)) n) Q) : Rn G M pc lv (.int (nI n) :: st) w Q :=
  r_anew (N := n) k pn hd hn h1 h2 hA (nI_pos (by omega)) (nI_clamp (by omega)) (by omega) hg kk
theorem y_icmp_eq {a b : Nat} {off : Int} (ha : a < 2 ^ 31) (hb : b < 2 ^ 31) (k pn pt : Nat) (hd : (mdT M)[k]? = some (pc, .if_icmp .eq off, 3)) (hn : pc + 3 = pn) (ht : (pc : Int) + off = (pt : Int)) (kt : a = b → Rn G M pt lv st w Q) (kf : ¬ a = b → Rn G M pn lv st w Q) : Rn G M pc lv (.int (nI b) :: .int (nI a) :: st) w Q :=
  r_icmp_eq k pn pt hd hn ht (fun h => kt ((nI_eq ha hb).mp h)) (fun h => kf (fun q => h ((nI_eq ha hb).mpr q)))
theorem y_icmp_ne {a b : Nat} {off : Int} (ha : a < 2 ^ 31) (hb : b < 2 ^ 31) (k pn pt : Nat) (hd : (mdT M)[k]? = some (pc, .if_icmp .ne off, 3)) (hn : pc + 3 = pn) (ht : (pc : Int) + off = (pt : Int)) (kt : ¬ a = b → Rn G M pt lv st w Q) (kf : a = b → Rn G M pn lv st w Q) : Rn G M pc lv (.int (nI b) :: .int (nI a) :: st) w Q :=
  r_icmp_ne k pn pt hd hn ht (fun h => kt (fun q => h ((nI_eq ha hb).mpr q))) (fun h => kf ((nI_eq ha hb).mp h))
theorem y_icmp_lt {a b : Nat} {off : Int} (ha : a < 2 ^ 31) (hb : b < 2 ^ 31) (k pn pt : Nat) (hd : (mdT M)[k]? = some (pc, .if_icmp .lt off, 3)) (hn : pc + 3 = pn) (ht : (pc : Int) + off = (pt : Int)) (kt : a < b → Rn G M pt lv st w Q) (kf : ¬ a < b → Rn G M pn lv st w Q) : Rn G M pc lv (.int (nI b) :: .int (nI a) :: st) w Q :=
  r_icmp_lt k pn pt hd hn ht (fun h => kt ((nI_ltI ha hb).mp h)) (fun h => kf (fun q => h ((nI_ltI ha hb).mpr q)))
theorem y_icmp_ge {a b : Nat} {off : Int} (ha : a < 2 ^ 31) (hb : b < 2 ^ 31) (k pn pt : Nat) (hd : (mdT M)[k]? = some (pc, .if_icmp .ge off, 3)) (hn : pc + 3 = pn) (ht : (pc : Int) + off = (pt : Int)) (kt : b ≤ a → Rn G M pt lv st w Q) (kf : ¬ b ≤ a → Rn G M pn lv st w Q) : Rn G M pc lv (.int (nI b) :: .int (nI a) :: st) w Q :=
  r_icmp_ge k pn pt hd hn ht (fun h => kt ((nI_leI hb ha).mp h)) (fun h => kf (fun q => h ((nI_leI hb ha).mpr q)))
theorem y_icmp_gt {a b : Nat} {off : Int} (ha : a < 2 ^ 31) (hb : b < 2 ^ 31) (k pn pt : Nat) (hd : (mdT M)[k]? = some (pc, .if_icmp .gt off, 3)) (hn : pc + 3 = pn) (ht : (pc : Int) + off = (pt : Int)) (kt : b < a → Rn G M pt lv st w Q) (kf : ¬ b < a → Rn G M pn lv st w Q) : Rn G M pc lv (.int (nI b) :: .int (nI a) :: st) w Q :=
  r_icmp_gt k pn pt hd hn ht (fun h => kt ((nI_ltI hb ha).mp h)) (fun h => kf (fun q => h ((nI_ltI hb ha).mpr q)))
theorem y_icmp_le {a b : Nat} {off : Int} (ha : a < 2 ^ 31) (hb : b < 2 ^ 31) (k pn pt : Nat) (hd : (mdT M)[k]? = some (pc, .if_icmp .le off, 3)) (hn : pc + 3 = pn) (ht : (pc : Int) + off = (pt : Int)) (kt : a ≤ b → Rn G M pt lv st w Q) (kf : ¬ a ≤ b → Rn G M pn lv st w Q) : Rn G M pc lv (.int (nI b) :: .int (nI a) :: st) w Q :=
  r_icmp_le k pn pt hd hn ht (fun h => kt ((nI_leI ha hb).mp h)) (fun h => kf (fun q => h ((nI_leI ha hb).mpr q)))
theorem y_if_eq {a : Nat} {off : Int} (ha : a < 2 ^ 31) (k pn pt : Nat) (hd : (mdT M)[k]? = some (pc, .ifCond .eq off, 3)) (hn : pc + 3 = pn) (ht : (pc : Int) + off = (pt : Int)) (kt : a = 0 → Rn G M pt lv st w Q) (kf : ¬ a = 0 → Rn G M pn lv st w Q) : Rn G M pc lv (.int (nI a) :: st) w Q :=
  r_if_eq k pn pt hd hn ht (fun h => kt ((nI_eq ha (show 0 < 2 ^ 31 by decide)).mp h)) (fun h => kf (fun q => h ((nI_eq ha (show 0 < 2 ^ 31 by decide)).mpr q)))
theorem y_if_ne {a : Nat} {off : Int} (ha : a < 2 ^ 31) (k pn pt : Nat) (hd : (mdT M)[k]? = some (pc, .ifCond .ne off, 3)) (hn : pc + 3 = pn) (ht : (pc : Int) + off = (pt : Int)) (kt : ¬ a = 0 → Rn G M pt lv st w Q) (kf : a = 0 → Rn G M pn lv st w Q) : Rn G M pc lv (.int (nI a) :: st) w Q :=
  r_if_ne k pn pt hd hn ht (fun h => kt (fun q => h ((nI_eq ha (show 0 < 2 ^ 31 by decide)).mpr q))) (fun h => kf ((nI_eq ha (show 0 < 2 ^ 31 by decide)).mp h))
theorem y_if_lt {a : Nat} {off : Int} (ha : a < 2 ^ 31) (k pn pt : Nat) (hd : (mdT M)[k]? = some (pc, .ifCond .lt off, 3)) (hn : pc + 3 = pn) (ht : (pc : Int) + off = (pt : Int)) (kt : a < 0 → Rn G M pt lv st w Q) (kf : ¬ a < 0 → Rn G M pn lv st w Q) : Rn G M pc lv (.int (nI a) :: st) w Q :=
  r_if_lt k pn pt hd hn ht (fun h => kt ((nI_ltI ha (show 0 < 2 ^ 31 by decide)).mp h)) (fun h => kf (fun q => h ((nI_ltI ha (show 0 < 2 ^ 31 by decide)).mpr q)))
theorem y_if_ge {a : Nat} {off : Int} (ha : a < 2 ^ 31) (k pn pt : Nat) (hd : (mdT M)[k]? = some (pc, .ifCond .ge off, 3)) (hn : pc + 3 = pn) (ht : (pc : Int) + off = (pt : Int)) (kt : 0 ≤ a → Rn G M pt lv st w Q) (kf : ¬ 0 ≤ a → Rn G M pn lv st w Q) : Rn G M pc lv (.int (nI a) :: st) w Q :=
  r_if_ge k pn pt hd hn ht (fun h => kt ((nI_leI (show 0 < 2 ^ 31 by decide) ha).mp h)) (fun h => kf (fun q => h ((nI_leI (show 0 < 2 ^ 31 by decide) ha).mpr q)))
theorem y_if_gt {a : Nat} {off : Int} (ha : a < 2 ^ 31) (k pn pt : Nat) (hd : (mdT M)[k]? = some (pc, .ifCond .gt off, 3)) (hn : pc + 3 = pn) (ht : (pc : Int) + off = (pt : Int)) (kt : 0 < a → Rn G M pt lv st w Q) (kf : ¬ 0 < a → Rn G M pn lv st w Q) : Rn G M pc lv (.int (nI a) :: st) w Q :=
  r_if_gt k pn pt hd hn ht (fun h => kt ((nI_ltI (show 0 < 2 ^ 31 by decide) ha).mp h)) (fun h => kf (fun q => h ((nI_ltI (show 0 < 2 ^ 31 by decide) ha).mpr q)))
theorem y_if_le {a : Nat} {off : Int} (ha : a < 2 ^ 31) (k pn pt : Nat) (hd : (mdT M)[k]? = some (pc, .ifCond .le off, 3)) (hn : pc + 3 = pn) (ht : (pc : Int) + off = (pt : Int)) (kt : a ≤ 0 → Rn G M pt lv st w Q) (kf : ¬ a ≤ 0 → Rn G M pn lv st w Q) : Rn G M pc lv (.int (nI a) :: st) w Q :=
  r_if_le k pn pt hd hn ht (fun h => kt ((nI_leI ha (show 0 < 2 ^ 31 by decide)).mp h)) (fun h => kf (fun q => h ((nI_leI ha (show 0 < 2 ^ 31 by decide)).mpr q)))

theorem nI_subI {a b : Nat} (ha : a < 2 ^ 31) (hb : b < 2 ^ 31) : (nI a - nI b).toInt = (a : Int) - b := by
  rw [Int32.toInt_sub, nI_toInt ha, nI_toInt hb]
  rw [Int.bmod_eq_of_le] <;> omega
theorem y_ifD_le {a b : Nat} {off : Int} (ha : a < 2 ^ 31) (hb : b < 2 ^ 31) (k pn pt : Nat) (hd : (mdT M)[k]? = some (pc, .ifCond .le off, 3)) (hn : pc + 3 = pn) (ht : (pc : Int) + off = (pt : Int)) (kt : a ≤ b → Rn G M pt lv st w Q) (kf : ¬ a ≤ b → Rn G M pn lv st w Q) : Rn G M pc lv (.int (nI a - nI b) :: st) w Q := by
  have e : (nI a - nI b) ≤ 0 ↔ a ≤ b := by
    rw [Int32.le_iff_toInt_le, nI_subI ha hb]
    show (a : Int) - b ≤ 0 ↔ _
    omega
  exact r_if_le k pn pt hd hn ht (fun h => kt (e.mp h)) (fun h => kf (fun q => h (e.mpr q)))
theorem y_ifD_gt {a b : Nat} {off : Int} (ha : a < 2 ^ 31) (hb : b < 2 ^ 31) (k pn pt : Nat) (hd : (mdT M)[k]? = some (pc, .ifCond .gt off, 3)) (hn : pc + 3 = pn) (ht : (pc : Int) + off = (pt : Int)) (kt : b < a → Rn G M pt lv st w Q) (kf : ¬ b < a → Rn G M pn lv st w Q) : Rn G M pc lv (.int (nI a - nI b) :: st) w Q := by
  have e : 0 < (nI a - nI b) ↔ b < a := by
    rw [Int32.lt_iff_toInt_lt, nI_subI ha hb]
    show 0 < (a : Int) - b ↔ _
    omega
  exact r_if_gt k pn pt hd hn ht (fun h => kt (e.mp h)) (fun h => kf (fun q => h (e.mpr q)))
theorem n_dec {e d : Nat} (h : d ≤ e) : nI e + (-(nI d)) = nI (e - d) := by
  rw [← pk_sub h, Int32.sub_eq_add_neg]
theorem n_or0 (a : Nat) : nI a ||| 0 = nI a := by simp
theorem n_div {a b : Nat} (ha : a < 2 ^ 31) (hb : 0 < b ∧ b < 2 ^ 31) : nI a / nI b = nI (a / b) := by
  apply Int32.toInt_inj.mp
  have h1 : a / b ≤ a := Nat.div_le_self a b
  rw [Int32.toInt_div_of_ne_left _ _ (by
    intro h
    have := congrArg Int32.toInt h
    rw [nI_toInt ha] at this
    have h2 : Int32.minValue.toInt = -2147483648 := by decide
    omega), nI_toInt ha, nI_toInt hb.2, nI_toInt (by omega)]
  rfl
theorem n_rem {a b : Nat} (ha : a < 2 ^ 31) (hb : 0 < b ∧ b < 2 ^ 31) : nI a - nI a / nI b * nI b = nI (a % b) := by
  rw [n_div ha hb, n_mul, pk_sub (Nat.div_mul_le_self a b)]
  congr 1
  have := Nat.div_add_mod a b
  have e : a / b * b = b * (a / b) := Nat.mul_comm ..
  omega
end RN
/-- fewer locals behind a call -/
theorem Af.sub {G : Gm} {M : Md} {pc pn : Nat} {lv lv' : List (Nat × Value)} {st : List Value} {r : Rs} {w : Wd} {Q : Rs → Wd → Prop} (ks : List Nat) (h : lv_pick lv ks = lv') (kk : Af G M pc pn lv' st r w Q) : Af G M pc pn lv st r w Q := by
  cases r with
  | inl v => exact r_sub ks h kk
  | inr x =>
    intro hG hM p e s m args below meth c R H locs cells slots ls hC hR hP hF hL hl T hT X
    exact kk hG hM p e s m args below meth c R H locs cells slots ls hC hR hP hF hL (lv_sub hl ks h) T hT X
theorem rf_or (p : Option Nat) : va_rf p = .null ∨ ∃ a, va_rf p = .ref a := by
  cases p with
  | none => exact Or.inl rfl
  | some a => exact Or.inr ⟨a, rfl⟩
theorem rf_cat (p : Option Nat) : (va_rf p).category = 1 := by cases p <;> rfl
theorem rf_fit (p : Option Nat) (C : String) : fits (.object C) (va_rf p) = true := by cases p <;> rfl
theorem n_shr6 {a : Nat} (h : a < 2 ^ 31) : nI a >>> ((6 : Int32) &&& 31) = nI (a / 64) := by
  have e : nI a >>> ((6 : Int32) &&& 31) = nI a >>> 6 := by congr 1
  rw [e]
  apply Int32.toBitVec_inj.mp
  apply BitVec.eq_of_toNat_eq
  have ha : (nI a).toBitVec.toNat = a := by
    show (Int32.ofNat a).toBitVec.toNat = a
    simp [Int32.toBitVec_ofNat']
    omega
  have hm : (nI a).toBitVec.msb = false := by
    rw [BitVec.msb_eq_decide, ha]
    simp
    omega
  show ((nI a).toBitVec.sshiftRight 6).toNat = (Int32.ofNat (a / 64)).toBitVec.toNat
  rw [BitVec.sshiftRight_eq_of_msb_false hm]
  simp [ha, Int32.toBitVec_ofNat', Nat.shiftRight_eq_div_pow]
  omega
section RPP
variable {G : Gm} {M N : Md} {pc : Nat} {lv : List (Nat × Value)} {st : List Value} {w : Wd} {Q Q' : Rs → Wd → Prop}
theorem x_aloadP_n {i : Fin 4} {p : Option Nat} (k pn j : Nat) (hd : (mdT M)[k]? = some (pc, .aload_n i, 1)) (hn : pc + 1 = pn) (hj : lv[j]? = some ((i : Nat), va_rf p)) (kk : Rn G M pn lv (va_rf p :: st) w Q) : Rn G M pc lv st w Q := by
  cases p with
  | none => exact r_aloadN_n k pn j hd hn hj kk
  | some a => exact r_aload_n k pn j hd hn hj kk
theorem x_aloadP {i : Nat} {p : Option Nat} (k pn j : Nat) (hd : (mdT M)[k]? = some (pc, .aload i, 2)) (hn : pc + 2 = pn) (hj : lv[j]? = some (i, va_rf p)) (kk : Rn G M pn lv (va_rf p :: st) w Q) : Rn G M pc lv st w Q := by
  cases p with
  | none => exact r_aloadN k pn j hd hn hj kk
  | some a => exact r_aload k pn j hd hn hj kk
theorem x_astoreP_n {i : Fin 4} {p : Option Nat} {lv' : List (Nat × Value)} (k pn : Nat) (hd : (mdT M)[k]? = some (pc, .astore_n i, 1)) (hn : pc + 1 = pn) (hi : (i : Nat) < mdL M) (hv : ((i : Nat), va_rf p) :: lv.filter (fun q => !(q.1 == (i : Nat)) && !(q.1 + 1 == (i : Nat) && q.2.category == 2)) = lv') (kk : Rn G M pn lv' st w Q) : Rn G M pc lv (va_rf p :: st) w Q := by
  cases p with
  | none => exact r_astoreN_n k pn hd hn hi hv kk
  | some a => exact r_astore_n k pn hd hn hi hv kk
theorem x_astoreP {i : Nat} {p : Option Nat} {lv' : List (Nat × Value)} (k pn : Nat) (hd : (mdT M)[k]? = some (pc, .astore i, 2)) (hn : pc + 2 = pn) (hi : i < mdL M) (hv : (i, va_rf p) :: lv.filter (fun q => !(q.1 == i) && !(q.1 + 1 == i && q.2.category == 2)) = lv') (kk : Rn G M pn lv' st w Q) : Rn G M pc lv (va_rf p :: st) w Q := by
  cases p with
  | none => exact r_astoreN k pn hd hn hi hv kk
  | some a => exact r_astore k pn hd hn hi hv kk
end RPP
theorem x_castA {G : Gm} {M : Md} {pc : Nat} {lv : List (Nat × Value)} {st : List Value} {w : Wd} {Q : Rs → Wd → Prop} {idx a n : Nat} {C nm : String} {f : Nat → Value} (he : "[" ++ (FieldType.object C).toString = nm) (h1 : Cond.classLink (mdY M).cls idx nm ∈ lw_all) (hA : FieldType.object C ∈ gTys) (k pn : Nat) (hd : (mdT M)[k]? = some (pc, .checkcast idx, 3)) (hn : pc + 3 = pn) (ho : Lk G w a (.inr (.object C, n, f))) (kk : Rn G M pn lv (.ref a :: st) w Q) : Rn G M pc lv (.ref a :: st) w Q := by
  subst he
  exact r_castA h1 hA k pn hd hn ho kk
