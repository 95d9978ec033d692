set_option maxRecDepth 100000
theorem db_m100 : (Int8.ofInt (-100)).toInt32 = (-100) := by decide
theorem db_m9 : (Int8.ofInt (-9)).toInt32 = (-9) := by decide
theorem db_100 : (Int8.ofInt 100).toInt32 = 100 := by decide
theorem fl_J8_290_J29 : FL RJ8 290 nJ29 5 RJ29 TJ29 6 := ⟨rfl, by decide, _, q1342, Or.inl rfl⟩
theorem lkS_J0_245 : LkS RJ0 245 mJ20_stringSize 1 := ⟨okJ20_stringSize, q427, q428, ⟨by decide, by decide⟩, by decide +kernel⟩
theorem lkS_J0_248 : LkS RJ0 248 mJ20_getChars 3 := ⟨okJ20_getChars, q463, q464, ⟨by decide, by decide⟩, by decide +kernel⟩
theorem lkV_J0_212_J1 : LkV RJ0 212 RJ1 mJ0_append_5 1 := ⟨okJ0_append_5, q1540, q1541, q1543, ⟨by decide, by decide⟩, by decide +kernel⟩
theorem lkP_J1_53 : LkP RJ1 53 mJ0_append 1 := ⟨okJ0_append, q424, q2262, q144, q425, by decide, by decide +kernel⟩
theorem lkP_J1_29 : LkP RJ1 29 mJ0_append_2 1 := ⟨okJ0_append_2, q493, q2265, q144, q494, by decide, by decide +kernel⟩
theorem lkP_J1_50 : LkP RJ1 50 mJ0_append_3 1 := ⟨okJ0_append_3, q1222, q2273, q144, q1223, by decide, by decide +kernel⟩
theorem lkP_J1_35 : LkP RJ1 35 mJ0_append_4 1 := ⟨okJ0_append_4, q1531, q2274, q144, q1532, by decide, by decide +kernel⟩
theorem lkP_J1_333 : LkP RJ1 333 mJ0_setLength 1 := ⟨okJ0_setLength, q896, q2271, q144, q897, by decide, by decide +kernel⟩
theorem lkF_J6_42_J6 : LkF RJ6 42 RJ6 ⟨"java/util/Collection", "toArray", "()[Ljava/lang/Object;"⟩ mJ6_toArray 0 := ⟨okJ6_toArray, q1627, q1631, q1633, q1629, q1628, q1634, q1632, q1630, ⟨by decide, by decide⟩, by decide +kernel⟩
theorem lkS_J8_294 : LkS RJ8 294 mJ8_parentOf 1 := ⟨okJ8_parentOf, q1364, q1365, ⟨by decide, by decide⟩, by decide +kernel⟩
theorem lkS_J8_297 : LkS RJ8 297 mJ8_leftOf 1 := ⟨okJ8_leftOf, q1367, q1368, ⟨by decide, by decide⟩, by decide +kernel⟩
theorem lkS_J8_303 : LkS RJ8 303 mJ8_colorOf 1 := ⟨okJ8_colorOf, q1373, q1374, ⟨by decide, by decide⟩, by decide +kernel⟩
theorem lkS_J8_307 : LkS RJ8 307 mJ8_setColor 2 := ⟨okJ8_setColor, q1376, q1377, ⟨by decide, by decide⟩, by decide +kernel⟩
theorem lkS_J8_300 : LkS RJ8 300 mJ8_rightOf 1 := ⟨okJ8_rightOf, q1370, q1371, ⟨by decide, by decide⟩, by decide +kernel⟩
theorem lkV_J8_314_J8 : LkV RJ8 314 RJ8 mJ8_rotateRight 1 := ⟨okJ8_rotateRight, q1383, q1385, qs18, ⟨by decide, by decide⟩, by decide +kernel⟩
theorem lkV_J8_311_J8 : LkV RJ8 311 RJ8 mJ8_rotateLeft 1 := ⟨okJ8_rotateLeft, q1379, q1381, qs17, ⟨by decide, by decide⟩, by decide +kernel⟩
theorem e_J0_append {G : Gm} {κ : Nat → Nat} {φ : Nat → Option Nat} (hS : GS G κ φ) {w : Wd} {Q : Rs → Wd → Prop} {a1 : Nat} {x2 : Int32} {a3 : Nat} {x4 : Int32} {m5 : Nat} (o1 : Lk G w a1 (.inl (nJ1, [.ref a3, .int 0, .int x4, .int (nI m5)]))) {Q2 : Rs → Wd → Prop} (e2 : Ev G mJ20_stringSize [.int x2] w Q2) (k2 : ∀ r w', Q2 r w' → Af G mJ0_append 7 10 [(0, .ref a1), (1, .int x2), (2, .int (nI m5))] [.int (nI m5)] r w' Q) : Ev G mJ0_append [.ref a1, .int x2] w Q := by
  show Rn G mJ0_append 0 [(0, .ref a1), (1, .int x2)] [] w Q
  refine r_aload_n 0 1 0 rfl rfl rfl ?_
  refine r_get (v := .int (nI m5)) fl_J0_79_J1 1 4 rfl rfl o1 rfl ?_
  refine r_istore_n (lv' := [(2, .int (nI m5)), (0, .ref a1), (1, .int x2)]) 2 5 rfl rfl (Nat.le_of_ble_eq_true rfl) rfl ?_
  refine r_iload_n 3 6 0 rfl rfl rfl ?_
  refine r_iload_n 4 7 2 rfl rfl rfl ?_
  exact r_callS lkS_J0_245 5 10 rfl rfl (by decide) [.int x2] rfl rfl (Nat.le_of_ble_eq_true rfl) (Nat.le_of_ble_eq_true rfl) e2 (fun r w' h => Af.sub [1, 2, 0] rfl (k2 r w' h))
theorem e_J0_append_10 {G : Gm} {κ : Nat → Nat} {φ : Nat → Option Nat} (hS : GS G κ φ) {w : Wd} {Q : Rs → Wd → Prop} {a1 : Nat} {x2 : Int32} {m3 : Nat} {m4 : Nat} {m5 : Nat} {a6 : Nat} {x7 : Int32} {m8 : Nat} (o1 : Lk G w a1 (.inl (nJ1, [.ref a6, .int 0, .int x7, .int (nI m8)]))) {Q2 : Rs → Wd → Prop} (e2 : Ev G mJ0_ensureCapacityInternal [.ref a1, .int (nI (m5 + m4))] w Q2) (k2 : ∀ r w', Q2 r w' → Af G mJ0_append 14 17 [(0, .ref a1), (1, .int x2), (2, .int (nI m3)), (3, .int (nI (m5 + m4)))] [] r w' Q) : Rn G mJ0_append 10 [(0, .ref a1), (1, .int x2), (2, .int (nI m3))] [.int (nI m4), .int (nI m5)] w Q := by
  refine r_iadd 6 11 rfl rfl ?_
  refine x_eq (y := (nI (m5 + m4))) (nI_add _ _) ?_
  refine r_istore_n (lv' := [(3, .int (nI (m5 + m4))), (0, .ref a1), (1, .int x2), (2, .int (nI m3))]) 7 12 rfl rfl (Nat.le_of_ble_eq_true rfl) rfl ?_
  refine r_aload_n 8 13 1 rfl rfl rfl ?_
  refine r_iload_n 9 14 0 rfl rfl rfl ?_
  exact r_callR lkR_J0_100 (C := RJ1) (TT := TJ1) (NN := 4) rfl o1 10 17 rfl rfl (by decide) [.int (nI (m5 + m4))] rfl rfl (Nat.le_of_ble_eq_true rfl) (Nat.le_of_ble_eq_true rfl) e2 (fun r w' h => Af.sub [1, 2, 3, 0] rfl (k2 r w' h))
theorem e_J0_append_17 {G : Gm} {κ : Nat → Nat} {φ : Nat → Option Nat} (hS : GS G κ φ) {w : Wd} {Q : Rs → Wd → Prop} {a1 : Nat} {x2 : Int32} {m3 : Nat} {m4 : Nat} {a5 : Nat} {x6 : Int32} {m7 : Nat} (o1 : Lk G w a1 (.inl (nJ1, [.ref a5, .int 0, .int x6, .int (nI m7)]))) {Q2 : Rs → Wd → Prop} (e2 : Ev G mJ20_getChars [.int x2, .int (nI m4), .ref a5] w Q2) (k2 : ∀ r w', Q2 r w' → Af G mJ0_append 30 33 [(0, .ref a1), (3, .int (nI m4))] [] r w' Q) : Rn G mJ0_append 17 [(0, .ref a1), (1, .int x2), (2, .int (nI m3)), (3, .int (nI m4))] [] w Q := by
  refine r_aload_n 11 18 0 rfl rfl rfl ?_
  refine r_callV lkV_J0_83_J1 (C := RJ1) (TT := TJ1) (NN := 4) rfl o1 12 21 rfl rfl (by decide) [] rfl rfl (Nat.le_of_ble_eq_true rfl) (Nat.le_of_ble_eq_true rfl) (e_J0_isLatin1 hS (m4 := m7) (o1 := o1) (k2 := ?_)) (fun _ _ h => h)
  show Rn G mJ0_append 21 [(0, .ref a1), (1, .int x2), (2, .int (nI m3)), (3, .int (nI m4))] [.int 1] w _
  refine r_if_eq 13 24 37 rfl rfl rfl (fun c => absurd c (by decide)) (fun _ => ?_)
  refine r_iload_n 14 25 1 rfl rfl rfl ?_
  refine r_iload_n 15 26 3 rfl rfl rfl ?_
  refine r_aload_n 16 27 0 rfl rfl rfl ?_
  refine r_get (v := .ref a5) fl_J0_15_J1 17 30 rfl rfl o1 rfl ?_
  exact r_callS lkS_J0_248 18 33 rfl rfl (by decide) [.int x2, .int (nI m4), .ref a5] rfl rfl (Nat.le_of_ble_eq_true rfl) (Nat.le_of_ble_eq_true rfl) e2 (fun r w' h => Af.sub [0, 3] rfl (k2 r w' h))
theorem e_J0_append_33 {G : Gm} {κ : Nat → Nat} {φ : Nat → Option Nat} (hS : GS G κ φ) {w : Wd} {Q : Rs → Wd → Prop} {a1 : Nat} {m2 : Nat} {x3 : Int32} {a4 : Nat} {x5 : Int32} {m6 : Nat} (o1 : w.1 a1 = some (.inl (nJ1, [.ref a4, .int 0, .int x5, .int (nI m6)]))) (k2 : Q (.inl (some (.ref a1))) (wset w a1 (.inl (nJ1, [.ref a4, .int 0, .int x5, .int (nI m2)])))) : Rn G mJ0_append 33 [(0, .ref a1), (3, .int (nI m2))] [.int x3] w Q := by
  refine r_pop 19 34 rfl rfl rfl ?_
  refine r_goto 20 48 rfl rfl ?_
  refine r_aload_n 28 49 0 rfl rfl rfl ?_
  refine r_iload_n 29 50 1 rfl rfl rfl ?_
  refine r_put (i := 3) fl_J0_79_J1 in_J1 q114 (ty0 := tyJ1) tyJ1_ok nmJ1 30 53 rfl rfl o1 rfl rfl rfl (Nat.le_of_ble_eq_true rfl) ?_
  show Rn G mJ0_append 53 [(0, .ref a1), (3, .int (nI m2))] [] (wset w a1 (.inl (nJ1, [.ref a4, .int 0, .int x5, .int (nI m2)]))) _
  refine r_aload_n 31 54 0 rfl rfl rfl ?_
  exact r_aret 32 rfl rfl (Or.inl ⟨_, rfl⟩) (Or.inr ⟨_, rfl⟩) k2
theorem e_J0_append_4 {G : Gm} {κ : Nat → Nat} {φ : Nat → Option Nat} (hS : GS G κ φ) {w : Wd} {Q : Rs → Wd → Prop} {a1 : Nat} {a2 : Nat} {a3 : Nat} {x4 : Int32} {m5 : Nat} {a6 : Nat} {x7 : Int32} {m8 : Nat} (o1 : Lk G w a2 (.inl (nJ1, [.ref a3, .int 0, .int x4, .int (nI m5)]))) (o2 : Lk G w a1 (.inl (nJ1, [.ref a6, .int 0, .int x7, .int (nI m8)]))) {Q3 : Rs → Wd → Prop} (e3 : Ev G mJ0_append_5 [.ref a1, .ref a2] w Q3) (k3 : ∀ r w', Q3 r w' → Af G mJ0_append_4 37 40 [] [] r w' Q) : Ev G mJ0_append_4 [.ref a1, .ref a2] w Q := by
  show Rn G mJ0_append_4 0 [(0, .ref a1), (1, .ref a2)] [] w Q
  refine r_aload_n 0 1 1 rfl rfl rfl ?_
  refine r_ifnonnull 1 9 rfl rfl ?_
  refine r_aload_n 5 10 1 rfl rfl rfl ?_
  refine r_instNo (C := RJ1) (TT := TJ1) (NN := 4) rfl q1534 (hS 57).1 6 13 rfl rfl o1 ?_
  refine r_if_eq 7 16 25 rfl rfl rfl (fun _ => ?_) (fun c => absurd c (by decide))
  refine r_aload_n 13 26 1 rfl rfl rfl ?_
  refine r_instY (C := RJ1) (TT := TJ1) (NN := 4) rfl q1539 q2280 14 29 rfl rfl o1 ?_
  refine r_if_eq 15 32 41 rfl rfl rfl (fun c => absurd c (by decide)) (fun _ => ?_)
  refine r_aload_n 16 33 0 rfl rfl rfl ?_
  refine r_aload_n 17 34 1 rfl rfl rfl ?_
  refine r_castY (C := RJ1) (TT := TJ1) (NN := 4) rfl q1539 q2280 18 37 rfl rfl o1 ?_
  exact r_callV lkV_J0_212_J1 (C := RJ1) (TT := TJ1) (NN := 4) rfl o2 19 40 rfl rfl (by decide) [.ref a2] rfl rfl (Nat.le_of_ble_eq_true rfl) (Nat.le_of_ble_eq_true rfl) e3 (fun r w' h => Af.sub [] rfl (k3 r w' h))
theorem e_J0_append_4_40 {G : Gm} {κ : Nat → Nat} {φ : Nat → Option Nat} (hS : GS G κ φ) {w : Wd} {Q : Rs → Wd → Prop} {a1 : Nat} (k1 : Q (.inl (some (.ref a1))) w) : Rn G mJ0_append_4 40 [] [.ref a1] w Q := by
  exact r_aret 20 rfl rfl (Or.inl ⟨_, rfl⟩) (Or.inr ⟨_, rfl⟩) k1
theorem e_J1_append {G : Gm} {κ : Nat → Nat} {φ : Nat → Option Nat} (hS : GS G κ φ) {w : Wd} {Q : Rs → Wd → Prop} {a1 : Nat} {x2 : Int32} {a3 : Nat} {x4 : Int32} {m5 : Nat} (o1 : Lk G w a1 (.inl (nJ1, [.ref a3, .int 0, .int x4, .int (nI m5)]))) {Q2 : Rs → Wd → Prop} (e2 : Ev G mJ0_append [.ref a1, .int x2] w Q2) (k2 : ∀ r w', Q2 r w' → Af G mJ1_append 2 5 [(0, .ref a1)] [] r w' Q) : Ev G mJ1_append [.ref a1, .int x2] w Q := by
  show Rn G mJ1_append 0 [(0, .ref a1), (1, .int x2)] [] w Q
  refine r_aload_n 0 1 0 rfl rfl rfl ?_
  refine r_iload_n 1 2 1 rfl rfl rfl ?_
  exact r_callP lkP_J1_53 (C := RJ1) (TT := TJ1) (NN := 4) rfl o1 2 5 rfl rfl (by decide) [.int x2] rfl rfl (Nat.le_of_ble_eq_true rfl) (Nat.le_of_ble_eq_true rfl) e2 (fun r w' h => Af.sub [0] rfl (k2 r w' h))
theorem e_J1_append_5 {G : Gm} {κ : Nat → Nat} {φ : Nat → Option Nat} (hS : GS G κ φ) {w : Wd} {Q : Rs → Wd → Prop} {a1 : Nat} {a2 : Nat} (k1 : Q (.inl (some (.ref a1))) w) : Rn G mJ1_append 5 [(0, .ref a1)] [.ref a2] w Q := by
  refine r_pop 3 6 rfl rfl rfl ?_
  refine r_aload_n 4 7 0 rfl rfl rfl ?_
  exact r_aret 5 rfl rfl (Or.inl ⟨_, rfl⟩) (Or.inr ⟨_, rfl⟩) k1
theorem e_J1_append_2 {G : Gm} {κ : Nat → Nat} {φ : Nat → Option Nat} (hS : GS G κ φ) {w : Wd} {Q : Rs → Wd → Prop} {a1 : Nat} {a2 : Nat} {a3 : Nat} {x4 : Int32} {m5 : Nat} (o1 : Lk G w a1 (.inl (nJ1, [.ref a3, .int 0, .int x4, .int (nI m5)]))) {Q2 : Rs → Wd → Prop} (e2 : Ev G mJ0_append_2 [.ref a1, .ref a2] w Q2) (k2 : ∀ r w', Q2 r w' → Af G mJ1_append_2 2 5 [(0, .ref a1)] [] r w' Q) : Ev G mJ1_append_2 [.ref a1, .ref a2] w Q := by
  show Rn G mJ1_append_2 0 [(0, .ref a1), (1, .ref a2)] [] w Q
  refine r_aload_n 0 1 0 rfl rfl rfl ?_
  refine r_aload_n 1 2 1 rfl rfl rfl ?_
  exact r_callP lkP_J1_29 (C := RJ1) (TT := TJ1) (NN := 4) rfl o1 2 5 rfl rfl (by decide) [.ref a2] rfl rfl (Nat.le_of_ble_eq_true rfl) (Nat.le_of_ble_eq_true rfl) e2 (fun r w' h => Af.sub [0] rfl (k2 r w' h))
theorem e_J1_append_2_5 {G : Gm} {κ : Nat → Nat} {φ : Nat → Option Nat} (hS : GS G κ φ) {w : Wd} {Q : Rs → Wd → Prop} {a1 : Nat} {a2 : Nat} (k1 : Q (.inl (some (.ref a1))) w) : Rn G mJ1_append_2 5 [(0, .ref a1)] [.ref a2] w Q := by
  refine r_pop 3 6 rfl rfl rfl ?_
  refine r_aload_n 4 7 0 rfl rfl rfl ?_
  exact r_aret 5 rfl rfl (Or.inl ⟨_, rfl⟩) (Or.inr ⟨_, rfl⟩) k1
theorem e_J1_append_3 {G : Gm} {κ : Nat → Nat} {φ : Nat → Option Nat} (hS : GS G κ φ) {w : Wd} {Q : Rs → Wd → Prop} {a1 : Nat} {m2 : Nat} {a3 : Nat} {x4 : Int32} {m5 : Nat} (o1 : Lk G w a1 (.inl (nJ1, [.ref a3, .int 0, .int x4, .int (nI m5)]))) {Q2 : Rs → Wd → Prop} (e2 : Ev G mJ0_append_3 [.ref a1, .int (nI m2)] w Q2) (k2 : ∀ r w', Q2 r w' → Af G mJ1_append_3 2 5 [(0, .ref a1)] [] r w' Q) : Ev G mJ1_append_3 [.ref a1, .int (nI m2)] w Q := by
  show Rn G mJ1_append_3 0 [(0, .ref a1), (1, .int (nI m2))] [] w Q
  refine r_aload_n 0 1 0 rfl rfl rfl ?_
  refine r_iload_n 1 2 1 rfl rfl rfl ?_
  exact r_callP lkP_J1_50 (C := RJ1) (TT := TJ1) (NN := 4) rfl o1 2 5 rfl rfl (by decide) [.int (nI m2)] rfl rfl (Nat.le_of_ble_eq_true rfl) (Nat.le_of_ble_eq_true rfl) e2 (fun r w' h => Af.sub [0] rfl (k2 r w' h))
theorem e_J1_append_3_5 {G : Gm} {κ : Nat → Nat} {φ : Nat → Option Nat} (hS : GS G κ φ) {w : Wd} {Q : Rs → Wd → Prop} {a1 : Nat} {a2 : Nat} (k1 : Q (.inl (some (.ref a1))) w) : Rn G mJ1_append_3 5 [(0, .ref a1)] [.ref a2] w Q := by
  refine r_pop 3 6 rfl rfl rfl ?_
  refine r_aload_n 4 7 0 rfl rfl rfl ?_
  exact r_aret 5 rfl rfl (Or.inl ⟨_, rfl⟩) (Or.inr ⟨_, rfl⟩) k1
theorem e_J1_append_4 {G : Gm} {κ : Nat → Nat} {φ : Nat → Option Nat} (hS : GS G κ φ) {w : Wd} {Q : Rs → Wd → Prop} {a1 : Nat} {a2 : Nat} {a3 : Nat} {x4 : Int32} {m5 : Nat} (o1 : Lk G w a1 (.inl (nJ1, [.ref a3, .int 0, .int x4, .int (nI m5)]))) {Q2 : Rs → Wd → Prop} (e2 : Ev G mJ0_append_4 [.ref a1, .ref a2] w Q2) (k2 : ∀ r w', Q2 r w' → Af G mJ1_append_4 2 5 [(0, .ref a1)] [] r w' Q) : Ev G mJ1_append_4 [.ref a1, .ref a2] w Q := by
  show Rn G mJ1_append_4 0 [(0, .ref a1), (1, .ref a2)] [] w Q
  refine r_aload_n 0 1 0 rfl rfl rfl ?_
  refine r_aload_n 1 2 1 rfl rfl rfl ?_
  exact r_callP lkP_J1_35 (C := RJ1) (TT := TJ1) (NN := 4) rfl o1 2 5 rfl rfl (by decide) [.ref a2] rfl rfl (Nat.le_of_ble_eq_true rfl) (Nat.le_of_ble_eq_true rfl) e2 (fun r w' h => Af.sub [0] rfl (k2 r w' h))
theorem e_J1_append_4_5 {G : Gm} {κ : Nat → Nat} {φ : Nat → Option Nat} (hS : GS G κ φ) {w : Wd} {Q : Rs → Wd → Prop} {a1 : Nat} {a2 : Nat} (k1 : Q (.inl (some (.ref a1))) w) : Rn G mJ1_append_4 5 [(0, .ref a1)] [.ref a2] w Q := by
  refine r_pop 3 6 rfl rfl rfl ?_
  refine r_aload_n 4 7 0 rfl rfl rfl ?_
  exact r_aret 5 rfl rfl (Or.inl ⟨_, rfl⟩) (Or.inr ⟨_, rfl⟩) k1
theorem e_J1_setLength {G : Gm} {κ : Nat → Nat} {φ : Nat → Option Nat} (hS : GS G κ φ) {w : Wd} {Q : Rs → Wd → Prop} {a1 : Nat} {m2 : Nat} {a3 : Nat} {x4 : Int32} {m5 : Nat} (o1 : Lk G w a1 (.inl (nJ1, [.ref a3, .int 0, .int x4, .int (nI m5)]))) {Q2 : Rs → Wd → Prop} (e2 : Ev G mJ0_setLength [.ref a1, .int (nI m2)] w Q2) (k2 : ∀ r w', Q2 r w' → Af G mJ1_setLength 2 5 [] [] r w' Q) : Ev G mJ1_setLength [.ref a1, .int (nI m2)] w Q := by
  show Rn G mJ1_setLength 0 [(0, .ref a1), (1, .int (nI m2))] [] w Q
  refine r_aload_n 0 1 0 rfl rfl rfl ?_
  refine r_iload_n 1 2 1 rfl rfl rfl ?_
  exact r_callP lkP_J1_333 (C := RJ1) (TT := TJ1) (NN := 4) rfl o1 2 5 rfl rfl (by decide) [.int (nI m2)] rfl rfl (Nat.le_of_ble_eq_true rfl) (Nat.le_of_ble_eq_true rfl) e2 (fun r w' h => Af.sub [] rfl (k2 r w' h))
theorem e_J1_setLength_5 {G : Gm} {κ : Nat → Nat} {φ : Nat → Option Nat} (hS : GS G κ φ) {w : Wd} {Q : Rs → Wd → Prop} (k1 : Q (.inl none) w) : Rn G mJ1_setLength 5 [] [] w Q := by
  exact r_vret 3 rfl rfl k1
theorem e_J6_addAll {G : Gm} {κ : Nat → Nat} {φ : Nat → Option Nat} (hS : GS G κ φ) {w : Wd} {Q : Rs → Wd → Prop} {a1 : Nat} {a2 : Nat} {x3 : Int32} {a4 : Nat} {m5 : Nat} (o1 : Lk G w a2 (.inl (nJ6, [.int x3, .ref a4, .int (nI m5)]))) {Q2 : Rs → Wd → Prop} (e2 : Ev G mJ6_toArray [.ref a2] w Q2) (k2 : ∀ r w', Q2 r w' → Af G mJ6_addAll 1 6 [(0, .ref a1)] [] r w' Q) : Ev G mJ6_addAll [.ref a1, .ref a2] w Q := by
  show Rn G mJ6_addAll 0 [(0, .ref a1), (1, .ref a2)] [] w Q
  refine r_aload_n 0 1 1 rfl rfl rfl ?_
  exact r_callF lkF_J6_42_J6 (C := RJ6) (TT := TJ6) (NN := 3) rfl o1 1 6 rfl rfl (by decide) [] rfl rfl (Nat.le_of_ble_eq_true rfl) (Nat.le_of_ble_eq_true rfl) e2 (fun r w' h => Af.sub [0] rfl (k2 r w' h))
theorem e_J6_addAll_6 {G : Gm} {κ : Nat → Nat} {φ : Nat → Option Nat} (hS : GS G κ φ) {w : Wd} {Q : Rs → Wd → Prop} {a1 : Nat} {a2 : Nat} {x3 : Int32} {a4 : Nat} {m5 : Nat} {n6 : Nat} {g7 : Nat → Option Nat} {n8 : Nat} {g9 : Nat → Option Nat} (o1 : w.1 a1 = some (.inl (nJ6, [.int x3, .ref a4, .int (nI m5)]))) (o2 : Lk G w a2 (arR "java/lang/Object" n6 g7)) (bd3 : n6 < 2 ^ 31) (o4 : w.1 a4 = some (arR "java/lang/Object" n8 g9)) (b5 : ¬ n6 = 0 → m5 ≤ n8) (bd6 : (n8 - m5) < 2 ^ 31) (q7 : ¬ n6 = 0 → n6 ≤ (n8 - m5) → ∀ i, i < n6 → OkO G (wset w a1 (.inl (nJ6, [.int (x3 + (1 : Int32)), .ref a4, .int (nI m5)]))) (va_rf (g7 (0 + i)))) (bd8 : n8 < 2 ^ 31) (k9 : ¬ n6 = 0 → n6 ≤ (n8 - m5) → Q (.inl (some (.int 1))) (wset (wset (wset w a1 (.inl (nJ6, [.int (x3 + (1 : Int32)), .ref a4, .int (nI m5)]))) a4 (arR "java/lang/Object" n8 (va_cpy g7 g9 0 m5 n6))) a1 (.inl (nJ6, [.int (x3 + (1 : Int32)), .ref a4, .int (nI (m5 + n6))])))) {Q10 : Rs → Wd → Prop} (e10 : ¬ n6 = 0 → ¬ n6 ≤ (n8 - m5) → Ev G mJ6_grow_2 [.ref a1, .int (nI (m5 + n6))] (wset w a1 (.inl (nJ6, [.int (x3 + (1 : Int32)), .ref a4, .int (nI m5)]))) Q10) (k10 : ¬ n6 = 0 → ¬ n6 ≤ (n8 - m5) → ∀ r w', Q10 r w' → Af G mJ6_addAll 51 54 [(0, .ref a1), (2, .ref a2), (3, .int (nI n6)), (5, .int (nI m5))] [] r w' Q) (k11 : n6 = 0 → Q (.inl (some (.int 0))) (wset w a1 (.inl (nJ6, [.int (x3 + (1 : Int32)), .ref a4, .int (nI m5)])))) : Rn G mJ6_addAll 6 [(0, .ref a1)] [.ref a2] w Q := by
  refine Rn.wok fun hwk => ?_
  refine r_astore_n (lv' := [(2, .ref a2), (0, .ref a1)]) 2 7 rfl rfl (Nat.le_of_ble_eq_true rfl) rfl ?_
  refine r_aload_n 3 8 1 rfl rfl rfl ?_
  refine r_dup 4 9 rfl rfl rfl ?_
  refine r_get (v := .int x3) fl_J6_63_J6 5 12 rfl rfl (Or.inl o1) rfl ?_
  refine r_iconst 6 13 rfl rfl di_1 ?_
  refine r_iadd 7 14 rfl rfl ?_
  refine r_put (i := 0) fl_J6_63_J6 in_J6 q147 (ty0 := tyJ6) tyJ6_ok nmJ6 8 17 rfl rfl o1 rfl rfl rfl (Nat.le_of_ble_eq_true rfl) ?_
  show Rn G mJ6_addAll 17 [(2, .ref a2), (0, .ref a1)] [] (wset w a1 (.inl (nJ6, [.int (x3 + (1 : Int32)), .ref a4, .int (nI m5)]))) _
  refine r_aload_n 9 18 0 rfl rfl rfl ?_
  refine r_alen 10 19 rfl rfl (Lk.set_n o2 (Lk.ne o2 o1 hwk (by intro h; simp at h))) ?_
  refine r_istore_n (lv' := [(3, .int (nI n6)), (2, .ref a2), (0, .ref a1)]) 11 20 rfl rfl (Nat.le_of_ble_eq_true rfl) rfl ?_
  refine r_iload_n 12 21 0 rfl rfl rfl ?_
  refine y_if_ne (a := n6) bd3 13 24 26 rfl rfl rfl (fun c1 => ?_) (fun c1 => ?_)
  · refine r_iload_n 16 27 0 rfl rfl rfl ?_
    refine r_aload_n 17 28 2 rfl rfl rfl ?_
    refine r_get (v := .ref a4) fl_J6_9_J6 18 31 rfl rfl (Or.inl wset_s) rfl ?_
    refine r_dup 19 32 rfl rfl rfl ?_
    refine r_astore (lv' := [(4, .ref a4), (3, .int (nI n6)), (2, .ref a2), (0, .ref a1)]) 20 34 rfl rfl (Nat.le_of_ble_eq_true rfl) rfl ?_
    refine r_alen 21 35 rfl rfl (Or.inl (wset_n o4 (Lk.ne (Or.inl o4) o1 hwk (by intro h; simp at h)))) ?_
    refine r_aload_n 22 36 3 rfl rfl rfl ?_
    refine r_get (v := .int (nI m5)) fl_J6_48_J6 23 39 rfl rfl (Or.inl wset_s) rfl ?_
    refine r_dup 24 40 rfl rfl rfl ?_
    refine r_istore (lv' := [(5, .int (nI m5)), (4, .ref a4), (3, .int (nI n6)), (2, .ref a2), (0, .ref a1)]) 25 42 rfl rfl (Nat.le_of_ble_eq_true rfl) rfl ?_
    refine r_isub 26 43 rfl rfl ?_
    refine x_eq (y := (nI (n8 - m5))) (pk_sub (a := n8) (b := m5) (b5 c1)) ?_
    refine y_icmp_le (a := n6) (b := (n8 - m5)) (by omega) bd6 27 46 56 rfl rfl rfl (fun c2 => ?_) (fun c2 => ?_)
    · refine r_aload_n 34 57 3 rfl rfl rfl ?_
      refine r_iconst 35 58 rfl rfl di_0 ?_
      refine r_aload 36 60 1 rfl rfl rfl ?_
      refine r_iload 37 62 0 rfl rfl rfl ?_
      refine r_iload_n 38 63 2 rfl rfl rfl ?_
      refine y_copyR (S := 0) (D := m5) (L := n6) 39 66 rfl rfl q1665 (Lk.set_n o2 (Lk.ne o2 o1 hwk (by intro h; simp at h))) (wset_n o4 (Lk.ne (Or.inl o4) o1 hwk (by intro h; simp at h))) (by omega) (by omega) (by omega) bd8 (q7 c1 c2) (by decide) (Nat.le_of_ble_eq_true rfl) ?_
      show Rn G mJ6_addAll 66 [(5, .int (nI m5)), (4, .ref a4), (3, .int (nI n6)), (2, .ref a2), (0, .ref a1)] [] (wset (wset w a1 (.inl (nJ6, [.int (x3 + (1 : Int32)), .ref a4, .int (nI m5)]))) a4 (arR "java/lang/Object" n8 (va_cpy g7 g9 0 m5 n6))) _
      refine r_aload_n 40 67 4 rfl rfl rfl ?_
      refine r_iload 41 69 0 rfl rfl rfl ?_
      refine r_iload_n 42 70 2 rfl rfl rfl ?_
      refine r_iadd 43 71 rfl rfl ?_
      refine x_eq (y := (nI (m5 + n6))) (nI_add _ _) ?_
      refine r_put (i := 2) fl_J6_48_J6 in_J6 q147 (ty0 := tyJ6) tyJ6_ok nmJ6 44 74 rfl rfl (wset_n wset_s (Lk.ne (Or.inl o1) o4 hwk (by intro h; simp at h))) rfl rfl rfl (Nat.le_of_ble_eq_true rfl) ?_
      show Rn G mJ6_addAll 74 [(5, .int (nI m5)), (4, .ref a4), (3, .int (nI n6)), (2, .ref a2), (0, .ref a1)] [] (wset (wset (wset w a1 (.inl (nJ6, [.int (x3 + (1 : Int32)), .ref a4, .int (nI m5)]))) a4 (arR "java/lang/Object" n8 (va_cpy g7 g9 0 m5 n6))) a1 (.inl (nJ6, [.int (x3 + (1 : Int32)), .ref a4, .int (nI (m5 + n6))]))) _
      refine r_iconst 45 75 rfl rfl di_1 ?_
      exact r_iret 46 rfl rfl (by decide) (k9 c1 c2)
    · refine r_aload_n 28 47 4 rfl rfl rfl ?_
      refine r_iload 29 49 0 rfl rfl rfl ?_
      refine r_iload_n 30 50 2 rfl rfl rfl ?_
      refine r_iadd 31 51 rfl rfl ?_
      refine x_eq (y := (nI (m5 + n6))) (nI_add _ _) ?_
      exact r_callV lkV_J6_69_J6 (C := RJ6) (TT := TJ6) (NN := 3) rfl (Or.inl wset_s) 32 54 rfl rfl (by decide) [.int (nI (m5 + n6))] rfl rfl (Nat.le_of_ble_eq_true rfl) (Nat.le_of_ble_eq_true rfl) (e10 c1 c2) (fun r w' h => Af.sub [4, 3, 2, 0] rfl ((k10 c1 c2) r w' h))
  · refine r_iconst 14 25 rfl rfl di_0 ?_
    exact r_iret 15 rfl rfl (by decide) (k11 c1)
theorem e_J6_addAll_54 {G : Gm} {κ : Nat → Nat} {φ : Nat → Option Nat} (hS : GS G κ φ) {w : Wd} {Q : Rs → Wd → Prop} {a1 : Nat} {a2 : Nat} {m3 : Nat} {m4 : Nat} {a5 : Nat} {n6 : Nat} {g7 : Nat → Option Nat} {n8 : Nat} {g9 : Nat → Option Nat} {x10 : Int32} {a11 : Nat} {m12 : Nat} (o1 : Lk G w a2 (arR "java/lang/Object" n6 g7)) (o2 : w.1 a5 = some (arR "java/lang/Object" n8 g9)) (b3 : 0 + m3 ≤ n6) (b4 : m4 + m3 ≤ n8) (q5 : ∀ i, i < m3 → OkO G w (va_rf (g7 (0 + i)))) (bd6 : n6 < 2 ^ 31) (bd7 : n8 < 2 ^ 31) (o8 : w.1 a1 = some (.inl (nJ6, [.int x10, .ref a11, .int (nI m12)]))) (k9 : Q (.inl (some (.int 1))) (wset (wset w a5 (arR "java/lang/Object" n8 (va_cpy g7 g9 0 m4 m3))) a1 (.inl (nJ6, [.int x10, .ref a11, .int (nI (m4 + m3))])))) : Rn G mJ6_addAll 54 [(0, .ref a1), (2, .ref a2), (3, .int (nI m3)), (5, .int (nI m4))] [.ref a5] w Q := by
  refine Rn.wok fun hwk => ?_
  refine r_astore (lv' := [(4, .ref a5), (0, .ref a1), (2, .ref a2), (3, .int (nI m3)), (5, .int (nI m4))]) 33 56 rfl rfl (Nat.le_of_ble_eq_true rfl) rfl ?_
  refine r_aload_n 34 57 2 rfl rfl rfl ?_
  refine r_iconst 35 58 rfl rfl di_0 ?_
  refine r_aload 36 60 0 rfl rfl rfl ?_
  refine r_iload 37 62 4 rfl rfl rfl ?_
  refine r_iload_n 38 63 3 rfl rfl rfl ?_
  refine y_copyR (S := 0) (D := m4) (L := m3) 39 66 rfl rfl q1665 o1 o2 b3 b4 bd6 bd7 q5 (by decide) (Nat.le_of_ble_eq_true rfl) ?_
  show Rn G mJ6_addAll 66 [(4, .ref a5), (0, .ref a1), (2, .ref a2), (3, .int (nI m3)), (5, .int (nI m4))] [] (wset w a5 (arR "java/lang/Object" n8 (va_cpy g7 g9 0 m4 m3))) _
  refine r_aload_n 40 67 1 rfl rfl rfl ?_
  refine r_iload 41 69 4 rfl rfl rfl ?_
  refine r_iload_n 42 70 3 rfl rfl rfl ?_
  refine r_iadd 43 71 rfl rfl ?_
  refine x_eq (y := (nI (m4 + m3))) (nI_add _ _) ?_
  refine r_put (i := 2) fl_J6_48_J6 in_J6 q147 (ty0 := tyJ6) tyJ6_ok nmJ6 44 74 rfl rfl (wset_n o8 (Lk.ne (Or.inl o8) o2 hwk (by intro h; simp at h))) rfl rfl rfl (Nat.le_of_ble_eq_true rfl) ?_
  show Rn G mJ6_addAll 74 [(4, .ref a5), (0, .ref a1), (2, .ref a2), (3, .int (nI m3)), (5, .int (nI m4))] [] (wset (wset w a5 (arR "java/lang/Object" n8 (va_cpy g7 g9 0 m4 m3))) a1 (.inl (nJ6, [.int x10, .ref a11, .int (nI (m4 + m3))]))) _
  refine r_iconst 45 75 rfl rfl di_1 ?_
  exact r_iret 46 rfl rfl (by decide) k9
theorem e_J20_getChars {G : Gm} {κ : Nat → Nat} {φ : Nat → Option Nat} (hS : GS G κ φ) {w : Wd} {Q : Rs → Wd → Prop} {x1 : Int32} {m2 : Nat} {a3 : Nat} (k1 : (0 : Int32) ≤ x1 → Rn G mJ20_getChars 22 [(0, .int (-x1)), (2, .ref a3), (5, .int (nI m2)), (6, .int 0)] [] w Q) (k2 : ¬ (0 : Int32) ≤ x1 → Rn G mJ20_getChars 22 [(0, .int x1), (2, .ref a3), (5, .int (nI m2)), (6, .int 1)] [] w Q) : Ev G mJ20_getChars [.int x1, .int (nI m2), .ref a3] w Q := by
  show Rn G mJ20_getChars 0 [(0, .int x1), (1, .int (nI m2)), (2, .ref a3)] [] w Q
  refine r_iload_n 0 1 1 rfl rfl rfl ?_
  refine r_istore (lv' := [(5, .int (nI m2)), (0, .int x1), (1, .int (nI m2)), (2, .ref a3)]) 1 3 rfl rfl (Nat.le_of_ble_eq_true rfl) rfl ?_
  refine r_iload_n 2 4 1 rfl rfl rfl ?_
  refine r_if_ge 3 7 11 rfl rfl rfl (fun c1 => ?_) (fun c1 => ?_)
  · refine r_iconst 6 12 rfl rfl di_0 ?_
    refine r_istore (lv' := [(6, .int 0), (5, .int (nI m2)), (0, .int x1), (1, .int (nI m2)), (2, .ref a3)]) 7 14 rfl rfl (Nat.le_of_ble_eq_true rfl) rfl ?_
    refine r_iload 8 16 0 rfl rfl rfl ?_
    refine r_if_ne 9 19 22 rfl rfl rfl (fun c => absurd c (by decide)) (fun _ => ?_)
    refine r_iload_n 10 20 2 rfl rfl rfl ?_
    refine r_ineg 11 21 rfl rfl ?_
    refine r_istore_n (lv' := [(0, .int (-x1)), (6, .int 0), (5, .int (nI m2)), (1, .int (nI m2)), (2, .ref a3)]) 12 22 rfl rfl (Nat.le_of_ble_eq_true rfl) rfl ?_
    exact r_sub [0, 4, 2, 1] rfl (k1 c1)
  · refine r_iconst 4 8 rfl rfl di_1 ?_
    refine r_goto 5 12 rfl rfl ?_
    refine r_istore (lv' := [(6, .int 1), (5, .int (nI m2)), (0, .int x1), (1, .int (nI m2)), (2, .ref a3)]) 7 14 rfl rfl (Nat.le_of_ble_eq_true rfl) rfl ?_
    refine r_iload 8 16 0 rfl rfl rfl ?_
    refine r_if_ne 9 19 22 rfl rfl rfl (fun _ => ?_) (fun c => absurd c (by decide))
    exact r_sub [2, 4, 1, 0] rfl (k2 c1)
theorem e_J20_getChars_22 {G : Gm} {κ : Nat → Nat} {φ : Nat → Option Nat} (hS : GS G κ φ) {w : Wd} {Q : Rs → Wd → Prop} {x1 : Int32} {a2 : Nat} {m3 : Nat} {x4 : Int32} {m5 : Nat} {n6 : Nat} {g7 : Nat → Nat} {m8 : Nat} (k1 : (-100 : Int32) < x1 → Rn G mJ20_getChars 72 [(0, .int x1), (2, .ref a2), (5, .int (nI m3)), (6, .int x4)] [] w Q) (b2 : ¬ (-100 : Int32) < x1 → 1 ≤ m3) (q3 : ¬ (-100 : Int32) < x1 → (((x1 / (100 : Int32)) * (100 : Int32)) - x1) = nI m5) (b4 : ¬ (-100 : Int32) < x1 → m5 < 100) (o5 : w.1 a2 = some (arB n6 g7)) (b6 : ¬ (-100 : Int32) < x1 → (m3 - 1) < n6) (bd7 : n6 < 2 ^ 31) (q8 : ¬ (-100 : Int32) < x1 → ((fun j => 48 + j % 10) m5) < 128) (b9 : ¬ (-100 : Int32) < x1 → 1 ≤ (m3 - 1)) (q10 : ¬ (-100 : Int32) < x1 → (((x1 / (100 : Int32)) * (100 : Int32)) - x1) = nI m8) (ne11 : (κ 4) ≠ a2) (b12 : ¬ (-100 : Int32) < x1 → m8 < 100) (b13 : ¬ (-100 : Int32) < x1 → ((m3 - 1) - 1) < n6) (q14 : ¬ (-100 : Int32) < x1 → ((fun j => 48 + j / 10) m8) < 128) (k15 : ¬ (-100 : Int32) < x1 → Rn G mJ20_getChars 22 [(0, .int (x1 / (100 : Int32))), (2, .ref a2), (5, .int (nI ((m3 - 1) - 1))), (6, .int x4)] [] (wset w a2 (arB n6 (upF (upF g7 (m3 - 1) ((fun j => 48 + j % 10) m5)) ((m3 - 1) - 1) ((fun j => 48 + j / 10) m8)))) Q) : Rn G mJ20_getChars 22 [(0, .int x1), (2, .ref a2), (5, .int (nI m3)), (6, .int x4)] [] w Q := by
  refine r_iload_n 13 23 0 rfl rfl rfl ?_
  refine r_bipush 14 25 rfl rfl db_m100 ?_
  refine r_icmp_gt 15 28 72 rfl rfl rfl (fun c1 => ?_) (fun c1 => ?_)
  · exact (k1 c1)
  · refine r_iload_n 16 29 0 rfl rfl rfl ?_
    refine r_bipush 17 31 rfl rfl db_100 ?_
    refine r_idiv 18 32 rfl rfl (by decide) ?_
    refine r_istore_n (lv' := [(3, .int (x1 / (100 : Int32))), (0, .int x1), (2, .ref a2), (5, .int (nI m3)), (6, .int x4)]) 19 33 rfl rfl (Nat.le_of_ble_eq_true rfl) rfl ?_
    refine r_iload_n 20 34 0 rfl rfl rfl ?_
    refine r_bipush 21 36 rfl rfl db_100 ?_
    refine r_imul 22 37 rfl rfl ?_
    refine r_iload_n 23 38 1 rfl rfl rfl ?_
    refine r_isub 24 39 rfl rfl ?_
    refine r_istore (lv' := [(4, .int (((x1 / (100 : Int32)) * (100 : Int32)) - x1)), (3, .int (x1 / (100 : Int32))), (0, .int x1), (2, .ref a2), (5, .int (nI m3)), (6, .int x4)]) 25 41 rfl rfl (Nat.le_of_ble_eq_true rfl) rfl ?_
    refine r_iload_n 26 42 1 rfl rfl rfl ?_
    refine r_istore_n (lv' := [(0, .int (x1 / (100 : Int32))), (4, .int (((x1 / (100 : Int32)) * (100 : Int32)) - x1)), (3, .int (x1 / (100 : Int32))), (2, .ref a2), (5, .int (nI m3)), (6, .int x4)]) 27 43 rfl rfl (Nat.le_of_ble_eq_true rfl) rfl ?_
    refine r_aload_n 28 44 3 rfl rfl rfl ?_
    refine r_iinc (v := (nI (m3 - 1))) (lv' := [(5, .int (nI (m3 - 1))), (0, .int (x1 / (100 : Int32))), (4, .int (((x1 / (100 : Int32)) * (100 : Int32)) - x1)), (3, .int (x1 / (100 : Int32))), (2, .ref a2), (6, .int x4)]) 29 47 4 rfl rfl rfl (by rw [di_m1]; exact n_dec (b2 c1)) (Nat.le_of_ble_eq_true rfl) rfl ?_
    refine r_iload 30 49 0 rfl rfl rfl ?_
    refine r_gets (v := .ref (κ 3)) (hS 3).1 q466 31 52 rfl rfl ?_
    refine r_iload 32 54 2 rfl rfl rfl ?_
    refine x_eq (q3 c1) ?_
    refine y_bald (i := m5) 33 55 rfl rfl ((hS 3).2 w) (b4 c1) (by decide) ?_
    refine y_bast (i := (m3 - 1)) (e := ((fun j => 48 + j % 10) m5)) 34 56 rfl rfl o5 (b6 c1) bd7 (q8 c1) ?_
    show Rn G mJ20_getChars 56 [(5, .int (nI (m3 - 1))), (0, .int (x1 / (100 : Int32))), (4, .int (((x1 / (100 : Int32)) * (100 : Int32)) - x1)), (3, .int (x1 / (100 : Int32))), (2, .ref a2), (6, .int x4)] [] (wset w a2 (arB n6 (upF g7 (m3 - 1) ((fun j => 48 + j % 10) m5)))) _
    refine r_aload_n 35 57 4 rfl rfl rfl ?_
    refine r_iinc (v := (nI ((m3 - 1) - 1))) (lv' := [(5, .int (nI ((m3 - 1) - 1))), (0, .int (x1 / (100 : Int32))), (4, .int (((x1 / (100 : Int32)) * (100 : Int32)) - x1)), (3, .int (x1 / (100 : Int32))), (2, .ref a2), (6, .int x4)]) 36 60 0 rfl rfl rfl (by rw [di_m1]; exact n_dec (b9 c1)) (Nat.le_of_ble_eq_true rfl) rfl ?_
    refine r_iload 37 62 0 rfl rfl rfl ?_
    refine r_gets (v := .ref (κ 4)) (hS 4).1 q468 38 65 rfl rfl ?_
    refine r_iload 39 67 2 rfl rfl rfl ?_
    refine x_eq (q10 c1) ?_
    refine y_bald (i := m8) 40 68 rfl rfl (Lk.set_n ((hS 4).2 w) ne11) (b12 c1) (by decide) ?_
    refine y_bast (i := ((m3 - 1) - 1)) (e := ((fun j => 48 + j / 10) m8)) 41 69 rfl rfl wset_s (b13 c1) (by omega) (q14 c1) ?_
    rw [wset_wset]
    show Rn G mJ20_getChars 69 [(5, .int (nI ((m3 - 1) - 1))), (0, .int (x1 / (100 : Int32))), (4, .int (((x1 / (100 : Int32)) * (100 : Int32)) - x1)), (3, .int (x1 / (100 : Int32))), (2, .ref a2), (6, .int x4)] [] (wset w a2 (arB n6 (upF (upF g7 (m3 - 1) ((fun j => 48 + j % 10) m5)) ((m3 - 1) - 1) ((fun j => 48 + j / 10) m8)))) _
    refine r_goto 42 22 rfl rfl ?_
    exact r_sub [1, 4, 0, 5] rfl (k15 c1)
theorem e_J20_getChars_72 {G : Gm} {κ : Nat → Nat} {φ : Nat → Option Nat} (hS : GS G κ φ) {w : Wd} {Q : Rs → Wd → Prop} {x1 : Int32} {a2 : Nat} {m3 : Nat} {x4 : Int32} {m5 : Nat} {n6 : Nat} {g7 : Nat → Nat} (b1 : 1 ≤ m3) (q2 : (-x1) = nI m5) (b3 : m5 < 100) (o4 : w.1 a2 = some (arB n6 g7)) (b5 : (m3 - 1) < n6) (bd6 : n6 < 2 ^ 31) (q7 : ((fun j => 48 + j % 10) m5) < 128) (k8 : Rn G mJ20_getChars 85 [(0, .int x1), (2, .ref a2), (5, .int (nI (m3 - 1))), (6, .int x4)] [] (wset w a2 (arB n6 (upF g7 (m3 - 1) ((fun j => 48 + j % 10) m5)))) Q) : Rn G mJ20_getChars 72 [(0, .int x1), (2, .ref a2), (5, .int (nI m3)), (6, .int x4)] [] w Q := by
  refine r_aload_n 43 73 1 rfl rfl rfl ?_
  refine r_iinc (v := (nI (m3 - 1))) (lv' := [(5, .int (nI (m3 - 1))), (0, .int x1), (2, .ref a2), (6, .int x4)]) 44 76 2 rfl rfl rfl (by rw [di_m1]; exact n_dec b1) (Nat.le_of_ble_eq_true rfl) rfl ?_
  refine r_iload 45 78 0 rfl rfl rfl ?_
  refine r_gets (v := .ref (κ 3)) (hS 3).1 q466 46 81 rfl rfl ?_
  refine r_iload_n 47 82 1 rfl rfl rfl ?_
  refine r_ineg 48 83 rfl rfl ?_
  refine x_eq q2 ?_
  refine y_bald (i := m5) 49 84 rfl rfl ((hS 3).2 w) b3 (by decide) ?_
  refine y_bast (i := (m3 - 1)) (e := ((fun j => 48 + j % 10) m5)) 50 85 rfl rfl o4 b5 bd6 q7 ?_
  show Rn G mJ20_getChars 85 [(5, .int (nI (m3 - 1))), (0, .int x1), (2, .ref a2), (6, .int x4)] [] (wset w a2 (arB n6 (upF g7 (m3 - 1) ((fun j => 48 + j % 10) m5)))) _
  exact r_sub [1, 2, 0, 3] rfl k8
theorem e_J20_getChars_85 {G : Gm} {κ : Nat → Nat} {φ : Nat → Option Nat} (hS : GS G κ φ) {w : Wd} {Q : Rs → Wd → Prop} {x1 : Int32} {a2 : Nat} {m3 : Nat} {x4 : Int32} {m5 : Nat} {n6 : Nat} {g7 : Nat → Nat} (k1 : (-9 : Int32) ≤ x1 → Rn G mJ20_getChars 104 [(2, .ref a2), (5, .int (nI m3)), (6, .int x4)] [] w Q) (b2 : ¬ (-9 : Int32) ≤ x1 → 1 ≤ m3) (q3 : ¬ (-9 : Int32) ≤ x1 → (-x1) = nI m5) (b4 : ¬ (-9 : Int32) ≤ x1 → m5 < 100) (o5 : w.1 a2 = some (arB n6 g7)) (b6 : ¬ (-9 : Int32) ≤ x1 → (m3 - 1) < n6) (bd7 : n6 < 2 ^ 31) (q8 : ¬ (-9 : Int32) ≤ x1 → ((fun j => 48 + j / 10) m5) < 128) (k9 : ¬ (-9 : Int32) ≤ x1 → Rn G mJ20_getChars 104 [(2, .ref a2), (5, .int (nI (m3 - 1))), (6, .int x4)] [] (wset w a2 (arB n6 (upF g7 (m3 - 1) ((fun j => 48 + j / 10) m5)))) Q) : Rn G mJ20_getChars 85 [(0, .int x1), (2, .ref a2), (5, .int (nI m3)), (6, .int x4)] [] w Q := by
  refine r_iload_n 51 86 0 rfl rfl rfl ?_
  refine r_bipush 52 88 rfl rfl db_m9 ?_
  refine r_icmp_ge 53 91 104 rfl rfl rfl (fun c1 => ?_) (fun c1 => ?_)
  · exact r_sub [1, 2, 3] rfl (k1 c1)
  · refine r_aload_n 54 92 1 rfl rfl rfl ?_
    refine r_iinc (v := (nI (m3 - 1))) (lv' := [(5, .int (nI (m3 - 1))), (0, .int x1), (2, .ref a2), (6, .int x4)]) 55 95 2 rfl rfl rfl (by rw [di_m1]; exact n_dec (b2 c1)) (Nat.le_of_ble_eq_true rfl) rfl ?_
    refine r_iload 56 97 0 rfl rfl rfl ?_
    refine r_gets (v := .ref (κ 4)) (hS 4).1 q468 57 100 rfl rfl ?_
    refine r_iload_n 58 101 1 rfl rfl rfl ?_
    refine r_ineg 59 102 rfl rfl ?_
    refine x_eq (q3 c1) ?_
    refine y_bald (i := m5) 60 103 rfl rfl ((hS 4).2 w) (b4 c1) (by decide) ?_
    refine y_bast (i := (m3 - 1)) (e := ((fun j => 48 + j / 10) m5)) 61 104 rfl rfl o5 (b6 c1) bd7 (q8 c1) ?_
    show Rn G mJ20_getChars 104 [(5, .int (nI (m3 - 1))), (0, .int x1), (2, .ref a2), (6, .int x4)] [] (wset w a2 (arB n6 (upF g7 (m3 - 1) ((fun j => 48 + j / 10) m5)))) _
    exact r_sub [2, 0, 3] rfl (k9 c1)
theorem e_J20_getChars_104 {G : Gm} {κ : Nat → Nat} {φ : Nat → Option Nat} (hS : GS G κ φ) {w : Wd} {Q : Rs → Wd → Prop} {a1 : Nat} {m2 : Nat} {x3 : Int32} {n4 : Nat} {g5 : Nat → Nat} (k1 : x3 = 0 → Q (.inl (some (.int (nI m2)))) w) (b2 : ¬ x3 = 0 → 1 ≤ m2) (o3 : w.1 a1 = some (arB n4 g5)) (b4 : ¬ x3 = 0 → (m2 - 1) < n4) (bd5 : n4 < 2 ^ 31) (k6 : ¬ x3 = 0 → Q (.inl (some (.int (nI (m2 - 1))))) (wset w a1 (arB n4 (upF g5 (m2 - 1) 45)))) : Rn G mJ20_getChars 104 [(2, .ref a1), (5, .int (nI m2)), (6, .int x3)] [] w Q := by
  refine r_iload 62 106 2 rfl rfl rfl ?_
  refine r_if_eq 63 109 118 rfl rfl rfl (fun c1 => ?_) (fun c1 => ?_)
  · refine r_iload 69 120 1 rfl rfl rfl ?_
    exact r_iret 70 rfl rfl rfl (k1 c1)
  · refine r_aload_n 64 110 0 rfl rfl rfl ?_
    refine r_iinc (v := (nI (m2 - 1))) (lv' := [(5, .int (nI (m2 - 1))), (2, .ref a1), (6, .int x3)]) 65 113 1 rfl rfl rfl (by rw [di_m1]; exact n_dec (b2 c1)) (Nat.le_of_ble_eq_true rfl) rfl ?_
    refine r_iload 66 115 0 rfl rfl rfl ?_
    refine r_bipush 67 117 rfl rfl db_45 ?_
    refine y_bast (i := (m2 - 1)) (e := 45) 68 118 rfl rfl o3 (b4 c1) bd5 (by decide) ?_
    show Rn G mJ20_getChars 118 [(5, .int (nI (m2 - 1))), (2, .ref a1), (6, .int x3)] [] (wset w a1 (arB n4 (upF g5 (m2 - 1) 45))) _
    refine r_iload 69 120 0 rfl rfl rfl ?_
    exact r_iret 70 rfl rfl rfl (k6 c1)
theorem e_J8_fixAfterInsertion {G : Gm} {κ : Nat → Nat} {φ : Nat → Option Nat} (hS : GS G κ φ) {w : Wd} {Q : Rs → Wd → Prop} {a1 : Nat} {a2 : Nat} {a3 : Nat} {a4 : Nat} {p5 : Option Nat} {p6 : Option Nat} {p7 : Option Nat} {x8 : Int32} (o1 : w.1 a2 = some (.inl (nJ29, [.ref a3, .ref a4, va_rf p5, va_rf p6, va_rf p7, .int x8]))) (k2 : Rn G mJ8_fixAfterInsertion 5 [(0, .ref a1), (1, .ref a2)] [] (wset w a2 (.inl (nJ29, [.ref a3, .ref a4, va_rf p5, va_rf p6, va_rf p7, .int 0]))) Q) : Ev G mJ8_fixAfterInsertion [.ref a1, .ref a2] w Q := by
  show Rn G mJ8_fixAfterInsertion 0 [(0, .ref a1), (1, .ref a2)] [] w Q
  refine r_aload_n 0 1 1 rfl rfl rfl ?_
  refine r_iconst 1 2 rfl rfl di_0 ?_
  refine r_put (i := 5) fl_J8_290_J29 in_J29 q1328 (ty0 := tyJ29) tyJ29_ok nmJ29 2 5 rfl rfl o1 rfl rfl rfl (Nat.le_of_ble_eq_true rfl) ?_
  show Rn G mJ8_fixAfterInsertion 5 [(0, .ref a1), (1, .ref a2)] [] (wset w a2 (.inl (nJ29, [.ref a3, .ref a4, va_rf p5, va_rf p6, va_rf p7, .int 0]))) _
  exact k2
theorem e_J8_fixAfterInsertion_5 {G : Gm} {κ : Nat → Nat} {φ : Nat → Option Nat} (hS : GS G κ φ) {w : Wd} {Q : Rs → Wd → Prop} {a1 : Nat} {a2 : Nat} {p3 : Option Nat} {p4 : Option Nat} {p5 : Option Nat} {m6 : Nat} {x7 : Int32} {p8 : Option Nat} {p9 : Option Nat} {p10 : Option Nat} {a12 : Nat} {a13 : Nat} {p14 : Option Nat} {p15 : Option Nat} {p16 : Option Nat} {x17 : Int32} {a19 : Nat} {a20 : Nat} {p21 : Option Nat} {p22 : Option Nat} {p23 : Option Nat} {x24 : Int32} {a26 : Nat} {a27 : Nat} {p28 : Option Nat} {p29 : Option Nat} {p30 : Option Nat} {x31 : Int32} (o1 : Lk G w a1 (.inl (nJ8, [va_rf p3, va_rf p4, .null, va_rf p5, .int (nI m6), .int x7, va_rf p8, va_rf p9, va_rf p10]))) (f2 : ¬ p5 = none) (k3 : ∀ pa11 : Nat, p5 = some pa11 → a2 = pa11 → Rn G mJ8_fixAfterInsertion 258 [(0, .ref a1)] [] w Q) (o4 : Lk G w a2 (.inl (nJ29, [.ref a12, .ref a13, va_rf p14, va_rf p15, va_rf p16, .int x17]))) (f5 : ∀ pa11 : Nat, p5 = some pa11 → ¬ a2 = pa11 → ¬ p16 = none) (o6 : ∀ pa11 : Nat, p5 = some pa11 → ¬ a2 = pa11 → ∀ pa18 : Nat, p16 = some pa18 → Lk G w pa18 (.inl (nJ29, [.ref a19, .ref a20, va_rf p21, va_rf p22, va_rf p23, .int x24]))) (k7 : ∀ pa11 : Nat, p5 = some pa11 → ¬ a2 = pa11 → ∀ pa18 : Nat, p16 = some pa18 → ¬ x24 = 0 → Rn G mJ8_fixAfterInsertion 258 [(0, .ref a1)] [] w Q) (k8 : ∀ pa11 : Nat, p5 = some pa11 → ¬ a2 = pa11 → ∀ pa18 : Nat, p16 = some pa18 → x24 = 0 → p23 = none → Rn G mJ8_fixAfterInsertion 151 [(0, .ref a1), (1, .ref a2)] [] w Q) (o9 : ∀ pa11 : Nat, p5 = some pa11 → ¬ a2 = pa11 → ∀ pa18 : Nat, p16 = some pa18 → x24 = 0 → ∀ pa25 : Nat, p23 = some pa25 → Lk G w pa25 (.inl (nJ29, [.ref a26, .ref a27, va_rf p28, va_rf p29, va_rf p30, .int x31]))) (k10 : ∀ pa11 : Nat, p5 = some pa11 → ¬ a2 = pa11 → ∀ pa18 : Nat, p16 = some pa18 → x24 = 0 → ∀ pa25 : Nat, p23 = some pa25 → p28 = none → Rn G mJ8_fixAfterInsertion 151 [(0, .ref a1), (1, .ref a2)] [] w Q) (k11 : ∀ pa11 : Nat, p5 = some pa11 → ¬ a2 = pa11 → ∀ pa18 : Nat, p16 = some pa18 → x24 = 0 → ∀ pa25 : Nat, p23 = some pa25 → ∀ pa32 : Nat, p28 = some pa32 → ¬ pa18 = pa32 → Rn G mJ8_fixAfterInsertion 151 [(0, .ref a1), (1, .ref a2)] [] w Q) (k12 : ∀ pa11 : Nat, p5 = some pa11 → ¬ a2 = pa11 → ∀ pa18 : Nat, p16 = some pa18 → x24 = 0 → ∀ pa25 : Nat, p23 = some pa25 → ∀ pa32 : Nat, p28 = some pa32 → pa18 = pa32 → Rn G mJ8_fixAfterInsertion 44 [(0, .ref a1), (1, .ref a2)] [] w Q) : Rn G mJ8_fixAfterInsertion 5 [(0, .ref a1), (1, .ref a2)] [] w Q := by
  refine r_aload_n 3 6 1 rfl rfl rfl ?_
  refine r_ifnull 4 9 rfl rfl ?_
  refine r_aload_n 5 10 1 rfl rfl rfl ?_
  refine r_aload_n 6 11 0 rfl rfl rfl ?_
  refine r_get (v := va_rf p5) fl_J8_101_J8 7 14 rfl rfl o1 rfl ?_
  cases p5 with
  | none =>
    exact absurd rfl f2
  | some pa11 =>
    refine r_acmp_eq (rx := (some a2)) (ry := (some pa11)) 8 17 258 rfl rfl rfl rfl rfl (fun c2 => ?_) (fun c2 => ?_)
    · exact r_sub [0] rfl (k3 pa11 rfl (Option.some.inj c2))
    · refine r_aload_n 9 18 1 rfl rfl rfl ?_
      refine r_get (v := va_rf p16) fl_J8_124_J29 10 21 rfl rfl o4 rfl ?_
      cases p16 with
      | none =>
        exact absurd rfl (f5 pa11 rfl (fun h => c2 (congrArg some h)))
      | some pa18 =>
        refine r_get (v := .int x24) fl_J8_290_J29 11 24 rfl rfl (o6 pa11 rfl (fun h => c2 (congrArg some h)) pa18 rfl) rfl ?_
        refine r_if_ne 12 27 258 rfl rfl rfl (fun c4 => ?_) (fun c4 => ?_)
        · exact r_sub [0] rfl (k7 pa11 rfl (fun h => c2 (congrArg some h)) pa18 rfl c4)
        · refine r_aload_n 13 28 1 rfl rfl rfl ?_
          refine r_callS lkS_J8_294 14 31 rfl rfl (by decide) [.ref a2] rfl rfl (Nat.le_of_ble_eq_true rfl) (Nat.le_of_ble_eq_true rfl) ?_ (fun _ _ h => h)
          show Rn G mJ8_parentOf 0 [(0, .ref a2)] [] w _
          refine r_aload_n 0 1 0 rfl rfl rfl ?_
          refine r_ifnonnull 1 8 rfl rfl ?_
          refine r_aload_n 4 9 0 rfl rfl rfl ?_
          refine r_get (v := .ref pa18) fl_J8_124_J29 5 12 rfl rfl o4 rfl ?_
          refine r_aret 6 rfl rfl (Or.inl ⟨_, rfl⟩) (Or.inr ⟨_, rfl⟩) ?_
          show Rn G mJ8_fixAfterInsertion 31 [(0, .ref a1), (1, .ref a2)] [.ref pa18] w _
          refine r_aload_n 15 32 1 rfl rfl rfl ?_
          refine r_callS lkS_J8_294 16 35 rfl rfl (by decide) [.ref a2] rfl rfl (Nat.le_of_ble_eq_true rfl) (Nat.le_of_ble_eq_true rfl) ?_ (fun _ _ h => h)
          show Rn G mJ8_parentOf 0 [(0, .ref a2)] [] w _
          refine r_aload_n 0 1 0 rfl rfl rfl ?_
          refine r_ifnonnull 1 8 rfl rfl ?_
          refine r_aload_n 4 9 0 rfl rfl rfl ?_
          refine r_get (v := .ref pa18) fl_J8_124_J29 5 12 rfl rfl o4 rfl ?_
          refine r_aret 6 rfl rfl (Or.inl ⟨_, rfl⟩) (Or.inr ⟨_, rfl⟩) ?_
          show Rn G mJ8_fixAfterInsertion 35 [(0, .ref a1), (1, .ref a2)] [.ref pa18, .ref pa18] w _
          refine r_callS lkS_J8_294 17 38 rfl rfl (by decide) [.ref pa18] rfl rfl (Nat.le_of_ble_eq_true rfl) (Nat.le_of_ble_eq_true rfl) ?_ (fun _ _ h => h)
          show Rn G mJ8_parentOf 0 [(0, .ref pa18)] [] w _
          refine r_aload_n 0 1 0 rfl rfl rfl ?_
          refine r_ifnonnull 1 8 rfl rfl ?_
          refine r_aload_n 4 9 0 rfl rfl rfl ?_
          refine r_get (v := va_rf p23) fl_J8_124_J29 5 12 rfl rfl (o6 pa11 rfl (fun h => c2 (congrArg some h)) pa18 rfl) rfl ?_
          refine r_aret 6 rfl rfl (Or.inl ⟨_, rfl⟩) (rf_or _) ?_
          show Rn G mJ8_fixAfterInsertion 38 [(0, .ref a1), (1, .ref a2)] [va_rf p23, .ref pa18] w _
          cases p23 with
          | none =>
            refine r_callS lkS_J8_297 18 41 rfl rfl (by decide) [.null] rfl rfl (Nat.le_of_ble_eq_true rfl) (Nat.le_of_ble_eq_true rfl) ?_ (fun _ _ h => h)
            show Rn G mJ8_leftOf 0 [(0, .null)] [] w _
            refine r_aloadN_n 0 1 0 rfl rfl rfl ?_
            refine r_ifnonnullN 1 4 rfl rfl ?_
            refine r_null 2 5 rfl rfl ?_
            refine r_goto 3 12 rfl rfl ?_
            refine r_aret 6 rfl rfl (Or.inl ⟨_, rfl⟩) (Or.inl rfl) ?_
            show Rn G mJ8_fixAfterInsertion 41 [(0, .ref a1), (1, .ref a2)] [.null, .ref pa18] w _
            refine r_acmp_ne (rx := (some pa18)) (ry := none) 19 44 151 rfl rfl rfl rfl rfl (fun _ => ?_) (fun h => by cases h)
            exact (k8 pa11 rfl (fun h => c2 (congrArg some h)) pa18 rfl c4 rfl)
          | some pa25 =>
            refine r_callS lkS_J8_297 18 41 rfl rfl (by decide) [.ref pa25] rfl rfl (Nat.le_of_ble_eq_true rfl) (Nat.le_of_ble_eq_true rfl) ?_ (fun _ _ h => h)
            show Rn G mJ8_leftOf 0 [(0, .ref pa25)] [] w _
            refine r_aload_n 0 1 0 rfl rfl rfl ?_
            refine r_ifnonnull 1 8 rfl rfl ?_
            refine r_aload_n 4 9 0 rfl rfl rfl ?_
            refine r_get (v := va_rf p28) fl_J8_111_J29 5 12 rfl rfl (o9 pa11 rfl (fun h => c2 (congrArg some h)) pa18 rfl c4 pa25 rfl) rfl ?_
            refine r_aret 6 rfl rfl (Or.inl ⟨_, rfl⟩) (rf_or _) ?_
            show Rn G mJ8_fixAfterInsertion 41 [(0, .ref a1), (1, .ref a2)] [va_rf p28, .ref pa18] w _
            cases p28 with
            | none =>
              refine r_acmp_ne (rx := (some pa18)) (ry := none) 19 44 151 rfl rfl rfl rfl rfl (fun _ => ?_) (fun h => by cases h)
              exact (k10 pa11 rfl (fun h => c2 (congrArg some h)) pa18 rfl c4 pa25 rfl rfl)
            | some pa32 =>
              refine r_acmp_ne (rx := (some pa18)) (ry := (some pa32)) 19 44 151 rfl rfl rfl rfl rfl (fun c7 => ?_) (fun c7 => ?_)
              · exact (k11 pa11 rfl (fun h => c2 (congrArg some h)) pa18 rfl c4 pa25 rfl pa32 rfl (fun h => c7 (congrArg some h)))
              · exact (k12 pa11 rfl (fun h => c2 (congrArg some h)) pa18 rfl c4 pa25 rfl pa32 rfl (Option.some.inj c7))
theorem e_J8_fixAfterInsertion_258 {G : Gm} {κ : Nat → Nat} {φ : Nat → Option Nat} (hS : GS G κ φ) {w : Wd} {Q : Rs → Wd → Prop} {a1 : Nat} {p2 : Option Nat} {p3 : Option Nat} {p4 : Option Nat} {m5 : Nat} {x6 : Int32} {p7 : Option Nat} {p8 : Option Nat} {p9 : Option Nat} {a11 : Nat} {a12 : Nat} {p13 : Option Nat} {p14 : Option Nat} {p15 : Option Nat} {x16 : Int32} (o1 : Lk G w a1 (.inl (nJ8, [va_rf p2, va_rf p3, .null, va_rf p4, .int (nI m5), .int x6, va_rf p7, va_rf p8, va_rf p9]))) (f2 : ¬ p4 = none) (o3 : ∀ pa10 : Nat, p4 = some pa10 → w.1 pa10 = some (.inl (nJ29, [.ref a11, .ref a12, va_rf p13, va_rf p14, va_rf p15, .int x16]))) (k4 : ∀ pa10 : Nat, p4 = some pa10 → Q (.inl none) (wset w pa10 (.inl (nJ29, [.ref a11, .ref a12, va_rf p13, va_rf p14, va_rf p15, .int 1])))) : Rn G mJ8_fixAfterInsertion 258 [(0, .ref a1)] [] w Q := by
  refine r_aload_n 122 259 0 rfl rfl rfl ?_
  refine r_get (v := va_rf p4) fl_J8_101_J8 123 262 rfl rfl o1 rfl ?_
  refine r_iconst 124 263 rfl rfl di_1 ?_
  cases p4 with
  | none =>
    exact absurd rfl f2
  | some pa10 =>
    refine r_put (i := 5) fl_J8_290_J29 in_J29 q1328 (ty0 := tyJ29) tyJ29_ok nmJ29 125 266 rfl rfl (o3 pa10 rfl) rfl rfl rfl (Nat.le_of_ble_eq_true rfl) ?_
    show Rn G mJ8_fixAfterInsertion 266 [(0, .ref a1)] [] (wset w pa10 (.inl (nJ29, [.ref a11, .ref a12, va_rf p13, va_rf p14, va_rf p15, .int 1]))) _
    exact r_vret 126 rfl rfl (k4 pa10 rfl)
theorem e_J8_fixAfterInsertion_151 {G : Gm} {κ : Nat → Nat} {φ : Nat → Option Nat} (hS : GS G κ φ) {w : Wd} {Q : Rs → Wd → Prop} {a1 : Nat} {a2 : Nat} {a3 : Nat} {a4 : Nat} {p5 : Option Nat} {p6 : Option Nat} {p7 : Option Nat} {x8 : Int32} {a10 : Nat} {a11 : Nat} {p12 : Option Nat} {p13 : Option Nat} {p14 : Option Nat} {x15 : Int32} {a17 : Nat} {a18 : Nat} {p19 : Option Nat} {p20 : Option Nat} {p21 : Option Nat} {x22 : Int32} {a24 : Nat} {a25 : Nat} {p26 : Option Nat} {p27 : Option Nat} {p28 : Option Nat} {x29 : Int32} (o1 : Lk G w a2 (.inl (nJ29, [.ref a3, .ref a4, va_rf p5, va_rf p6, va_rf p7, .int x8]))) (k2 : p7 = none → Rn G mJ8_fixAfterInsertion 204 [(0, .ref a1), (1, .ref a2)] [] w Q) (o3 : ∀ pa9 : Nat, p7 = some pa9 → w.1 pa9 = some (.inl (nJ29, [.ref a10, .ref a11, va_rf p12, va_rf p13, va_rf p14, .int x15]))) (k4 : ∀ pa9 : Nat, p7 = some pa9 → p14 = none → Rn G mJ8_fixAfterInsertion 204 [(0, .ref a1), (1, .ref a2)] [] w Q) (o5 : ∀ pa9 : Nat, p7 = some pa9 → ∀ pa16 : Nat, p14 = some pa16 → w.1 pa16 = some (.inl (nJ29, [.ref a17, .ref a18, va_rf p19, va_rf p20, va_rf p21, .int x22]))) (k6 : ∀ pa9 : Nat, p7 = some pa9 → ∀ pa16 : Nat, p14 = some pa16 → p19 = none → Rn G mJ8_fixAfterInsertion 204 [(0, .ref a1), (1, .ref a2)] [] w Q) (o7 : ∀ pa9 : Nat, p7 = some pa9 → ∀ pa16 : Nat, p14 = some pa16 → ∀ pa23 : Nat, p19 = some pa23 → w.1 pa23 = some (.inl (nJ29, [.ref a24, .ref a25, va_rf p26, va_rf p27, va_rf p28, .int x29]))) (q8 : ∀ pa9 : Nat, p7 = some pa9 → ∀ pa16 : Nat, p14 = some pa16 → ∀ pa23 : Nat, p19 = some pa23 → narrow .boolean (.int x29) = .int x29) (k9 : ∀ pa9 : Nat, p7 = some pa9 → ∀ pa16 : Nat, p14 = some pa16 → ∀ pa23 : Nat, p19 = some pa23 → ¬ x29 = 0 → Rn G mJ8_fixAfterInsertion 204 [(0, .ref a1), (1, .ref a2)] [] w Q) (ne10 : ∀ pa9 : Nat, p7 = some pa9 → ∀ pa16 : Nat, p14 = some pa16 → ∀ pa23 : Nat, p19 = some pa23 → x29 = 0 → pa23 ≠ pa9) (ne11 : ∀ pa9 : Nat, p7 = some pa9 → ∀ pa16 : Nat, p14 = some pa16 → ∀ pa23 : Nat, p19 = some pa23 → x29 = 0 → a2 ≠ pa9) (ne12 : ∀ pa9 : Nat, p7 = some pa9 → ∀ pa16 : Nat, p14 = some pa16 → ∀ pa23 : Nat, p19 = some pa23 → x29 = 0 → a2 ≠ pa23) (ne13 : ∀ pa9 : Nat, p7 = some pa9 → ∀ pa16 : Nat, p14 = some pa16 → ∀ pa23 : Nat, p19 = some pa23 → x29 = 0 → pa9 ≠ pa23) (ne14 : ∀ pa9 : Nat, p7 = some pa9 → ∀ pa16 : Nat, p14 = some pa16 → ∀ pa23 : Nat, p19 = some pa23 → x29 = 0 → pa16 ≠ pa9) (ne15 : ∀ pa9 : Nat, p7 = some pa9 → ∀ pa16 : Nat, p14 = some pa16 → ∀ pa23 : Nat, p19 = some pa23 → x29 = 0 → pa16 ≠ pa23) (ne16 : ∀ pa9 : Nat, p7 = some pa9 → ∀ pa16 : Nat, p14 = some pa16 → ∀ pa23 : Nat, p19 = some pa23 → x29 = 0 → a2 ≠ pa16) (ne17 : ∀ pa9 : Nat, p7 = some pa9 → ∀ pa16 : Nat, p14 = some pa16 → ∀ pa23 : Nat, p19 = some pa23 → x29 = 0 → pa9 ≠ pa16) (k18 : ∀ pa9 : Nat, p7 = some pa9 → ∀ pa16 : Nat, p14 = some pa16 → ∀ pa23 : Nat, p19 = some pa23 → x29 = 0 → Rn G mJ8_fixAfterInsertion 5 [(0, .ref a1), (1, .ref pa16)] [] (wset (wset (wset w pa9 (.inl (nJ29, [.ref a10, .ref a11, va_rf p12, va_rf p13, .ref pa16, .int 1]))) pa23 (.inl (nJ29, [.ref a24, .ref a25, va_rf p26, va_rf p27, va_rf p28, .int 1]))) pa16 (.inl (nJ29, [.ref a17, .ref a18, .ref pa23, va_rf p20, va_rf p21, .int 0]))) Q) : Rn G mJ8_fixAfterInsertion 151 [(0, .ref a1), (1, .ref a2)] [] w Q := by
  refine r_aload_n 71 152 1 rfl rfl rfl ?_
  refine r_callS lkS_J8_294 72 155 rfl rfl (by decide) [.ref a2] rfl rfl (Nat.le_of_ble_eq_true rfl) (Nat.le_of_ble_eq_true rfl) ?_ (fun _ _ h => h)
  show Rn G mJ8_parentOf 0 [(0, .ref a2)] [] w _
  refine r_aload_n 0 1 0 rfl rfl rfl ?_
  refine r_ifnonnull 1 8 rfl rfl ?_
  refine r_aload_n 4 9 0 rfl rfl rfl ?_
  refine r_get (v := va_rf p7) fl_J8_124_J29 5 12 rfl rfl o1 rfl ?_
  refine r_aret 6 rfl rfl (Or.inl ⟨_, rfl⟩) (rf_or _) ?_
  show Rn G mJ8_fixAfterInsertion 155 [(0, .ref a1), (1, .ref a2)] [va_rf p7] w _
  cases p7 with
  | none =>
    refine r_callS lkS_J8_294 73 158 rfl rfl (by decide) [.null] rfl rfl (Nat.le_of_ble_eq_true rfl) (Nat.le_of_ble_eq_true rfl) ?_ (fun _ _ h => h)
    show Rn G mJ8_parentOf 0 [(0, .null)] [] w _
    refine r_aloadN_n 0 1 0 rfl rfl rfl ?_
    refine r_ifnonnullN 1 4 rfl rfl ?_
    refine r_null 2 5 rfl rfl ?_
    refine r_goto 3 12 rfl rfl ?_
    refine r_aret 6 rfl rfl (Or.inl ⟨_, rfl⟩) (Or.inl rfl) ?_
    show Rn G mJ8_fixAfterInsertion 158 [(0, .ref a1), (1, .ref a2)] [.null] w _
    refine r_callS lkS_J8_297 74 161 rfl rfl (by decide) [.null] rfl rfl (Nat.le_of_ble_eq_true rfl) (Nat.le_of_ble_eq_true rfl) ?_ (fun _ _ h => h)
    show Rn G mJ8_leftOf 0 [(0, .null)] [] w _
    refine r_aloadN_n 0 1 0 rfl rfl rfl ?_
    refine r_ifnonnullN 1 4 rfl rfl ?_
    refine r_null 2 5 rfl rfl ?_
    refine r_goto 3 12 rfl rfl ?_
    refine r_aret 6 rfl rfl (Or.inl ⟨_, rfl⟩) (Or.inl rfl) ?_
    show Rn G mJ8_fixAfterInsertion 161 [(0, .ref a1), (1, .ref a2)] [.null] w _
    refine r_astoreN_n (lv' := [(2, .null), (0, .ref a1), (1, .ref a2)]) 75 162 rfl rfl (Nat.le_of_ble_eq_true rfl) rfl ?_
    refine r_aloadN_n 76 163 0 rfl rfl rfl ?_
    refine r_callS lkS_J8_303 77 166 rfl rfl (by decide) [.null] rfl rfl (Nat.le_of_ble_eq_true rfl) (Nat.le_of_ble_eq_true rfl) ?_ (fun _ _ h => h)
    show Rn G mJ8_colorOf 0 [(0, .null)] [] w _
    refine r_aloadN_n 0 1 0 rfl rfl rfl ?_
    refine r_ifnonnullN 1 4 rfl rfl ?_
    refine r_iconst 2 5 rfl rfl di_1 ?_
    refine r_goto 3 12 rfl rfl ?_
    refine r_iret 6 rfl rfl (by decide) ?_
    show Rn G mJ8_fixAfterInsertion 166 [(2, .null), (0, .ref a1), (1, .ref a2)] [.int 1] w _
    refine r_if_ne 78 169 204 rfl rfl rfl (fun _ => ?_) (fun c => absurd c (by decide))
    exact r_sub [1, 2] rfl (k2 rfl)
  | some pa9 =>
    refine r_callS lkS_J8_294 73 158 rfl rfl (by decide) [.ref pa9] rfl rfl (Nat.le_of_ble_eq_true rfl) (Nat.le_of_ble_eq_true rfl) ?_ (fun _ _ h => h)
    show Rn G mJ8_parentOf 0 [(0, .ref pa9)] [] w _
    refine r_aload_n 0 1 0 rfl rfl rfl ?_
    refine r_ifnonnull 1 8 rfl rfl ?_
    refine r_aload_n 4 9 0 rfl rfl rfl ?_
    refine r_get (v := va_rf p14) fl_J8_124_J29 5 12 rfl rfl (Or.inl (o3 pa9 rfl)) rfl ?_
    refine r_aret 6 rfl rfl (Or.inl ⟨_, rfl⟩) (rf_or _) ?_
    show Rn G mJ8_fixAfterInsertion 158 [(0, .ref a1), (1, .ref a2)] [va_rf p14] w _
    cases p14 with
    | none =>
      refine r_callS lkS_J8_297 74 161 rfl rfl (by decide) [.null] rfl rfl (Nat.le_of_ble_eq_true rfl) (Nat.le_of_ble_eq_true rfl) ?_ (fun _ _ h => h)
      show Rn G mJ8_leftOf 0 [(0, .null)] [] w _
      refine r_aloadN_n 0 1 0 rfl rfl rfl ?_
      refine r_ifnonnullN 1 4 rfl rfl ?_
      refine r_null 2 5 rfl rfl ?_
      refine r_goto 3 12 rfl rfl ?_
      refine r_aret 6 rfl rfl (Or.inl ⟨_, rfl⟩) (Or.inl rfl) ?_
      show Rn G mJ8_fixAfterInsertion 161 [(0, .ref a1), (1, .ref a2)] [.null] w _
      refine r_astoreN_n (lv' := [(2, .null), (0, .ref a1), (1, .ref a2)]) 75 162 rfl rfl (Nat.le_of_ble_eq_true rfl) rfl ?_
      refine r_aloadN_n 76 163 0 rfl rfl rfl ?_
      refine r_callS lkS_J8_303 77 166 rfl rfl (by decide) [.null] rfl rfl (Nat.le_of_ble_eq_true rfl) (Nat.le_of_ble_eq_true rfl) ?_ (fun _ _ h => h)
      show Rn G mJ8_colorOf 0 [(0, .null)] [] w _
      refine r_aloadN_n 0 1 0 rfl rfl rfl ?_
      refine r_ifnonnullN 1 4 rfl rfl ?_
      refine r_iconst 2 5 rfl rfl di_1 ?_
      refine r_goto 3 12 rfl rfl ?_
      refine r_iret 6 rfl rfl (by decide) ?_
      show Rn G mJ8_fixAfterInsertion 166 [(2, .null), (0, .ref a1), (1, .ref a2)] [.int 1] w _
      refine r_if_ne 78 169 204 rfl rfl rfl (fun _ => ?_) (fun c => absurd c (by decide))
      exact r_sub [1, 2] rfl (k4 pa9 rfl rfl)
    | some pa16 =>
      refine r_callS lkS_J8_297 74 161 rfl rfl (by decide) [.ref pa16] rfl rfl (Nat.le_of_ble_eq_true rfl) (Nat.le_of_ble_eq_true rfl) ?_ (fun _ _ h => h)
      show Rn G mJ8_leftOf 0 [(0, .ref pa16)] [] w _
      refine r_aload_n 0 1 0 rfl rfl rfl ?_
      refine r_ifnonnull 1 8 rfl rfl ?_
      refine r_aload_n 4 9 0 rfl rfl rfl ?_
      refine r_get (v := va_rf p19) fl_J8_111_J29 5 12 rfl rfl (Or.inl (o5 pa9 rfl pa16 rfl)) rfl ?_
      refine r_aret 6 rfl rfl (Or.inl ⟨_, rfl⟩) (rf_or _) ?_
      show Rn G mJ8_fixAfterInsertion 161 [(0, .ref a1), (1, .ref a2)] [va_rf p19] w _
      refine x_astoreP_n (p := p19) (lv' := [(2, va_rf p19), (0, .ref a1), (1, .ref a2)]) 75 162 rfl rfl (Nat.le_of_ble_eq_true rfl) (by cases p19 <;> rfl) ?_
      refine x_aloadP_n (p := p19) 76 163 0 rfl rfl rfl ?_
      cases p19 with
      | none =>
        refine r_callS lkS_J8_303 77 166 rfl rfl (by decide) [.null] rfl rfl (Nat.le_of_ble_eq_true rfl) (Nat.le_of_ble_eq_true rfl) ?_ (fun _ _ h => h)
        show Rn G mJ8_colorOf 0 [(0, .null)] [] w _
        refine r_aloadN_n 0 1 0 rfl rfl rfl ?_
        refine r_ifnonnullN 1 4 rfl rfl ?_
        refine r_iconst 2 5 rfl rfl di_1 ?_
        refine r_goto 3 12 rfl rfl ?_
        refine r_iret 6 rfl rfl (by decide) ?_
        show Rn G mJ8_fixAfterInsertion 166 [(2, .null), (0, .ref a1), (1, .ref a2)] [.int 1] w _
        refine r_if_ne 78 169 204 rfl rfl rfl (fun _ => ?_) (fun c => absurd c (by decide))
        exact r_sub [1, 2] rfl (k6 pa9 rfl pa16 rfl rfl)
      | some pa23 =>
        refine r_callS lkS_J8_303 77 166 rfl rfl (by decide) [.ref pa23] rfl rfl (Nat.le_of_ble_eq_true rfl) (Nat.le_of_ble_eq_true rfl) ?_ (fun _ _ h => h)
        show Rn G mJ8_colorOf 0 [(0, .ref pa23)] [] w _
        refine r_aload_n 0 1 0 rfl rfl rfl ?_
        refine r_ifnonnull 1 8 rfl rfl ?_
        refine r_aload_n 4 9 0 rfl rfl rfl ?_
        refine r_get (v := .int x29) fl_J8_290_J29 5 12 rfl rfl (Or.inl (o7 pa9 rfl pa16 rfl pa23 rfl)) rfl ?_
        refine r_iret 6 rfl rfl (q8 pa9 rfl pa16 rfl pa23 rfl) ?_
        show Rn G mJ8_fixAfterInsertion 166 [(2, .ref pa23), (0, .ref a1), (1, .ref a2)] [.int x29] w _
        refine r_if_ne 78 169 204 rfl rfl rfl (fun c4 => ?_) (fun c4 => ?_)
        · exact r_sub [1, 2] rfl (k9 pa9 rfl pa16 rfl pa23 rfl c4)
        · refine r_aload_n 79 170 2 rfl rfl rfl ?_
          refine r_callS lkS_J8_294 80 173 rfl rfl (by decide) [.ref a2] rfl rfl (Nat.le_of_ble_eq_true rfl) (Nat.le_of_ble_eq_true rfl) ?_ (fun _ _ h => h)
          show Rn G mJ8_parentOf 0 [(0, .ref a2)] [] w _
          refine r_aload_n 0 1 0 rfl rfl rfl ?_
          refine r_ifnonnull 1 8 rfl rfl ?_
          refine r_aload_n 4 9 0 rfl rfl rfl ?_
          refine r_get (v := .ref pa9) fl_J8_124_J29 5 12 rfl rfl o1 rfl ?_
          refine r_aret 6 rfl rfl (Or.inl ⟨_, rfl⟩) (Or.inr ⟨_, rfl⟩) ?_
          show Rn G mJ8_fixAfterInsertion 173 [(2, .ref pa23), (0, .ref a1), (1, .ref a2)] [.ref pa9] w _
          refine r_iconst 81 174 rfl rfl di_1 ?_
          refine r_callS lkS_J8_307 82 177 rfl rfl (by decide) [.ref pa9, .int 1] rfl rfl (Nat.le_of_ble_eq_true rfl) (Nat.le_of_ble_eq_true rfl) ?_ (fun _ _ h => h)
          show Rn G mJ8_setColor 0 [(0, .ref pa9), (1, .int 1)] [] w _
          refine r_aload_n 0 1 0 rfl rfl rfl ?_
          refine r_ifnull 1 4 rfl rfl ?_
          refine r_aload_n 2 5 0 rfl rfl rfl ?_
          refine r_iload_n 3 6 1 rfl rfl rfl ?_
          refine r_put (i := 5) fl_J8_290_J29 in_J29 q1328 (ty0 := tyJ29) tyJ29_ok nmJ29 4 9 rfl rfl (o3 pa9 rfl) rfl rfl rfl (Nat.le_of_ble_eq_true rfl) ?_
          show Rn G mJ8_setColor 9 [(0, .ref pa9), (1, .int 1)] [] (wset w pa9 (.inl (nJ29, [.ref a10, .ref a11, va_rf p12, va_rf p13, .ref pa16, .int 1]))) _
          refine r_vret 5 rfl rfl ?_
          show Rn G mJ8_fixAfterInsertion 177 [(2, .ref pa23), (0, .ref a1), (1, .ref a2)] [] (wset w pa9 (.inl (nJ29, [.ref a10, .ref a11, va_rf p12, va_rf p13, .ref pa16, .int 1]))) _
          refine r_aload_n 83 178 0 rfl rfl rfl ?_
          refine r_iconst 84 179 rfl rfl di_1 ?_
          refine r_callS lkS_J8_307 85 182 rfl rfl (by decide) [.ref pa23, .int 1] rfl rfl (Nat.le_of_ble_eq_true rfl) (Nat.le_of_ble_eq_true rfl) ?_ (fun _ _ h => h)
          show Rn G mJ8_setColor 0 [(0, .ref pa23), (1, .int 1)] [] (wset w pa9 (.inl (nJ29, [.ref a10, .ref a11, va_rf p12, va_rf p13, .ref pa16, .int 1]))) _
          refine r_aload_n 0 1 0 rfl rfl rfl ?_
          refine r_ifnull 1 4 rfl rfl ?_
          refine r_aload_n 2 5 0 rfl rfl rfl ?_
          refine r_iload_n 3 6 1 rfl rfl rfl ?_
          refine r_put (i := 5) fl_J8_290_J29 in_J29 q1328 (ty0 := tyJ29) tyJ29_ok nmJ29 4 9 rfl rfl (wset_n (o7 pa9 rfl pa16 rfl pa23 rfl) (ne10 pa9 rfl pa16 rfl pa23 rfl c4)) rfl rfl rfl (Nat.le_of_ble_eq_true rfl) ?_
          show Rn G mJ8_setColor 9 [(0, .ref pa23), (1, .int 1)] [] (wset (wset w pa9 (.inl (nJ29, [.ref a10, .ref a11, va_rf p12, va_rf p13, .ref pa16, .int 1]))) pa23 (.inl (nJ29, [.ref a24, .ref a25, va_rf p26, va_rf p27, va_rf p28, .int 1]))) _
          refine r_vret 5 rfl rfl ?_
          show Rn G mJ8_fixAfterInsertion 182 [(2, .ref pa23), (0, .ref a1), (1, .ref a2)] [] (wset (wset w pa9 (.inl (nJ29, [.ref a10, .ref a11, va_rf p12, va_rf p13, .ref pa16, .int 1]))) pa23 (.inl (nJ29, [.ref a24, .ref a25, va_rf p26, va_rf p27, va_rf p28, .int 1]))) _
          refine r_aload_n 86 183 2 rfl rfl rfl ?_
          refine r_callS lkS_J8_294 87 186 rfl rfl (by decide) [.ref a2] rfl rfl (Nat.le_of_ble_eq_true rfl) (Nat.le_of_ble_eq_true rfl) ?_ (fun _ _ h => h)
          show Rn G mJ8_parentOf 0 [(0, .ref a2)] [] (wset (wset w pa9 (.inl (nJ29, [.ref a10, .ref a11, va_rf p12, va_rf p13, .ref pa16, .int 1]))) pa23 (.inl (nJ29, [.ref a24, .ref a25, va_rf p26, va_rf p27, va_rf p28, .int 1]))) _
          refine r_aload_n 0 1 0 rfl rfl rfl ?_
          refine r_ifnonnull 1 8 rfl rfl ?_
          refine r_aload_n 4 9 0 rfl rfl rfl ?_
          refine r_get (v := .ref pa9) fl_J8_124_J29 5 12 rfl rfl (Lk.set_n (Lk.set_n o1 (ne11 pa9 rfl pa16 rfl pa23 rfl c4)) (ne12 pa9 rfl pa16 rfl pa23 rfl c4)) rfl ?_
          refine r_aret 6 rfl rfl (Or.inl ⟨_, rfl⟩) (Or.inr ⟨_, rfl⟩) ?_
          show Rn G mJ8_fixAfterInsertion 186 [(2, .ref pa23), (0, .ref a1), (1, .ref a2)] [.ref pa9] (wset (wset w pa9 (.inl (nJ29, [.ref a10, .ref a11, va_rf p12, va_rf p13, .ref pa16, .int 1]))) pa23 (.inl (nJ29, [.ref a24, .ref a25, va_rf p26, va_rf p27, va_rf p28, .int 1]))) _
          refine r_callS lkS_J8_294 88 189 rfl rfl (by decide) [.ref pa9] rfl rfl (Nat.le_of_ble_eq_true rfl) (Nat.le_of_ble_eq_true rfl) ?_ (fun _ _ h => h)
          show Rn G mJ8_parentOf 0 [(0, .ref pa9)] [] (wset (wset w pa9 (.inl (nJ29, [.ref a10, .ref a11, va_rf p12, va_rf p13, .ref pa16, .int 1]))) pa23 (.inl (nJ29, [.ref a24, .ref a25, va_rf p26, va_rf p27, va_rf p28, .int 1]))) _
          refine r_aload_n 0 1 0 rfl rfl rfl ?_
          refine r_ifnonnull 1 8 rfl rfl ?_
          refine r_aload_n 4 9 0 rfl rfl rfl ?_
          refine r_get (v := .ref pa16) fl_J8_124_J29 5 12 rfl rfl (Or.inl (wset_n wset_s (ne13 pa9 rfl pa16 rfl pa23 rfl c4))) rfl ?_
          refine r_aret 6 rfl rfl (Or.inl ⟨_, rfl⟩) (Or.inr ⟨_, rfl⟩) ?_
          show Rn G mJ8_fixAfterInsertion 189 [(2, .ref pa23), (0, .ref a1), (1, .ref a2)] [.ref pa16] (wset (wset w pa9 (.inl (nJ29, [.ref a10, .ref a11, va_rf p12, va_rf p13, .ref pa16, .int 1]))) pa23 (.inl (nJ29, [.ref a24, .ref a25, va_rf p26, va_rf p27, va_rf p28, .int 1]))) _
          refine r_iconst 89 190 rfl rfl di_0 ?_
          refine r_callS lkS_J8_307 90 193 rfl rfl (by decide) [.ref pa16, .int 0] rfl rfl (Nat.le_of_ble_eq_true rfl) (Nat.le_of_ble_eq_true rfl) ?_ (fun _ _ h => h)
          show Rn G mJ8_setColor 0 [(0, .ref pa16), (1, .int 0)] [] (wset (wset w pa9 (.inl (nJ29, [.ref a10, .ref a11, va_rf p12, va_rf p13, .ref pa16, .int 1]))) pa23 (.inl (nJ29, [.ref a24, .ref a25, va_rf p26, va_rf p27, va_rf p28, .int 1]))) _
          refine r_aload_n 0 1 0 rfl rfl rfl ?_
          refine r_ifnull 1 4 rfl rfl ?_
          refine r_aload_n 2 5 0 rfl rfl rfl ?_
          refine r_iload_n 3 6 1 rfl rfl rfl ?_
          refine r_put (i := 5) fl_J8_290_J29 in_J29 q1328 (ty0 := tyJ29) tyJ29_ok nmJ29 4 9 rfl rfl (wset_n (wset_n (o5 pa9 rfl pa16 rfl) (ne14 pa9 rfl pa16 rfl pa23 rfl c4)) (ne15 pa9 rfl pa16 rfl pa23 rfl c4)) rfl rfl rfl (Nat.le_of_ble_eq_true rfl) ?_
          show Rn G mJ8_setColor 9 [(0, .ref pa16), (1, .int 0)] [] (wset (wset (wset w pa9 (.inl (nJ29, [.ref a10, .ref a11, va_rf p12, va_rf p13, .ref pa16, .int 1]))) pa23 (.inl (nJ29, [.ref a24, .ref a25, va_rf p26, va_rf p27, va_rf p28, .int 1]))) pa16 (.inl (nJ29, [.ref a17, .ref a18, .ref pa23, va_rf p20, va_rf p21, .int 0]))) _
          refine r_vret 5 rfl rfl ?_
          show Rn G mJ8_fixAfterInsertion 193 [(2, .ref pa23), (0, .ref a1), (1, .ref a2)] [] (wset (wset (wset w pa9 (.inl (nJ29, [.ref a10, .ref a11, va_rf p12, va_rf p13, .ref pa16, .int 1]))) pa23 (.inl (nJ29, [.ref a24, .ref a25, va_rf p26, va_rf p27, va_rf p28, .int 1]))) pa16 (.inl (nJ29, [.ref a17, .ref a18, .ref pa23, va_rf p20, va_rf p21, .int 0]))) _
          refine r_aload_n 91 194 2 rfl rfl rfl ?_
          refine r_callS lkS_J8_294 92 197 rfl rfl (by decide) [.ref a2] rfl rfl (Nat.le_of_ble_eq_true rfl) (Nat.le_of_ble_eq_true rfl) ?_ (fun _ _ h => h)
          show Rn G mJ8_parentOf 0 [(0, .ref a2)] [] (wset (wset (wset w pa9 (.inl (nJ29, [.ref a10, .ref a11, va_rf p12, va_rf p13, .ref pa16, .int 1]))) pa23 (.inl (nJ29, [.ref a24, .ref a25, va_rf p26, va_rf p27, va_rf p28, .int 1]))) pa16 (.inl (nJ29, [.ref a17, .ref a18, .ref pa23, va_rf p20, va_rf p21, .int 0]))) _
          refine r_aload_n 0 1 0 rfl rfl rfl ?_
          refine r_ifnonnull 1 8 rfl rfl ?_
          refine r_aload_n 4 9 0 rfl rfl rfl ?_
          refine r_get (v := .ref pa9) fl_J8_124_J29 5 12 rfl rfl (Lk.set_n (Lk.set_n (Lk.set_n o1 (ne11 pa9 rfl pa16 rfl pa23 rfl c4)) (ne12 pa9 rfl pa16 rfl pa23 rfl c4)) (ne16 pa9 rfl pa16 rfl pa23 rfl c4)) rfl ?_
          refine r_aret 6 rfl rfl (Or.inl ⟨_, rfl⟩) (Or.inr ⟨_, rfl⟩) ?_
          show Rn G mJ8_fixAfterInsertion 197 [(2, .ref pa23), (0, .ref a1), (1, .ref a2)] [.ref pa9] (wset (wset (wset w pa9 (.inl (nJ29, [.ref a10, .ref a11, va_rf p12, va_rf p13, .ref pa16, .int 1]))) pa23 (.inl (nJ29, [.ref a24, .ref a25, va_rf p26, va_rf p27, va_rf p28, .int 1]))) pa16 (.inl (nJ29, [.ref a17, .ref a18, .ref pa23, va_rf p20, va_rf p21, .int 0]))) _
          refine r_callS lkS_J8_294 93 200 rfl rfl (by decide) [.ref pa9] rfl rfl (Nat.le_of_ble_eq_true rfl) (Nat.le_of_ble_eq_true rfl) ?_ (fun _ _ h => h)
          show Rn G mJ8_parentOf 0 [(0, .ref pa9)] [] (wset (wset (wset w pa9 (.inl (nJ29, [.ref a10, .ref a11, va_rf p12, va_rf p13, .ref pa16, .int 1]))) pa23 (.inl (nJ29, [.ref a24, .ref a25, va_rf p26, va_rf p27, va_rf p28, .int 1]))) pa16 (.inl (nJ29, [.ref a17, .ref a18, .ref pa23, va_rf p20, va_rf p21, .int 0]))) _
          refine r_aload_n 0 1 0 rfl rfl rfl ?_
          refine r_ifnonnull 1 8 rfl rfl ?_
          refine r_aload_n 4 9 0 rfl rfl rfl ?_
          refine r_get (v := .ref pa16) fl_J8_124_J29 5 12 rfl rfl (Or.inl (wset_n (wset_n wset_s (ne13 pa9 rfl pa16 rfl pa23 rfl c4)) (ne17 pa9 rfl pa16 rfl pa23 rfl c4))) rfl ?_
          refine r_aret 6 rfl rfl (Or.inl ⟨_, rfl⟩) (Or.inr ⟨_, rfl⟩) ?_
          show Rn G mJ8_fixAfterInsertion 200 [(2, .ref pa23), (0, .ref a1), (1, .ref a2)] [.ref pa16] (wset (wset (wset w pa9 (.inl (nJ29, [.ref a10, .ref a11, va_rf p12, va_rf p13, .ref pa16, .int 1]))) pa23 (.inl (nJ29, [.ref a24, .ref a25, va_rf p26, va_rf p27, va_rf p28, .int 1]))) pa16 (.inl (nJ29, [.ref a17, .ref a18, .ref pa23, va_rf p20, va_rf p21, .int 0]))) _
          refine r_astore_n (lv' := [(1, .ref pa16), (2, .ref pa23), (0, .ref a1)]) 94 201 rfl rfl (Nat.le_of_ble_eq_true rfl) rfl ?_
          refine r_goto 95 255 rfl rfl ?_
          refine r_goto 121 5 rfl rfl ?_
          exact r_sub [2, 0] rfl (k18 pa9 rfl pa16 rfl pa23 rfl c4)
theorem e_J8_fixAfterInsertion_44 {G : Gm} {κ : Nat → Nat} {φ : Nat → Option Nat} (hS : GS G κ φ) {w : Wd} {Q : Rs → Wd → Prop} {a1 : Nat} {a2 : Nat} {a3 : Nat} {a4 : Nat} {p5 : Option Nat} {p6 : Option Nat} {p7 : Option Nat} {x8 : Int32} {a10 : Nat} {a11 : Nat} {p12 : Option Nat} {p13 : Option Nat} {p14 : Option Nat} {x15 : Int32} {a17 : Nat} {a18 : Nat} {p19 : Option Nat} {p20 : Option Nat} {p21 : Option Nat} {x22 : Int32} {a24 : Nat} {a25 : Nat} {p26 : Option Nat} {p27 : Option Nat} {p28 : Option Nat} {x29 : Int32} (o1 : Lk G w a2 (.inl (nJ29, [.ref a3, .ref a4, va_rf p5, va_rf p6, va_rf p7, .int x8]))) (k2 : p7 = none → Rn G mJ8_fixAfterInsertion 97 [(0, .ref a1), (1, .ref a2)] [] w Q) (o3 : ∀ pa9 : Nat, p7 = some pa9 → w.1 pa9 = some (.inl (nJ29, [.ref a10, .ref a11, va_rf p12, va_rf p13, va_rf p14, .int x15]))) (k4 : ∀ pa9 : Nat, p7 = some pa9 → p14 = none → Rn G mJ8_fixAfterInsertion 97 [(0, .ref a1), (1, .ref a2)] [] w Q) (o5 : ∀ pa9 : Nat, p7 = some pa9 → ∀ pa16 : Nat, p14 = some pa16 → w.1 pa16 = some (.inl (nJ29, [.ref a17, .ref a18, va_rf p19, va_rf p20, va_rf p21, .int x22]))) (k6 : ∀ pa9 : Nat, p7 = some pa9 → ∀ pa16 : Nat, p14 = some pa16 → p20 = none → Rn G mJ8_fixAfterInsertion 97 [(0, .ref a1), (1, .ref a2)] [] w Q) (o7 : ∀ pa9 : Nat, p7 = some pa9 → ∀ pa16 : Nat, p14 = some pa16 → ∀ pa23 : Nat, p20 = some pa23 → w.1 pa23 = some (.inl (nJ29, [.ref a24, .ref a25, va_rf p26, va_rf p27, va_rf p28, .int x29]))) (q8 : ∀ pa9 : Nat, p7 = some pa9 → ∀ pa16 : Nat, p14 = some pa16 → ∀ pa23 : Nat, p20 = some pa23 → narrow .boolean (.int x29) = .int x29) (k9 : ∀ pa9 : Nat, p7 = some pa9 → ∀ pa16 : Nat, p14 = some pa16 → ∀ pa23 : Nat, p20 = some pa23 → ¬ x29 = 0 → Rn G mJ8_fixAfterInsertion 97 [(0, .ref a1), (1, .ref a2)] [] w Q) (ne10 : ∀ pa9 : Nat, p7 = some pa9 → ∀ pa16 : Nat, p14 = some pa16 → ∀ pa23 : Nat, p20 = some pa23 → x29 = 0 → pa23 ≠ pa9) (ne11 : ∀ pa9 : Nat, p7 = some pa9 → ∀ pa16 : Nat, p14 = some pa16 → ∀ pa23 : Nat, p20 = some pa23 → x29 = 0 → a2 ≠ pa9) (ne12 : ∀ pa9 : Nat, p7 = some pa9 → ∀ pa16 : Nat, p14 = some pa16 → ∀ pa23 : Nat, p20 = some pa23 → x29 = 0 → a2 ≠ pa23) (ne13 : ∀ pa9 : Nat, p7 = some pa9 → ∀ pa16 : Nat, p14 = some pa16 → ∀ pa23 : Nat, p20 = some pa23 → x29 = 0 → pa9 ≠ pa23) (ne14 : ∀ pa9 : Nat, p7 = some pa9 → ∀ pa16 : Nat, p14 = some pa16 → ∀ pa23 : Nat, p20 = some pa23 → x29 = 0 → pa16 ≠ pa9) (ne15 : ∀ pa9 : Nat, p7 = some pa9 → ∀ pa16 : Nat, p14 = some pa16 → ∀ pa23 : Nat, p20 = some pa23 → x29 = 0 → pa16 ≠ pa23) (ne16 : ∀ pa9 : Nat, p7 = some pa9 → ∀ pa16 : Nat, p14 = some pa16 → ∀ pa23 : Nat, p20 = some pa23 → x29 = 0 → a2 ≠ pa16) (ne17 : ∀ pa9 : Nat, p7 = some pa9 → ∀ pa16 : Nat, p14 = some pa16 → ∀ pa23 : Nat, p20 = some pa23 → x29 = 0 → pa9 ≠ pa16) (k18 : ∀ pa9 : Nat, p7 = some pa9 → ∀ pa16 : Nat, p14 = some pa16 → ∀ pa23 : Nat, p20 = some pa23 → x29 = 0 → Rn G mJ8_fixAfterInsertion 5 [(0, .ref a1), (1, .ref pa16)] [] (wset (wset (wset w pa9 (.inl (nJ29, [.ref a10, .ref a11, va_rf p12, va_rf p13, .ref pa16, .int 1]))) pa23 (.inl (nJ29, [.ref a24, .ref a25, va_rf p26, va_rf p27, va_rf p28, .int 1]))) pa16 (.inl (nJ29, [.ref a17, .ref a18, va_rf p19, .ref pa23, va_rf p21, .int 0]))) Q) : Rn G mJ8_fixAfterInsertion 44 [(0, .ref a1), (1, .ref a2)] [] w Q := by
  refine r_aload_n 20 45 1 rfl rfl rfl ?_
  refine r_callS lkS_J8_294 21 48 rfl rfl (by decide) [.ref a2] rfl rfl (Nat.le_of_ble_eq_true rfl) (Nat.le_of_ble_eq_true rfl) ?_ (fun _ _ h => h)
  show Rn G mJ8_parentOf 0 [(0, .ref a2)] [] w _
  refine r_aload_n 0 1 0 rfl rfl rfl ?_
  refine r_ifnonnull 1 8 rfl rfl ?_
  refine r_aload_n 4 9 0 rfl rfl rfl ?_
  refine r_get (v := va_rf p7) fl_J8_124_J29 5 12 rfl rfl o1 rfl ?_
  refine r_aret 6 rfl rfl (Or.inl ⟨_, rfl⟩) (rf_or _) ?_
  show Rn G mJ8_fixAfterInsertion 48 [(0, .ref a1), (1, .ref a2)] [va_rf p7] w _
  cases p7 with
  | none =>
    refine r_callS lkS_J8_294 22 51 rfl rfl (by decide) [.null] rfl rfl (Nat.le_of_ble_eq_true rfl) (Nat.le_of_ble_eq_true rfl) ?_ (fun _ _ h => h)
    show Rn G mJ8_parentOf 0 [(0, .null)] [] w _
    refine r_aloadN_n 0 1 0 rfl rfl rfl ?_
    refine r_ifnonnullN 1 4 rfl rfl ?_
    refine r_null 2 5 rfl rfl ?_
    refine r_goto 3 12 rfl rfl ?_
    refine r_aret 6 rfl rfl (Or.inl ⟨_, rfl⟩) (Or.inl rfl) ?_
    show Rn G mJ8_fixAfterInsertion 51 [(0, .ref a1), (1, .ref a2)] [.null] w _
    refine r_callS lkS_J8_300 23 54 rfl rfl (by decide) [.null] rfl rfl (Nat.le_of_ble_eq_true rfl) (Nat.le_of_ble_eq_true rfl) ?_ (fun _ _ h => h)
    show Rn G mJ8_rightOf 0 [(0, .null)] [] w _
    refine r_aloadN_n 0 1 0 rfl rfl rfl ?_
    refine r_ifnonnullN 1 4 rfl rfl ?_
    refine r_null 2 5 rfl rfl ?_
    refine r_goto 3 12 rfl rfl ?_
    refine r_aret 6 rfl rfl (Or.inl ⟨_, rfl⟩) (Or.inl rfl) ?_
    show Rn G mJ8_fixAfterInsertion 54 [(0, .ref a1), (1, .ref a2)] [.null] w _
    refine r_astoreN_n (lv' := [(2, .null), (0, .ref a1), (1, .ref a2)]) 24 55 rfl rfl (Nat.le_of_ble_eq_true rfl) rfl ?_
    refine r_aloadN_n 25 56 0 rfl rfl rfl ?_
    refine r_callS lkS_J8_303 26 59 rfl rfl (by decide) [.null] rfl rfl (Nat.le_of_ble_eq_true rfl) (Nat.le_of_ble_eq_true rfl) ?_ (fun _ _ h => h)
    show Rn G mJ8_colorOf 0 [(0, .null)] [] w _
    refine r_aloadN_n 0 1 0 rfl rfl rfl ?_
    refine r_ifnonnullN 1 4 rfl rfl ?_
    refine r_iconst 2 5 rfl rfl di_1 ?_
    refine r_goto 3 12 rfl rfl ?_
    refine r_iret 6 rfl rfl (by decide) ?_
    show Rn G mJ8_fixAfterInsertion 59 [(2, .null), (0, .ref a1), (1, .ref a2)] [.int 1] w _
    refine r_if_ne 27 62 97 rfl rfl rfl (fun _ => ?_) (fun c => absurd c (by decide))
    exact r_sub [1, 2] rfl (k2 rfl)
  | some pa9 =>
    refine r_callS lkS_J8_294 22 51 rfl rfl (by decide) [.ref pa9] rfl rfl (Nat.le_of_ble_eq_true rfl) (Nat.le_of_ble_eq_true rfl) ?_ (fun _ _ h => h)
    show Rn G mJ8_parentOf 0 [(0, .ref pa9)] [] w _
    refine r_aload_n 0 1 0 rfl rfl rfl ?_
    refine r_ifnonnull 1 8 rfl rfl ?_
    refine r_aload_n 4 9 0 rfl rfl rfl ?_
    refine r_get (v := va_rf p14) fl_J8_124_J29 5 12 rfl rfl (Or.inl (o3 pa9 rfl)) rfl ?_
    refine r_aret 6 rfl rfl (Or.inl ⟨_, rfl⟩) (rf_or _) ?_
    show Rn G mJ8_fixAfterInsertion 51 [(0, .ref a1), (1, .ref a2)] [va_rf p14] w _
    cases p14 with
    | none =>
      refine r_callS lkS_J8_300 23 54 rfl rfl (by decide) [.null] rfl rfl (Nat.le_of_ble_eq_true rfl) (Nat.le_of_ble_eq_true rfl) ?_ (fun _ _ h => h)
      show Rn G mJ8_rightOf 0 [(0, .null)] [] w _
      refine r_aloadN_n 0 1 0 rfl rfl rfl ?_
      refine r_ifnonnullN 1 4 rfl rfl ?_
      refine r_null 2 5 rfl rfl ?_
      refine r_goto 3 12 rfl rfl ?_
      refine r_aret 6 rfl rfl (Or.inl ⟨_, rfl⟩) (Or.inl rfl) ?_
      show Rn G mJ8_fixAfterInsertion 54 [(0, .ref a1), (1, .ref a2)] [.null] w _
      refine r_astoreN_n (lv' := [(2, .null), (0, .ref a1), (1, .ref a2)]) 24 55 rfl rfl (Nat.le_of_ble_eq_true rfl) rfl ?_
      refine r_aloadN_n 25 56 0 rfl rfl rfl ?_
      refine r_callS lkS_J8_303 26 59 rfl rfl (by decide) [.null] rfl rfl (Nat.le_of_ble_eq_true rfl) (Nat.le_of_ble_eq_true rfl) ?_ (fun _ _ h => h)
      show Rn G mJ8_colorOf 0 [(0, .null)] [] w _
      refine r_aloadN_n 0 1 0 rfl rfl rfl ?_
      refine r_ifnonnullN 1 4 rfl rfl ?_
      refine r_iconst 2 5 rfl rfl di_1 ?_
      refine r_goto 3 12 rfl rfl ?_
      refine r_iret 6 rfl rfl (by decide) ?_
      show Rn G mJ8_fixAfterInsertion 59 [(2, .null), (0, .ref a1), (1, .ref a2)] [.int 1] w _
      refine r_if_ne 27 62 97 rfl rfl rfl (fun _ => ?_) (fun c => absurd c (by decide))
      exact r_sub [1, 2] rfl (k4 pa9 rfl rfl)
    | some pa16 =>
      refine r_callS lkS_J8_300 23 54 rfl rfl (by decide) [.ref pa16] rfl rfl (Nat.le_of_ble_eq_true rfl) (Nat.le_of_ble_eq_true rfl) ?_ (fun _ _ h => h)
      show Rn G mJ8_rightOf 0 [(0, .ref pa16)] [] w _
      refine r_aload_n 0 1 0 rfl rfl rfl ?_
      refine r_ifnonnull 1 8 rfl rfl ?_
      refine r_aload_n 4 9 0 rfl rfl rfl ?_
      refine r_get (v := va_rf p20) fl_J8_114_J29 5 12 rfl rfl (Or.inl (o5 pa9 rfl pa16 rfl)) rfl ?_
      refine r_aret 6 rfl rfl (Or.inl ⟨_, rfl⟩) (rf_or _) ?_
      show Rn G mJ8_fixAfterInsertion 54 [(0, .ref a1), (1, .ref a2)] [va_rf p20] w _
      refine x_astoreP_n (p := p20) (lv' := [(2, va_rf p20), (0, .ref a1), (1, .ref a2)]) 24 55 rfl rfl (Nat.le_of_ble_eq_true rfl) (by cases p20 <;> rfl) ?_
      refine x_aloadP_n (p := p20) 25 56 0 rfl rfl rfl ?_
      cases p20 with
      | none =>
        refine r_callS lkS_J8_303 26 59 rfl rfl (by decide) [.null] rfl rfl (Nat.le_of_ble_eq_true rfl) (Nat.le_of_ble_eq_true rfl) ?_ (fun _ _ h => h)
        show Rn G mJ8_colorOf 0 [(0, .null)] [] w _
        refine r_aloadN_n 0 1 0 rfl rfl rfl ?_
        refine r_ifnonnullN 1 4 rfl rfl ?_
        refine r_iconst 2 5 rfl rfl di_1 ?_
        refine r_goto 3 12 rfl rfl ?_
        refine r_iret 6 rfl rfl (by decide) ?_
        show Rn G mJ8_fixAfterInsertion 59 [(2, .null), (0, .ref a1), (1, .ref a2)] [.int 1] w _
        refine r_if_ne 27 62 97 rfl rfl rfl (fun _ => ?_) (fun c => absurd c (by decide))
        exact r_sub [1, 2] rfl (k6 pa9 rfl pa16 rfl rfl)
      | some pa23 =>
        refine r_callS lkS_J8_303 26 59 rfl rfl (by decide) [.ref pa23] rfl rfl (Nat.le_of_ble_eq_true rfl) (Nat.le_of_ble_eq_true rfl) ?_ (fun _ _ h => h)
        show Rn G mJ8_colorOf 0 [(0, .ref pa23)] [] w _
        refine r_aload_n 0 1 0 rfl rfl rfl ?_
        refine r_ifnonnull 1 8 rfl rfl ?_
        refine r_aload_n 4 9 0 rfl rfl rfl ?_
        refine r_get (v := .int x29) fl_J8_290_J29 5 12 rfl rfl (Or.inl (o7 pa9 rfl pa16 rfl pa23 rfl)) rfl ?_
        refine r_iret 6 rfl rfl (q8 pa9 rfl pa16 rfl pa23 rfl) ?_
        show Rn G mJ8_fixAfterInsertion 59 [(2, .ref pa23), (0, .ref a1), (1, .ref a2)] [.int x29] w _
        refine r_if_ne 27 62 97 rfl rfl rfl (fun c4 => ?_) (fun c4 => ?_)
        · exact r_sub [1, 2] rfl (k9 pa9 rfl pa16 rfl pa23 rfl c4)
        · refine r_aload_n 28 63 2 rfl rfl rfl ?_
          refine r_callS lkS_J8_294 29 66 rfl rfl (by decide) [.ref a2] rfl rfl (Nat.le_of_ble_eq_true rfl) (Nat.le_of_ble_eq_true rfl) ?_ (fun _ _ h => h)
          show Rn G mJ8_parentOf 0 [(0, .ref a2)] [] w _
          refine r_aload_n 0 1 0 rfl rfl rfl ?_
          refine r_ifnonnull 1 8 rfl rfl ?_
          refine r_aload_n 4 9 0 rfl rfl rfl ?_
          refine r_get (v := .ref pa9) fl_J8_124_J29 5 12 rfl rfl o1 rfl ?_
          refine r_aret 6 rfl rfl (Or.inl ⟨_, rfl⟩) (Or.inr ⟨_, rfl⟩) ?_
          show Rn G mJ8_fixAfterInsertion 66 [(2, .ref pa23), (0, .ref a1), (1, .ref a2)] [.ref pa9] w _
          refine r_iconst 30 67 rfl rfl di_1 ?_
          refine r_callS lkS_J8_307 31 70 rfl rfl (by decide) [.ref pa9, .int 1] rfl rfl (Nat.le_of_ble_eq_true rfl) (Nat.le_of_ble_eq_true rfl) ?_ (fun _ _ h => h)
          show Rn G mJ8_setColor 0 [(0, .ref pa9), (1, .int 1)] [] w _
          refine r_aload_n 0 1 0 rfl rfl rfl ?_
          refine r_ifnull 1 4 rfl rfl ?_
          refine r_aload_n 2 5 0 rfl rfl rfl ?_
          refine r_iload_n 3 6 1 rfl rfl rfl ?_
          refine r_put (i := 5) fl_J8_290_J29 in_J29 q1328 (ty0 := tyJ29) tyJ29_ok nmJ29 4 9 rfl rfl (o3 pa9 rfl) rfl rfl rfl (Nat.le_of_ble_eq_true rfl) ?_
          show Rn G mJ8_setColor 9 [(0, .ref pa9), (1, .int 1)] [] (wset w pa9 (.inl (nJ29, [.ref a10, .ref a11, va_rf p12, va_rf p13, .ref pa16, .int 1]))) _
          refine r_vret 5 rfl rfl ?_
          show Rn G mJ8_fixAfterInsertion 70 [(2, .ref pa23), (0, .ref a1), (1, .ref a2)] [] (wset w pa9 (.inl (nJ29, [.ref a10, .ref a11, va_rf p12, va_rf p13, .ref pa16, .int 1]))) _
          refine r_aload_n 32 71 0 rfl rfl rfl ?_
          refine r_iconst 33 72 rfl rfl di_1 ?_
          refine r_callS lkS_J8_307 34 75 rfl rfl (by decide) [.ref pa23, .int 1] rfl rfl (Nat.le_of_ble_eq_true rfl) (Nat.le_of_ble_eq_true rfl) ?_ (fun _ _ h => h)
          show Rn G mJ8_setColor 0 [(0, .ref pa23), (1, .int 1)] [] (wset w pa9 (.inl (nJ29, [.ref a10, .ref a11, va_rf p12, va_rf p13, .ref pa16, .int 1]))) _
          refine r_aload_n 0 1 0 rfl rfl rfl ?_
          refine r_ifnull 1 4 rfl rfl ?_
          refine r_aload_n 2 5 0 rfl rfl rfl ?_
          refine r_iload_n 3 6 1 rfl rfl rfl ?_
          refine r_put (i := 5) fl_J8_290_J29 in_J29 q1328 (ty0 := tyJ29) tyJ29_ok nmJ29 4 9 rfl rfl (wset_n (o7 pa9 rfl pa16 rfl pa23 rfl) (ne10 pa9 rfl pa16 rfl pa23 rfl c4)) rfl rfl rfl (Nat.le_of_ble_eq_true rfl) ?_
          show Rn G mJ8_setColor 9 [(0, .ref pa23), (1, .int 1)] [] (wset (wset w pa9 (.inl (nJ29, [.ref a10, .ref a11, va_rf p12, va_rf p13, .ref pa16, .int 1]))) pa23 (.inl (nJ29, [.ref a24, .ref a25, va_rf p26, va_rf p27, va_rf p28, .int 1]))) _
          refine r_vret 5 rfl rfl ?_
          show Rn G mJ8_fixAfterInsertion 75 [(2, .ref pa23), (0, .ref a1), (1, .ref a2)] [] (wset (wset w pa9 (.inl (nJ29, [.ref a10, .ref a11, va_rf p12, va_rf p13, .ref pa16, .int 1]))) pa23 (.inl (nJ29, [.ref a24, .ref a25, va_rf p26, va_rf p27, va_rf p28, .int 1]))) _
          refine r_aload_n 35 76 2 rfl rfl rfl ?_
          refine r_callS lkS_J8_294 36 79 rfl rfl (by decide) [.ref a2] rfl rfl (Nat.le_of_ble_eq_true rfl) (Nat.le_of_ble_eq_true rfl) ?_ (fun _ _ h => h)
          show Rn G mJ8_parentOf 0 [(0, .ref a2)] [] (wset (wset w pa9 (.inl (nJ29, [.ref a10, .ref a11, va_rf p12, va_rf p13, .ref pa16, .int 1]))) pa23 (.inl (nJ29, [.ref a24, .ref a25, va_rf p26, va_rf p27, va_rf p28, .int 1]))) _
          refine r_aload_n 0 1 0 rfl rfl rfl ?_
          refine r_ifnonnull 1 8 rfl rfl ?_
          refine r_aload_n 4 9 0 rfl rfl rfl ?_
          refine r_get (v := .ref pa9) fl_J8_124_J29 5 12 rfl rfl (Lk.set_n (Lk.set_n o1 (ne11 pa9 rfl pa16 rfl pa23 rfl c4)) (ne12 pa9 rfl pa16 rfl pa23 rfl c4)) rfl ?_
          refine r_aret 6 rfl rfl (Or.inl ⟨_, rfl⟩) (Or.inr ⟨_, rfl⟩) ?_
          show Rn G mJ8_fixAfterInsertion 79 [(2, .ref pa23), (0, .ref a1), (1, .ref a2)] [.ref pa9] (wset (wset w pa9 (.inl (nJ29, [.ref a10, .ref a11, va_rf p12, va_rf p13, .ref pa16, .int 1]))) pa23 (.inl (nJ29, [.ref a24, .ref a25, va_rf p26, va_rf p27, va_rf p28, .int 1]))) _
          refine r_callS lkS_J8_294 37 82 rfl rfl (by decide) [.ref pa9] rfl rfl (Nat.le_of_ble_eq_true rfl) (Nat.le_of_ble_eq_true rfl) ?_ (fun _ _ h => h)
          show Rn G mJ8_parentOf 0 [(0, .ref pa9)] [] (wset (wset w pa9 (.inl (nJ29, [.ref a10, .ref a11, va_rf p12, va_rf p13, .ref pa16, .int 1]))) pa23 (.inl (nJ29, [.ref a24, .ref a25, va_rf p26, va_rf p27, va_rf p28, .int 1]))) _
          refine r_aload_n 0 1 0 rfl rfl rfl ?_
          refine r_ifnonnull 1 8 rfl rfl ?_
          refine r_aload_n 4 9 0 rfl rfl rfl ?_
          refine r_get (v := .ref pa16) fl_J8_124_J29 5 12 rfl rfl (Or.inl (wset_n wset_s (ne13 pa9 rfl pa16 rfl pa23 rfl c4))) rfl ?_
          refine r_aret 6 rfl rfl (Or.inl ⟨_, rfl⟩) (Or.inr ⟨_, rfl⟩) ?_
          show Rn G mJ8_fixAfterInsertion 82 [(2, .ref pa23), (0, .ref a1), (1, .ref a2)] [.ref pa16] (wset (wset w pa9 (.inl (nJ29, [.ref a10, .ref a11, va_rf p12, va_rf p13, .ref pa16, .int 1]))) pa23 (.inl (nJ29, [.ref a24, .ref a25, va_rf p26, va_rf p27, va_rf p28, .int 1]))) _
          refine r_iconst 38 83 rfl rfl di_0 ?_
          refine r_callS lkS_J8_307 39 86 rfl rfl (by decide) [.ref pa16, .int 0] rfl rfl (Nat.le_of_ble_eq_true rfl) (Nat.le_of_ble_eq_true rfl) ?_ (fun _ _ h => h)
          show Rn G mJ8_setColor 0 [(0, .ref pa16), (1, .int 0)] [] (wset (wset w pa9 (.inl (nJ29, [.ref a10, .ref a11, va_rf p12, va_rf p13, .ref pa16, .int 1]))) pa23 (.inl (nJ29, [.ref a24, .ref a25, va_rf p26, va_rf p27, va_rf p28, .int 1]))) _
          refine r_aload_n 0 1 0 rfl rfl rfl ?_
          refine r_ifnull 1 4 rfl rfl ?_
          refine r_aload_n 2 5 0 rfl rfl rfl ?_
          refine r_iload_n 3 6 1 rfl rfl rfl ?_
          refine r_put (i := 5) fl_J8_290_J29 in_J29 q1328 (ty0 := tyJ29) tyJ29_ok nmJ29 4 9 rfl rfl (wset_n (wset_n (o5 pa9 rfl pa16 rfl) (ne14 pa9 rfl pa16 rfl pa23 rfl c4)) (ne15 pa9 rfl pa16 rfl pa23 rfl c4)) rfl rfl rfl (Nat.le_of_ble_eq_true rfl) ?_
          show Rn G mJ8_setColor 9 [(0, .ref pa16), (1, .int 0)] [] (wset (wset (wset w pa9 (.inl (nJ29, [.ref a10, .ref a11, va_rf p12, va_rf p13, .ref pa16, .int 1]))) pa23 (.inl (nJ29, [.ref a24, .ref a25, va_rf p26, va_rf p27, va_rf p28, .int 1]))) pa16 (.inl (nJ29, [.ref a17, .ref a18, va_rf p19, .ref pa23, va_rf p21, .int 0]))) _
          refine r_vret 5 rfl rfl ?_
          show Rn G mJ8_fixAfterInsertion 86 [(2, .ref pa23), (0, .ref a1), (1, .ref a2)] [] (wset (wset (wset w pa9 (.inl (nJ29, [.ref a10, .ref a11, va_rf p12, va_rf p13, .ref pa16, .int 1]))) pa23 (.inl (nJ29, [.ref a24, .ref a25, va_rf p26, va_rf p27, va_rf p28, .int 1]))) pa16 (.inl (nJ29, [.ref a17, .ref a18, va_rf p19, .ref pa23, va_rf p21, .int 0]))) _
          refine r_aload_n 40 87 2 rfl rfl rfl ?_
          refine r_callS lkS_J8_294 41 90 rfl rfl (by decide) [.ref a2] rfl rfl (Nat.le_of_ble_eq_true rfl) (Nat.le_of_ble_eq_true rfl) ?_ (fun _ _ h => h)
          show Rn G mJ8_parentOf 0 [(0, .ref a2)] [] (wset (wset (wset w pa9 (.inl (nJ29, [.ref a10, .ref a11, va_rf p12, va_rf p13, .ref pa16, .int 1]))) pa23 (.inl (nJ29, [.ref a24, .ref a25, va_rf p26, va_rf p27, va_rf p28, .int 1]))) pa16 (.inl (nJ29, [.ref a17, .ref a18, va_rf p19, .ref pa23, va_rf p21, .int 0]))) _
          refine r_aload_n 0 1 0 rfl rfl rfl ?_
          refine r_ifnonnull 1 8 rfl rfl ?_
          refine r_aload_n 4 9 0 rfl rfl rfl ?_
          refine r_get (v := .ref pa9) fl_J8_124_J29 5 12 rfl rfl (Lk.set_n (Lk.set_n (Lk.set_n o1 (ne11 pa9 rfl pa16 rfl pa23 rfl c4)) (ne12 pa9 rfl pa16 rfl pa23 rfl c4)) (ne16 pa9 rfl pa16 rfl pa23 rfl c4)) rfl ?_
          refine r_aret 6 rfl rfl (Or.inl ⟨_, rfl⟩) (Or.inr ⟨_, rfl⟩) ?_
          show Rn G mJ8_fixAfterInsertion 90 [(2, .ref pa23), (0, .ref a1), (1, .ref a2)] [.ref pa9] (wset (wset (wset w pa9 (.inl (nJ29, [.ref a10, .ref a11, va_rf p12, va_rf p13, .ref pa16, .int 1]))) pa23 (.inl (nJ29, [.ref a24, .ref a25, va_rf p26, va_rf p27, va_rf p28, .int 1]))) pa16 (.inl (nJ29, [.ref a17, .ref a18, va_rf p19, .ref pa23, va_rf p21, .int 0]))) _
          refine r_callS lkS_J8_294 42 93 rfl rfl (by decide) [.ref pa9] rfl rfl (Nat.le_of_ble_eq_true rfl) (Nat.le_of_ble_eq_true rfl) ?_ (fun _ _ h => h)
          show Rn G mJ8_parentOf 0 [(0, .ref pa9)] [] (wset (wset (wset w pa9 (.inl (nJ29, [.ref a10, .ref a11, va_rf p12, va_rf p13, .ref pa16, .int 1]))) pa23 (.inl (nJ29, [.ref a24, .ref a25, va_rf p26, va_rf p27, va_rf p28, .int 1]))) pa16 (.inl (nJ29, [.ref a17, .ref a18, va_rf p19, .ref pa23, va_rf p21, .int 0]))) _
          refine r_aload_n 0 1 0 rfl rfl rfl ?_
          refine r_ifnonnull 1 8 rfl rfl ?_
          refine r_aload_n 4 9 0 rfl rfl rfl ?_
          refine r_get (v := .ref pa16) fl_J8_124_J29 5 12 rfl rfl (Or.inl (wset_n (wset_n wset_s (ne13 pa9 rfl pa16 rfl pa23 rfl c4)) (ne17 pa9 rfl pa16 rfl pa23 rfl c4))) rfl ?_
          refine r_aret 6 rfl rfl (Or.inl ⟨_, rfl⟩) (Or.inr ⟨_, rfl⟩) ?_
          show Rn G mJ8_fixAfterInsertion 93 [(2, .ref pa23), (0, .ref a1), (1, .ref a2)] [.ref pa16] (wset (wset (wset w pa9 (.inl (nJ29, [.ref a10, .ref a11, va_rf p12, va_rf p13, .ref pa16, .int 1]))) pa23 (.inl (nJ29, [.ref a24, .ref a25, va_rf p26, va_rf p27, va_rf p28, .int 1]))) pa16 (.inl (nJ29, [.ref a17, .ref a18, va_rf p19, .ref pa23, va_rf p21, .int 0]))) _
          refine r_astore_n (lv' := [(1, .ref pa16), (2, .ref pa23), (0, .ref a1)]) 43 94 rfl rfl (Nat.le_of_ble_eq_true rfl) rfl ?_
          refine r_goto 44 148 rfl rfl ?_
          refine r_goto 70 5 rfl rfl ?_
          exact r_sub [2, 0] rfl (k18 pa9 rfl pa16 rfl pa23 rfl c4)
theorem e_J8_fixAfterInsertion_204 {G : Gm} {κ : Nat → Nat} {φ : Nat → Option Nat} (hS : GS G κ φ) {w : Wd} {Q : Rs → Wd → Prop} {a1 : Nat} {a2 : Nat} {a3 : Nat} {a4 : Nat} {p5 : Option Nat} {p6 : Option Nat} {p7 : Option Nat} {x8 : Int32} {a10 : Nat} {a11 : Nat} {p12 : Option Nat} {p13 : Option Nat} {p14 : Option Nat} {x15 : Int32} {p17 : Option Nat} {p18 : Option Nat} {p19 : Option Nat} {m20 : Nat} {x21 : Int32} {p22 : Option Nat} {p23 : Option Nat} {p24 : Option Nat} (o1 : Lk G w a2 (.inl (nJ29, [.ref a3, .ref a4, va_rf p5, va_rf p6, va_rf p7, .int x8]))) (k2 : p7 = none → Rn G mJ8_fixAfterInsertion 225 [(0, .ref a1), (1, .ref a2)] [] w Q) (o3 : ∀ pa9 : Nat, p7 = some pa9 → Lk G w pa9 (.inl (nJ29, [.ref a10, .ref a11, va_rf p12, va_rf p13, va_rf p14, .int x15]))) (k4 : ∀ pa9 : Nat, p7 = some pa9 → p12 = none → Rn G mJ8_fixAfterInsertion 225 [(0, .ref a1), (1, .ref a2)] [] w Q) (k5 : ∀ pa9 : Nat, p7 = some pa9 → ∀ pa16 : Nat, p12 = some pa16 → ¬ a2 = pa16 → Rn G mJ8_fixAfterInsertion 225 [(0, .ref a1), (1, .ref a2)] [] w Q) (o6 : Lk G w a1 (.inl (nJ8, [va_rf p17, va_rf p18, .null, va_rf p19, .int (nI m20), .int x21, va_rf p22, va_rf p23, va_rf p24]))) {Q7 : Rs → Wd → Prop} (e7 : ∀ pa9 : Nat, p7 = some pa9 → ∀ pa16 : Nat, p12 = some pa16 → a2 = pa16 → Ev G mJ8_rotateRight [.ref a1, .ref pa9] w Q7) (k7 : ∀ pa9 : Nat, p7 = some pa9 → ∀ pa16 : Nat, p12 = some pa16 → a2 = pa16 → ∀ r w', Q7 r w' → Af G mJ8_fixAfterInsertion 222 225 [(0, .ref a1), (1, .ref pa9)] [] r w' Q) : Rn G mJ8_fixAfterInsertion 204 [(0, .ref a1), (1, .ref a2)] [] w Q := by
  refine r_aload_n 96 205 1 rfl rfl rfl ?_
  refine r_aload_n 97 206 1 rfl rfl rfl ?_
  refine r_callS lkS_J8_294 98 209 rfl rfl (by decide) [.ref a2] rfl rfl (Nat.le_of_ble_eq_true rfl) (Nat.le_of_ble_eq_true rfl) ?_ (fun _ _ h => h)
  show Rn G mJ8_parentOf 0 [(0, .ref a2)] [] w _
  refine r_aload_n 0 1 0 rfl rfl rfl ?_
  refine r_ifnonnull 1 8 rfl rfl ?_
  refine r_aload_n 4 9 0 rfl rfl rfl ?_
  refine r_get (v := va_rf p7) fl_J8_124_J29 5 12 rfl rfl o1 rfl ?_
  refine r_aret 6 rfl rfl (Or.inl ⟨_, rfl⟩) (rf_or _) ?_
  show Rn G mJ8_fixAfterInsertion 209 [(0, .ref a1), (1, .ref a2)] [va_rf p7, .ref a2] w _
  cases p7 with
  | none =>
    refine r_callS lkS_J8_297 99 212 rfl rfl (by decide) [.null] rfl rfl (Nat.le_of_ble_eq_true rfl) (Nat.le_of_ble_eq_true rfl) ?_ (fun _ _ h => h)
    show Rn G mJ8_leftOf 0 [(0, .null)] [] w _
    refine r_aloadN_n 0 1 0 rfl rfl rfl ?_
    refine r_ifnonnullN 1 4 rfl rfl ?_
    refine r_null 2 5 rfl rfl ?_
    refine r_goto 3 12 rfl rfl ?_
    refine r_aret 6 rfl rfl (Or.inl ⟨_, rfl⟩) (Or.inl rfl) ?_
    show Rn G mJ8_fixAfterInsertion 212 [(0, .ref a1), (1, .ref a2)] [.null, .ref a2] w _
    refine r_acmp_ne (rx := (some a2)) (ry := none) 100 215 225 rfl rfl rfl rfl rfl (fun _ => ?_) (fun h => by cases h)
    exact (k2 rfl)
  | some pa9 =>
    refine r_callS lkS_J8_297 99 212 rfl rfl (by decide) [.ref pa9] rfl rfl (Nat.le_of_ble_eq_true rfl) (Nat.le_of_ble_eq_true rfl) ?_ (fun _ _ h => h)
    show Rn G mJ8_leftOf 0 [(0, .ref pa9)] [] w _
    refine r_aload_n 0 1 0 rfl rfl rfl ?_
    refine r_ifnonnull 1 8 rfl rfl ?_
    refine r_aload_n 4 9 0 rfl rfl rfl ?_
    refine r_get (v := va_rf p12) fl_J8_111_J29 5 12 rfl rfl (o3 pa9 rfl) rfl ?_
    refine r_aret 6 rfl rfl (Or.inl ⟨_, rfl⟩) (rf_or _) ?_
    show Rn G mJ8_fixAfterInsertion 212 [(0, .ref a1), (1, .ref a2)] [va_rf p12, .ref a2] w _
    cases p12 with
    | none =>
      refine r_acmp_ne (rx := (some a2)) (ry := none) 100 215 225 rfl rfl rfl rfl rfl (fun _ => ?_) (fun h => by cases h)
      exact (k4 pa9 rfl rfl)
    | some pa16 =>
      refine r_acmp_ne (rx := (some a2)) (ry := (some pa16)) 100 215 225 rfl rfl rfl rfl rfl (fun c3 => ?_) (fun c3 => ?_)
      · exact (k5 pa9 rfl pa16 rfl (fun h => c3 (congrArg some h)))
      · refine r_aload_n 101 216 1 rfl rfl rfl ?_
        refine r_callS lkS_J8_294 102 219 rfl rfl (by decide) [.ref a2] rfl rfl (Nat.le_of_ble_eq_true rfl) (Nat.le_of_ble_eq_true rfl) ?_ (fun _ _ h => h)
        show Rn G mJ8_parentOf 0 [(0, .ref a2)] [] w _
        refine r_aload_n 0 1 0 rfl rfl rfl ?_
        refine r_ifnonnull 1 8 rfl rfl ?_
        refine r_aload_n 4 9 0 rfl rfl rfl ?_
        refine r_get (v := .ref pa9) fl_J8_124_J29 5 12 rfl rfl o1 rfl ?_
        refine r_aret 6 rfl rfl (Or.inl ⟨_, rfl⟩) (Or.inr ⟨_, rfl⟩) ?_
        show Rn G mJ8_fixAfterInsertion 219 [(0, .ref a1), (1, .ref a2)] [.ref pa9] w _
        refine r_astore_n (lv' := [(1, .ref pa9), (0, .ref a1)]) 103 220 rfl rfl (Nat.le_of_ble_eq_true rfl) rfl ?_
        refine r_aload_n 104 221 1 rfl rfl rfl ?_
        refine r_aload_n 105 222 0 rfl rfl rfl ?_
        exact r_callV lkV_J8_314_J8 (C := RJ8) (TT := TJ8) (NN := 9) rfl o6 106 225 rfl rfl (by decide) [.ref pa9] rfl rfl (Nat.le_of_ble_eq_true rfl) (Nat.le_of_ble_eq_true rfl) (e7 pa9 rfl pa16 rfl (Option.some.inj c3)) (fun r w' h => Af.sub [1, 0] rfl ((k7 pa9 rfl pa16 rfl (Option.some.inj c3)) r w' h))
theorem e_J8_fixAfterInsertion_97 {G : Gm} {κ : Nat → Nat} {φ : Nat → Option Nat} (hS : GS G κ φ) {w : Wd} {Q : Rs → Wd → Prop} {a1 : Nat} {a2 : Nat} {a3 : Nat} {a4 : Nat} {p5 : Option Nat} {p6 : Option Nat} {p7 : Option Nat} {x8 : Int32} {a10 : Nat} {a11 : Nat} {p12 : Option Nat} {p13 : Option Nat} {p14 : Option Nat} {x15 : Int32} {p17 : Option Nat} {p18 : Option Nat} {p19 : Option Nat} {m20 : Nat} {x21 : Int32} {p22 : Option Nat} {p23 : Option Nat} {p24 : Option Nat} (o1 : Lk G w a2 (.inl (nJ29, [.ref a3, .ref a4, va_rf p5, va_rf p6, va_rf p7, .int x8]))) (k2 : p7 = none → Rn G mJ8_fixAfterInsertion 118 [(0, .ref a1), (1, .ref a2)] [] w Q) (o3 : ∀ pa9 : Nat, p7 = some pa9 → Lk G w pa9 (.inl (nJ29, [.ref a10, .ref a11, va_rf p12, va_rf p13, va_rf p14, .int x15]))) (k4 : ∀ pa9 : Nat, p7 = some pa9 → p13 = none → Rn G mJ8_fixAfterInsertion 118 [(0, .ref a1), (1, .ref a2)] [] w Q) (k5 : ∀ pa9 : Nat, p7 = some pa9 → ∀ pa16 : Nat, p13 = some pa16 → ¬ a2 = pa16 → Rn G mJ8_fixAfterInsertion 118 [(0, .ref a1), (1, .ref a2)] [] w Q) (o6 : Lk G w a1 (.inl (nJ8, [va_rf p17, va_rf p18, .null, va_rf p19, .int (nI m20), .int x21, va_rf p22, va_rf p23, va_rf p24]))) {Q7 : Rs → Wd → Prop} (e7 : ∀ pa9 : Nat, p7 = some pa9 → ∀ pa16 : Nat, p13 = some pa16 → a2 = pa16 → Ev G mJ8_rotateLeft [.ref a1, .ref pa9] w Q7) (k7 : ∀ pa9 : Nat, p7 = some pa9 → ∀ pa16 : Nat, p13 = some pa16 → a2 = pa16 → ∀ r w', Q7 r w' → Af G mJ8_fixAfterInsertion 115 118 [(0, .ref a1), (1, .ref pa9)] [] r w' Q) : Rn G mJ8_fixAfterInsertion 97 [(0, .ref a1), (1, .ref a2)] [] w Q := by
  refine r_aload_n 45 98 1 rfl rfl rfl ?_
  refine r_aload_n 46 99 1 rfl rfl rfl ?_
  refine r_callS lkS_J8_294 47 102 rfl rfl (by decide) [.ref a2] rfl rfl (Nat.le_of_ble_eq_true rfl) (Nat.le_of_ble_eq_true rfl) ?_ (fun _ _ h => h)
  show Rn G mJ8_parentOf 0 [(0, .ref a2)] [] w _
  refine r_aload_n 0 1 0 rfl rfl rfl ?_
  refine r_ifnonnull 1 8 rfl rfl ?_
  refine r_aload_n 4 9 0 rfl rfl rfl ?_
  refine r_get (v := va_rf p7) fl_J8_124_J29 5 12 rfl rfl o1 rfl ?_
  refine r_aret 6 rfl rfl (Or.inl ⟨_, rfl⟩) (rf_or _) ?_
  show Rn G mJ8_fixAfterInsertion 102 [(0, .ref a1), (1, .ref a2)] [va_rf p7, .ref a2] w _
  cases p7 with
  | none =>
    refine r_callS lkS_J8_300 48 105 rfl rfl (by decide) [.null] rfl rfl (Nat.le_of_ble_eq_true rfl) (Nat.le_of_ble_eq_true rfl) ?_ (fun _ _ h => h)
    show Rn G mJ8_rightOf 0 [(0, .null)] [] w _
    refine r_aloadN_n 0 1 0 rfl rfl rfl ?_
    refine r_ifnonnullN 1 4 rfl rfl ?_
    refine r_null 2 5 rfl rfl ?_
    refine r_goto 3 12 rfl rfl ?_
    refine r_aret 6 rfl rfl (Or.inl ⟨_, rfl⟩) (Or.inl rfl) ?_
    show Rn G mJ8_fixAfterInsertion 105 [(0, .ref a1), (1, .ref a2)] [.null, .ref a2] w _
    refine r_acmp_ne (rx := (some a2)) (ry := none) 49 108 118 rfl rfl rfl rfl rfl (fun _ => ?_) (fun h => by cases h)
    exact (k2 rfl)
  | some pa9 =>
    refine r_callS lkS_J8_300 48 105 rfl rfl (by decide) [.ref pa9] rfl rfl (Nat.le_of_ble_eq_true rfl) (Nat.le_of_ble_eq_true rfl) ?_ (fun _ _ h => h)
    show Rn G mJ8_rightOf 0 [(0, .ref pa9)] [] w _
    refine r_aload_n 0 1 0 rfl rfl rfl ?_
    refine r_ifnonnull 1 8 rfl rfl ?_
    refine r_aload_n 4 9 0 rfl rfl rfl ?_
    refine r_get (v := va_rf p13) fl_J8_114_J29 5 12 rfl rfl (o3 pa9 rfl) rfl ?_
    refine r_aret 6 rfl rfl (Or.inl ⟨_, rfl⟩) (rf_or _) ?_
    show Rn G mJ8_fixAfterInsertion 105 [(0, .ref a1), (1, .ref a2)] [va_rf p13, .ref a2] w _
    cases p13 with
    | none =>
      refine r_acmp_ne (rx := (some a2)) (ry := none) 49 108 118 rfl rfl rfl rfl rfl (fun _ => ?_) (fun h => by cases h)
      exact (k4 pa9 rfl rfl)
    | some pa16 =>
      refine r_acmp_ne (rx := (some a2)) (ry := (some pa16)) 49 108 118 rfl rfl rfl rfl rfl (fun c3 => ?_) (fun c3 => ?_)
      · exact (k5 pa9 rfl pa16 rfl (fun h => c3 (congrArg some h)))
      · refine r_aload_n 50 109 1 rfl rfl rfl ?_
        refine r_callS lkS_J8_294 51 112 rfl rfl (by decide) [.ref a2] rfl rfl (Nat.le_of_ble_eq_true rfl) (Nat.le_of_ble_eq_true rfl) ?_ (fun _ _ h => h)
        show Rn G mJ8_parentOf 0 [(0, .ref a2)] [] w _
        refine r_aload_n 0 1 0 rfl rfl rfl ?_
        refine r_ifnonnull 1 8 rfl rfl ?_
        refine r_aload_n 4 9 0 rfl rfl rfl ?_
        refine r_get (v := .ref pa9) fl_J8_124_J29 5 12 rfl rfl o1 rfl ?_
        refine r_aret 6 rfl rfl (Or.inl ⟨_, rfl⟩) (Or.inr ⟨_, rfl⟩) ?_
        show Rn G mJ8_fixAfterInsertion 112 [(0, .ref a1), (1, .ref a2)] [.ref pa9] w _
        refine r_astore_n (lv' := [(1, .ref pa9), (0, .ref a1)]) 52 113 rfl rfl (Nat.le_of_ble_eq_true rfl) rfl ?_
        refine r_aload_n 53 114 1 rfl rfl rfl ?_
        refine r_aload_n 54 115 0 rfl rfl rfl ?_
        exact r_callV lkV_J8_311_J8 (C := RJ8) (TT := TJ8) (NN := 9) rfl o6 55 118 rfl rfl (by decide) [.ref pa9] rfl rfl (Nat.le_of_ble_eq_true rfl) (Nat.le_of_ble_eq_true rfl) (e7 pa9 rfl pa16 rfl (Option.some.inj c3)) (fun r w' h => Af.sub [1, 0] rfl ((k7 pa9 rfl pa16 rfl (Option.some.inj c3)) r w' h))
theorem e_J8_fixAfterInsertion_225 {G : Gm} {κ : Nat → Nat} {φ : Nat → Option Nat} (hS : GS G κ φ) {w : Wd} {Q : Rs → Wd → Prop} {a1 : Nat} {a2 : Nat} {a3 : Nat} {a4 : Nat} {p5 : Option Nat} {p6 : Option Nat} {p7 : Option Nat} {x8 : Int32} {p10 : Option Nat} {p11 : Option Nat} {p12 : Option Nat} {m13 : Nat} {x14 : Int32} {p15 : Option Nat} {p16 : Option Nat} {p17 : Option Nat} {a18 : Nat} {a19 : Nat} {p20 : Option Nat} {p21 : Option Nat} {p22 : Option Nat} {x23 : Int32} {a25 : Nat} {a26 : Nat} {p27 : Option Nat} {p28 : Option Nat} {p29 : Option Nat} {x30 : Int32} (o1 : Lk G w a2 (.inl (nJ29, [.ref a3, .ref a4, va_rf p5, va_rf p6, va_rf p7, .int x8]))) (o2 : Lk G w a1 (.inl (nJ8, [va_rf p10, va_rf p11, .null, va_rf p12, .int (nI m13), .int x14, va_rf p15, va_rf p16, va_rf p17]))) {Q3 : Rs → Wd → Prop} (e3 : p7 = none → Ev G mJ8_rotateLeft [.ref a1, .null] w Q3) (k3 : p7 = none → ∀ r w', Q3 r w' → Af G mJ8_fixAfterInsertion 252 255 [(0, .ref a1), (1, .ref a2)] [] r w' Q) (o4 : ∀ pa9 : Nat, p7 = some pa9 → w.1 pa9 = some (.inl (nJ29, [.ref a18, .ref a19, va_rf p20, va_rf p21, va_rf p22, .int x23]))) (ne5 : ∀ pa9 : Nat, p7 = some pa9 → a2 ≠ pa9) {Q6 : Rs → Wd → Prop} (e6 : ∀ pa9 : Nat, p7 = some pa9 → p22 = none → Ev G mJ8_rotateLeft [.ref a1, .null] (wset w pa9 (.inl (nJ29, [.ref a18, .ref a19, va_rf p20, va_rf p21, .null, .int 1]))) Q6) (k6 : ∀ pa9 : Nat, p7 = some pa9 → p22 = none → ∀ r w', Q6 r w' → Af G mJ8_fixAfterInsertion 252 255 [(0, .ref a1), (1, .ref a2)] [] r w' Q) (o7 : ∀ pa9 : Nat, p7 = some pa9 → ∀ pa24 : Nat, p22 = some pa24 → w.1 pa24 = some (.inl (nJ29, [.ref a25, .ref a26, va_rf p27, va_rf p28, va_rf p29, .int x30]))) (ne8 : ∀ pa9 : Nat, p7 = some pa9 → ∀ pa24 : Nat, p22 = some pa24 → pa24 ≠ pa9) (ne9 : ∀ pa9 : Nat, p7 = some pa9 → ∀ pa24 : Nat, p22 = some pa24 → a2 ≠ pa24) (ne10 : ∀ pa9 : Nat, p7 = some pa9 → ∀ pa24 : Nat, p22 = some pa24 → pa9 ≠ pa24) {Q11 : Rs → Wd → Prop} (e11 : ∀ pa9 : Nat, p7 = some pa9 → ∀ pa24 : Nat, p22 = some pa24 → Ev G mJ8_rotateLeft [.ref a1, .ref pa24] (wset (wset w pa9 (.inl (nJ29, [.ref a18, .ref a19, va_rf p20, va_rf p21, .ref pa24, .int 1]))) pa24 (.inl (nJ29, [.ref a25, .ref a26, va_rf p27, va_rf p28, va_rf p29, .int 0]))) Q11) (k11 : ∀ pa9 : Nat, p7 = some pa9 → ∀ pa24 : Nat, p22 = some pa24 → ∀ r w', Q11 r w' → Af G mJ8_fixAfterInsertion 252 255 [(0, .ref a1), (1, .ref a2)] [] r w' Q) : Rn G mJ8_fixAfterInsertion 225 [(0, .ref a1), (1, .ref a2)] [] w Q := by
  refine Rn.wok fun hwk => ?_
  refine r_aload_n 107 226 1 rfl rfl rfl ?_
  refine r_callS lkS_J8_294 108 229 rfl rfl (by decide) [.ref a2] rfl rfl (Nat.le_of_ble_eq_true rfl) (Nat.le_of_ble_eq_true rfl) ?_ (fun _ _ h => h)
  show Rn G mJ8_parentOf 0 [(0, .ref a2)] [] w _
  refine r_aload_n 0 1 0 rfl rfl rfl ?_
  refine r_ifnonnull 1 8 rfl rfl ?_
  refine r_aload_n 4 9 0 rfl rfl rfl ?_
  refine r_get (v := va_rf p7) fl_J8_124_J29 5 12 rfl rfl o1 rfl ?_
  refine r_aret 6 rfl rfl (Or.inl ⟨_, rfl⟩) (rf_or _) ?_
  show Rn G mJ8_fixAfterInsertion 229 [(0, .ref a1), (1, .ref a2)] [va_rf p7] w _
  refine r_iconst 109 230 rfl rfl di_1 ?_
  cases p7 with
  | none =>
    refine r_callS lkS_J8_307 110 233 rfl rfl (by decide) [.null, .int 1] rfl rfl (Nat.le_of_ble_eq_true rfl) (Nat.le_of_ble_eq_true rfl) ?_ (fun _ _ h => h)
    show Rn G mJ8_setColor 0 [(0, .null), (1, .int 1)] [] w _
    refine r_aloadN_n 0 1 0 rfl rfl rfl ?_
    refine r_ifnullN 1 9 rfl rfl ?_
    refine r_vret 5 rfl rfl ?_
    show Rn G mJ8_fixAfterInsertion 233 [(0, .ref a1), (1, .ref a2)] [] w _
    refine r_aload_n 111 234 1 rfl rfl rfl ?_
    refine r_callS lkS_J8_294 112 237 rfl rfl (by decide) [.ref a2] rfl rfl (Nat.le_of_ble_eq_true rfl) (Nat.le_of_ble_eq_true rfl) ?_ (fun _ _ h => h)
    show Rn G mJ8_parentOf 0 [(0, .ref a2)] [] w _
    refine r_aload_n 0 1 0 rfl rfl rfl ?_
    refine r_ifnonnull 1 8 rfl rfl ?_
    refine r_aload_n 4 9 0 rfl rfl rfl ?_
    refine r_get (v := .null) fl_J8_124_J29 5 12 rfl rfl o1 rfl ?_
    refine r_aret 6 rfl rfl (Or.inl ⟨_, rfl⟩) (Or.inl rfl) ?_
    show Rn G mJ8_fixAfterInsertion 237 [(0, .ref a1), (1, .ref a2)] [.null] w _
    refine r_callS lkS_J8_294 113 240 rfl rfl (by decide) [.null] rfl rfl (Nat.le_of_ble_eq_true rfl) (Nat.le_of_ble_eq_true rfl) ?_ (fun _ _ h => h)
    show Rn G mJ8_parentOf 0 [(0, .null)] [] w _
    refine r_aloadN_n 0 1 0 rfl rfl rfl ?_
    refine r_ifnonnullN 1 4 rfl rfl ?_
    refine r_null 2 5 rfl rfl ?_
    refine r_goto 3 12 rfl rfl ?_
    refine r_aret 6 rfl rfl (Or.inl ⟨_, rfl⟩) (Or.inl rfl) ?_
    show Rn G mJ8_fixAfterInsertion 240 [(0, .ref a1), (1, .ref a2)] [.null] w _
    refine r_iconst 114 241 rfl rfl di_0 ?_
    refine r_callS lkS_J8_307 115 244 rfl rfl (by decide) [.null, .int 0] rfl rfl (Nat.le_of_ble_eq_true rfl) (Nat.le_of_ble_eq_true rfl) ?_ (fun _ _ h => h)
    show Rn G mJ8_setColor 0 [(0, .null), (1, .int 0)] [] w _
    refine r_aloadN_n 0 1 0 rfl rfl rfl ?_
    refine r_ifnullN 1 9 rfl rfl ?_
    refine r_vret 5 rfl rfl ?_
    show Rn G mJ8_fixAfterInsertion 244 [(0, .ref a1), (1, .ref a2)] [] w _
    refine r_aload_n 116 245 0 rfl rfl rfl ?_
    refine r_aload_n 117 246 1 rfl rfl rfl ?_
    refine r_callS lkS_J8_294 118 249 rfl rfl (by decide) [.ref a2] rfl rfl (Nat.le_of_ble_eq_true rfl) (Nat.le_of_ble_eq_true rfl) ?_ (fun _ _ h => h)
    show Rn G mJ8_parentOf 0 [(0, .ref a2)] [] w _
    refine r_aload_n 0 1 0 rfl rfl rfl ?_
    refine r_ifnonnull 1 8 rfl rfl ?_
    refine r_aload_n 4 9 0 rfl rfl rfl ?_
    refine r_get (v := .null) fl_J8_124_J29 5 12 rfl rfl o1 rfl ?_
    refine r_aret 6 rfl rfl (Or.inl ⟨_, rfl⟩) (Or.inl rfl) ?_
    show Rn G mJ8_fixAfterInsertion 249 [(0, .ref a1), (1, .ref a2)] [.null, .ref a1] w _
    refine r_callS lkS_J8_294 119 252 rfl rfl (by decide) [.null] rfl rfl (Nat.le_of_ble_eq_true rfl) (Nat.le_of_ble_eq_true rfl) ?_ (fun _ _ h => h)
    show Rn G mJ8_parentOf 0 [(0, .null)] [] w _
    refine r_aloadN_n 0 1 0 rfl rfl rfl ?_
    refine r_ifnonnullN 1 4 rfl rfl ?_
    refine r_null 2 5 rfl rfl ?_
    refine r_goto 3 12 rfl rfl ?_
    refine r_aret 6 rfl rfl (Or.inl ⟨_, rfl⟩) (Or.inl rfl) ?_
    show Rn G mJ8_fixAfterInsertion 252 [(0, .ref a1), (1, .ref a2)] [.null, .ref a1] w _
    exact r_callV lkV_J8_311_J8 (C := RJ8) (TT := TJ8) (NN := 9) rfl o2 120 255 rfl rfl (by decide) [.null] rfl rfl (Nat.le_of_ble_eq_true rfl) (Nat.le_of_ble_eq_true rfl) (e3 rfl) (fun r w' h => Af.sub [0, 1] rfl ((k3 rfl) r w' h))
  | some pa9 =>
    refine r_callS lkS_J8_307 110 233 rfl rfl (by decide) [.ref pa9, .int 1] rfl rfl (Nat.le_of_ble_eq_true rfl) (Nat.le_of_ble_eq_true rfl) ?_ (fun _ _ h => h)
    show Rn G mJ8_setColor 0 [(0, .ref pa9), (1, .int 1)] [] w _
    refine r_aload_n 0 1 0 rfl rfl rfl ?_
    refine r_ifnull 1 4 rfl rfl ?_
    refine r_aload_n 2 5 0 rfl rfl rfl ?_
    refine r_iload_n 3 6 1 rfl rfl rfl ?_
    refine r_put (i := 5) fl_J8_290_J29 in_J29 q1328 (ty0 := tyJ29) tyJ29_ok nmJ29 4 9 rfl rfl (o4 pa9 rfl) rfl rfl rfl (Nat.le_of_ble_eq_true rfl) ?_
    show Rn G mJ8_setColor 9 [(0, .ref pa9), (1, .int 1)] [] (wset w pa9 (.inl (nJ29, [.ref a18, .ref a19, va_rf p20, va_rf p21, va_rf p22, .int 1]))) _
    refine r_vret 5 rfl rfl ?_
    show Rn G mJ8_fixAfterInsertion 233 [(0, .ref a1), (1, .ref a2)] [] (wset w pa9 (.inl (nJ29, [.ref a18, .ref a19, va_rf p20, va_rf p21, va_rf p22, .int 1]))) _
    refine r_aload_n 111 234 1 rfl rfl rfl ?_
    refine r_callS lkS_J8_294 112 237 rfl rfl (by decide) [.ref a2] rfl rfl (Nat.le_of_ble_eq_true rfl) (Nat.le_of_ble_eq_true rfl) ?_ (fun _ _ h => h)
    show Rn G mJ8_parentOf 0 [(0, .ref a2)] [] (wset w pa9 (.inl (nJ29, [.ref a18, .ref a19, va_rf p20, va_rf p21, va_rf p22, .int 1]))) _
    refine r_aload_n 0 1 0 rfl rfl rfl ?_
    refine r_ifnonnull 1 8 rfl rfl ?_
    refine r_aload_n 4 9 0 rfl rfl rfl ?_
    refine r_get (v := .ref pa9) fl_J8_124_J29 5 12 rfl rfl (Lk.set_n o1 (ne5 pa9 rfl)) rfl ?_
    refine r_aret 6 rfl rfl (Or.inl ⟨_, rfl⟩) (Or.inr ⟨_, rfl⟩) ?_
    show Rn G mJ8_fixAfterInsertion 237 [(0, .ref a1), (1, .ref a2)] [.ref pa9] (wset w pa9 (.inl (nJ29, [.ref a18, .ref a19, va_rf p20, va_rf p21, va_rf p22, .int 1]))) _
    refine r_callS lkS_J8_294 113 240 rfl rfl (by decide) [.ref pa9] rfl rfl (Nat.le_of_ble_eq_true rfl) (Nat.le_of_ble_eq_true rfl) ?_ (fun _ _ h => h)
    show Rn G mJ8_parentOf 0 [(0, .ref pa9)] [] (wset w pa9 (.inl (nJ29, [.ref a18, .ref a19, va_rf p20, va_rf p21, va_rf p22, .int 1]))) _
    refine r_aload_n 0 1 0 rfl rfl rfl ?_
    refine r_ifnonnull 1 8 rfl rfl ?_
    refine r_aload_n 4 9 0 rfl rfl rfl ?_
    refine r_get (v := va_rf p22) fl_J8_124_J29 5 12 rfl rfl (Or.inl wset_s) rfl ?_
    refine r_aret 6 rfl rfl (Or.inl ⟨_, rfl⟩) (rf_or _) ?_
    show Rn G mJ8_fixAfterInsertion 240 [(0, .ref a1), (1, .ref a2)] [va_rf p22] (wset w pa9 (.inl (nJ29, [.ref a18, .ref a19, va_rf p20, va_rf p21, va_rf p22, .int 1]))) _
    refine r_iconst 114 241 rfl rfl di_0 ?_
    cases p22 with
    | none =>
      refine r_callS lkS_J8_307 115 244 rfl rfl (by decide) [.null, .int 0] rfl rfl (Nat.le_of_ble_eq_true rfl) (Nat.le_of_ble_eq_true rfl) ?_ (fun _ _ h => h)
      show Rn G mJ8_setColor 0 [(0, .null), (1, .int 0)] [] (wset w pa9 (.inl (nJ29, [.ref a18, .ref a19, va_rf p20, va_rf p21, .null, .int 1]))) _
      refine r_aloadN_n 0 1 0 rfl rfl rfl ?_
      refine r_ifnullN 1 9 rfl rfl ?_
      refine r_vret 5 rfl rfl ?_
      show Rn G mJ8_fixAfterInsertion 244 [(0, .ref a1), (1, .ref a2)] [] (wset w pa9 (.inl (nJ29, [.ref a18, .ref a19, va_rf p20, va_rf p21, .null, .int 1]))) _
      refine r_aload_n 116 245 0 rfl rfl rfl ?_
      refine r_aload_n 117 246 1 rfl rfl rfl ?_
      refine r_callS lkS_J8_294 118 249 rfl rfl (by decide) [.ref a2] rfl rfl (Nat.le_of_ble_eq_true rfl) (Nat.le_of_ble_eq_true rfl) ?_ (fun _ _ h => h)
      show Rn G mJ8_parentOf 0 [(0, .ref a2)] [] (wset w pa9 (.inl (nJ29, [.ref a18, .ref a19, va_rf p20, va_rf p21, .null, .int 1]))) _
      refine r_aload_n 0 1 0 rfl rfl rfl ?_
      refine r_ifnonnull 1 8 rfl rfl ?_
      refine r_aload_n 4 9 0 rfl rfl rfl ?_
      refine r_get (v := .ref pa9) fl_J8_124_J29 5 12 rfl rfl (Lk.set_n o1 (ne5 pa9 rfl)) rfl ?_
      refine r_aret 6 rfl rfl (Or.inl ⟨_, rfl⟩) (Or.inr ⟨_, rfl⟩) ?_
      show Rn G mJ8_fixAfterInsertion 249 [(0, .ref a1), (1, .ref a2)] [.ref pa9, .ref a1] (wset w pa9 (.inl (nJ29, [.ref a18, .ref a19, va_rf p20, va_rf p21, .null, .int 1]))) _
      refine r_callS lkS_J8_294 119 252 rfl rfl (by decide) [.ref pa9] rfl rfl (Nat.le_of_ble_eq_true rfl) (Nat.le_of_ble_eq_true rfl) ?_ (fun _ _ h => h)
      show Rn G mJ8_parentOf 0 [(0, .ref pa9)] [] (wset w pa9 (.inl (nJ29, [.ref a18, .ref a19, va_rf p20, va_rf p21, .null, .int 1]))) _
      refine r_aload_n 0 1 0 rfl rfl rfl ?_
      refine r_ifnonnull 1 8 rfl rfl ?_
      refine r_aload_n 4 9 0 rfl rfl rfl ?_
      refine r_get (v := .null) fl_J8_124_J29 5 12 rfl rfl (Or.inl wset_s) rfl ?_
      refine r_aret 6 rfl rfl (Or.inl ⟨_, rfl⟩) (Or.inl rfl) ?_
      show Rn G mJ8_fixAfterInsertion 252 [(0, .ref a1), (1, .ref a2)] [.null, .ref a1] (wset w pa9 (.inl (nJ29, [.ref a18, .ref a19, va_rf p20, va_rf p21, .null, .int 1]))) _
      exact r_callV lkV_J8_311_J8 (C := RJ8) (TT := TJ8) (NN := 9) rfl (Lk.set_n o2 (Lk.ne o2 (o4 pa9 rfl) hwk (by intro h; simp at h))) 120 255 rfl rfl (by decide) [.null] rfl rfl (Nat.le_of_ble_eq_true rfl) (Nat.le_of_ble_eq_true rfl) (e6 pa9 rfl rfl) (fun r w' h => Af.sub [0, 1] rfl ((k6 pa9 rfl rfl) r w' h))
    | some pa24 =>
      refine r_callS lkS_J8_307 115 244 rfl rfl (by decide) [.ref pa24, .int 0] rfl rfl (Nat.le_of_ble_eq_true rfl) (Nat.le_of_ble_eq_true rfl) ?_ (fun _ _ h => h)
      show Rn G mJ8_setColor 0 [(0, .ref pa24), (1, .int 0)] [] (wset w pa9 (.inl (nJ29, [.ref a18, .ref a19, va_rf p20, va_rf p21, .ref pa24, .int 1]))) _
      refine r_aload_n 0 1 0 rfl rfl rfl ?_
      refine r_ifnull 1 4 rfl rfl ?_
      refine r_aload_n 2 5 0 rfl rfl rfl ?_
      refine r_iload_n 3 6 1 rfl rfl rfl ?_
      refine r_put (i := 5) fl_J8_290_J29 in_J29 q1328 (ty0 := tyJ29) tyJ29_ok nmJ29 4 9 rfl rfl (wset_n (o7 pa9 rfl pa24 rfl) (ne8 pa9 rfl pa24 rfl)) rfl rfl rfl (Nat.le_of_ble_eq_true rfl) ?_
      show Rn G mJ8_setColor 9 [(0, .ref pa24), (1, .int 0)] [] (wset (wset w pa9 (.inl (nJ29, [.ref a18, .ref a19, va_rf p20, va_rf p21, .ref pa24, .int 1]))) pa24 (.inl (nJ29, [.ref a25, .ref a26, va_rf p27, va_rf p28, va_rf p29, .int 0]))) _
      refine r_vret 5 rfl rfl ?_
      show Rn G mJ8_fixAfterInsertion 244 [(0, .ref a1), (1, .ref a2)] [] (wset (wset w pa9 (.inl (nJ29, [.ref a18, .ref a19, va_rf p20, va_rf p21, .ref pa24, .int 1]))) pa24 (.inl (nJ29, [.ref a25, .ref a26, va_rf p27, va_rf p28, va_rf p29, .int 0]))) _
      refine r_aload_n 116 245 0 rfl rfl rfl ?_
      refine r_aload_n 117 246 1 rfl rfl rfl ?_
      refine r_callS lkS_J8_294 118 249 rfl rfl (by decide) [.ref a2] rfl rfl (Nat.le_of_ble_eq_true rfl) (Nat.le_of_ble_eq_true rfl) ?_ (fun _ _ h => h)
      show Rn G mJ8_parentOf 0 [(0, .ref a2)] [] (wset (wset w pa9 (.inl (nJ29, [.ref a18, .ref a19, va_rf p20, va_rf p21, .ref pa24, .int 1]))) pa24 (.inl (nJ29, [.ref a25, .ref a26, va_rf p27, va_rf p28, va_rf p29, .int 0]))) _
      refine r_aload_n 0 1 0 rfl rfl rfl ?_
      refine r_ifnonnull 1 8 rfl rfl ?_
      refine r_aload_n 4 9 0 rfl rfl rfl ?_
      refine r_get (v := .ref pa9) fl_J8_124_J29 5 12 rfl rfl (Lk.set_n (Lk.set_n o1 (ne5 pa9 rfl)) (ne9 pa9 rfl pa24 rfl)) rfl ?_
      refine r_aret 6 rfl rfl (Or.inl ⟨_, rfl⟩) (Or.inr ⟨_, rfl⟩) ?_
      show Rn G mJ8_fixAfterInsertion 249 [(0, .ref a1), (1, .ref a2)] [.ref pa9, .ref a1] (wset (wset w pa9 (.inl (nJ29, [.ref a18, .ref a19, va_rf p20, va_rf p21, .ref pa24, .int 1]))) pa24 (.inl (nJ29, [.ref a25, .ref a26, va_rf p27, va_rf p28, va_rf p29, .int 0]))) _
      refine r_callS lkS_J8_294 119 252 rfl rfl (by decide) [.ref pa9] rfl rfl (Nat.le_of_ble_eq_true rfl) (Nat.le_of_ble_eq_true rfl) ?_ (fun _ _ h => h)
      show Rn G mJ8_parentOf 0 [(0, .ref pa9)] [] (wset (wset w pa9 (.inl (nJ29, [.ref a18, .ref a19, va_rf p20, va_rf p21, .ref pa24, .int 1]))) pa24 (.inl (nJ29, [.ref a25, .ref a26, va_rf p27, va_rf p28, va_rf p29, .int 0]))) _
      refine r_aload_n 0 1 0 rfl rfl rfl ?_
      refine r_ifnonnull 1 8 rfl rfl ?_
      refine r_aload_n 4 9 0 rfl rfl rfl ?_
      refine r_get (v := .ref pa24) fl_J8_124_J29 5 12 rfl rfl (Or.inl (wset_n wset_s (ne10 pa9 rfl pa24 rfl))) rfl ?_
      refine r_aret 6 rfl rfl (Or.inl ⟨_, rfl⟩) (Or.inr ⟨_, rfl⟩) ?_
      show Rn G mJ8_fixAfterInsertion 252 [(0, .ref a1), (1, .ref a2)] [.ref pa24, .ref a1] (wset (wset w pa9 (.inl (nJ29, [.ref a18, .ref a19, va_rf p20, va_rf p21, .ref pa24, .int 1]))) pa24 (.inl (nJ29, [.ref a25, .ref a26, va_rf p27, va_rf p28, va_rf p29, .int 0]))) _
      exact r_callV lkV_J8_311_J8 (C := RJ8) (TT := TJ8) (NN := 9) rfl (Lk.set_n (Lk.set_n o2 (Lk.ne o2 (o4 pa9 rfl) hwk (by intro h; simp at h))) (Lk.ne o2 (o7 pa9 rfl pa24 rfl) hwk (by intro h; simp at h))) 120 255 rfl rfl (by decide) [.ref pa24] rfl rfl (Nat.le_of_ble_eq_true rfl) (Nat.le_of_ble_eq_true rfl) (e11 pa9 rfl pa24 rfl) (fun r w' h => Af.sub [0, 1] rfl ((k11 pa9 rfl pa24 rfl) r w' h))
theorem e_J8_fixAfterInsertion_118 {G : Gm} {κ : Nat → Nat} {φ : Nat → Option Nat} (hS : GS G κ φ) {w : Wd} {Q : Rs → Wd → Prop} {a1 : Nat} {a2 : Nat} {a3 : Nat} {a4 : Nat} {p5 : Option Nat} {p6 : Option Nat} {p7 : Option Nat} {x8 : Int32} {p10 : Option Nat} {p11 : Option Nat} {p12 : Option Nat} {m13 : Nat} {x14 : Int32} {p15 : Option Nat} {p16 : Option Nat} {p17 : Option Nat} {a18 : Nat} {a19 : Nat} {p20 : Option Nat} {p21 : Option Nat} {p22 : Option Nat} {x23 : Int32} {a25 : Nat} {a26 : Nat} {p27 : Option Nat} {p28 : Option Nat} {p29 : Option Nat} {x30 : Int32} (o1 : Lk G w a2 (.inl (nJ29, [.ref a3, .ref a4, va_rf p5, va_rf p6, va_rf p7, .int x8]))) (o2 : Lk G w a1 (.inl (nJ8, [va_rf p10, va_rf p11, .null, va_rf p12, .int (nI m13), .int x14, va_rf p15, va_rf p16, va_rf p17]))) {Q3 : Rs → Wd → Prop} (e3 : p7 = none → Ev G mJ8_rotateRight [.ref a1, .null] w Q3) (k3 : p7 = none → ∀ r w', Q3 r w' → Af G mJ8_fixAfterInsertion 145 148 [(0, .ref a1), (1, .ref a2)] [] r w' Q) (o4 : ∀ pa9 : Nat, p7 = some pa9 → w.1 pa9 = some (.inl (nJ29, [.ref a18, .ref a19, va_rf p20, va_rf p21, va_rf p22, .int x23]))) (ne5 : ∀ pa9 : Nat, p7 = some pa9 → a2 ≠ pa9) {Q6 : Rs → Wd → Prop} (e6 : ∀ pa9 : Nat, p7 = some pa9 → p22 = none → Ev G mJ8_rotateRight [.ref a1, .null] (wset w pa9 (.inl (nJ29, [.ref a18, .ref a19, va_rf p20, va_rf p21, .null, .int 1]))) Q6) (k6 : ∀ pa9 : Nat, p7 = some pa9 → p22 = none → ∀ r w', Q6 r w' → Af G mJ8_fixAfterInsertion 145 148 [(0, .ref a1), (1, .ref a2)] [] r w' Q) (o7 : ∀ pa9 : Nat, p7 = some pa9 → ∀ pa24 : Nat, p22 = some pa24 → w.1 pa24 = some (.inl (nJ29, [.ref a25, .ref a26, va_rf p27, va_rf p28, va_rf p29, .int x30]))) (ne8 : ∀ pa9 : Nat, p7 = some pa9 → ∀ pa24 : Nat, p22 = some pa24 → pa24 ≠ pa9) (ne9 : ∀ pa9 : Nat, p7 = some pa9 → ∀ pa24 : Nat, p22 = some pa24 → a2 ≠ pa24) (ne10 : ∀ pa9 : Nat, p7 = some pa9 → ∀ pa24 : Nat, p22 = some pa24 → pa9 ≠ pa24) {Q11 : Rs → Wd → Prop} (e11 : ∀ pa9 : Nat, p7 = some pa9 → ∀ pa24 : Nat, p22 = some pa24 → Ev G mJ8_rotateRight [.ref a1, .ref pa24] (wset (wset w pa9 (.inl (nJ29, [.ref a18, .ref a19, va_rf p20, va_rf p21, .ref pa24, .int 1]))) pa24 (.inl (nJ29, [.ref a25, .ref a26, va_rf p27, va_rf p28, va_rf p29, .int 0]))) Q11) (k11 : ∀ pa9 : Nat, p7 = some pa9 → ∀ pa24 : Nat, p22 = some pa24 → ∀ r w', Q11 r w' → Af G mJ8_fixAfterInsertion 145 148 [(0, .ref a1), (1, .ref a2)] [] r w' Q) : Rn G mJ8_fixAfterInsertion 118 [(0, .ref a1), (1, .ref a2)] [] w Q := by
  refine Rn.wok fun hwk => ?_
  refine r_aload_n 56 119 1 rfl rfl rfl ?_
  refine r_callS lkS_J8_294 57 122 rfl rfl (by decide) [.ref a2] rfl rfl (Nat.le_of_ble_eq_true rfl) (Nat.le_of_ble_eq_true rfl) ?_ (fun _ _ h => h)
  show Rn G mJ8_parentOf 0 [(0, .ref a2)] [] w _
  refine r_aload_n 0 1 0 rfl rfl rfl ?_
  refine r_ifnonnull 1 8 rfl rfl ?_
  refine r_aload_n 4 9 0 rfl rfl rfl ?_
  refine r_get (v := va_rf p7) fl_J8_124_J29 5 12 rfl rfl o1 rfl ?_
  refine r_aret 6 rfl rfl (Or.inl ⟨_, rfl⟩) (rf_or _) ?_
  show Rn G mJ8_fixAfterInsertion 122 [(0, .ref a1), (1, .ref a2)] [va_rf p7] w _
  refine r_iconst 58 123 rfl rfl di_1 ?_
  cases p7 with
  | none =>
    refine r_callS lkS_J8_307 59 126 rfl rfl (by decide) [.null, .int 1] rfl rfl (Nat.le_of_ble_eq_true rfl) (Nat.le_of_ble_eq_true rfl) ?_ (fun _ _ h => h)
    show Rn G mJ8_setColor 0 [(0, .null), (1, .int 1)] [] w _
    refine r_aloadN_n 0 1 0 rfl rfl rfl ?_
    refine r_ifnullN 1 9 rfl rfl ?_
    refine r_vret 5 rfl rfl ?_
    show Rn G mJ8_fixAfterInsertion 126 [(0, .ref a1), (1, .ref a2)] [] w _
    refine r_aload_n 60 127 1 rfl rfl rfl ?_
    refine r_callS lkS_J8_294 61 130 rfl rfl (by decide) [.ref a2] rfl rfl (Nat.le_of_ble_eq_true rfl) (Nat.le_of_ble_eq_true rfl) ?_ (fun _ _ h => h)
    show Rn G mJ8_parentOf 0 [(0, .ref a2)] [] w _
    refine r_aload_n 0 1 0 rfl rfl rfl ?_
    refine r_ifnonnull 1 8 rfl rfl ?_
    refine r_aload_n 4 9 0 rfl rfl rfl ?_
    refine r_get (v := .null) fl_J8_124_J29 5 12 rfl rfl o1 rfl ?_
    refine r_aret 6 rfl rfl (Or.inl ⟨_, rfl⟩) (Or.inl rfl) ?_
    show Rn G mJ8_fixAfterInsertion 130 [(0, .ref a1), (1, .ref a2)] [.null] w _
    refine r_callS lkS_J8_294 62 133 rfl rfl (by decide) [.null] rfl rfl (Nat.le_of_ble_eq_true rfl) (Nat.le_of_ble_eq_true rfl) ?_ (fun _ _ h => h)
    show Rn G mJ8_parentOf 0 [(0, .null)] [] w _
    refine r_aloadN_n 0 1 0 rfl rfl rfl ?_
    refine r_ifnonnullN 1 4 rfl rfl ?_
    refine r_null 2 5 rfl rfl ?_
    refine r_goto 3 12 rfl rfl ?_
    refine r_aret 6 rfl rfl (Or.inl ⟨_, rfl⟩) (Or.inl rfl) ?_
    show Rn G mJ8_fixAfterInsertion 133 [(0, .ref a1), (1, .ref a2)] [.null] w _
    refine r_iconst 63 134 rfl rfl di_0 ?_
    refine r_callS lkS_J8_307 64 137 rfl rfl (by decide) [.null, .int 0] rfl rfl (Nat.le_of_ble_eq_true rfl) (Nat.le_of_ble_eq_true rfl) ?_ (fun _ _ h => h)
    show Rn G mJ8_setColor 0 [(0, .null), (1, .int 0)] [] w _
    refine r_aloadN_n 0 1 0 rfl rfl rfl ?_
    refine r_ifnullN 1 9 rfl rfl ?_
    refine r_vret 5 rfl rfl ?_
    show Rn G mJ8_fixAfterInsertion 137 [(0, .ref a1), (1, .ref a2)] [] w _
    refine r_aload_n 65 138 0 rfl rfl rfl ?_
    refine r_aload_n 66 139 1 rfl rfl rfl ?_
    refine r_callS lkS_J8_294 67 142 rfl rfl (by decide) [.ref a2] rfl rfl (Nat.le_of_ble_eq_true rfl) (Nat.le_of_ble_eq_true rfl) ?_ (fun _ _ h => h)
    show Rn G mJ8_parentOf 0 [(0, .ref a2)] [] w _
    refine r_aload_n 0 1 0 rfl rfl rfl ?_
    refine r_ifnonnull 1 8 rfl rfl ?_
    refine r_aload_n 4 9 0 rfl rfl rfl ?_
    refine r_get (v := .null) fl_J8_124_J29 5 12 rfl rfl o1 rfl ?_
    refine r_aret 6 rfl rfl (Or.inl ⟨_, rfl⟩) (Or.inl rfl) ?_
    show Rn G mJ8_fixAfterInsertion 142 [(0, .ref a1), (1, .ref a2)] [.null, .ref a1] w _
    refine r_callS lkS_J8_294 68 145 rfl rfl (by decide) [.null] rfl rfl (Nat.le_of_ble_eq_true rfl) (Nat.le_of_ble_eq_true rfl) ?_ (fun _ _ h => h)
    show Rn G mJ8_parentOf 0 [(0, .null)] [] w _
    refine r_aloadN_n 0 1 0 rfl rfl rfl ?_
    refine r_ifnonnullN 1 4 rfl rfl ?_
    refine r_null 2 5 rfl rfl ?_
    refine r_goto 3 12 rfl rfl ?_
    refine r_aret 6 rfl rfl (Or.inl ⟨_, rfl⟩) (Or.inl rfl) ?_
    show Rn G mJ8_fixAfterInsertion 145 [(0, .ref a1), (1, .ref a2)] [.null, .ref a1] w _
    exact r_callV lkV_J8_314_J8 (C := RJ8) (TT := TJ8) (NN := 9) rfl o2 69 148 rfl rfl (by decide) [.null] rfl rfl (Nat.le_of_ble_eq_true rfl) (Nat.le_of_ble_eq_true rfl) (e3 rfl) (fun r w' h => Af.sub [0, 1] rfl ((k3 rfl) r w' h))
  | some pa9 =>
    refine r_callS lkS_J8_307 59 126 rfl rfl (by decide) [.ref pa9, .int 1] rfl rfl (Nat.le_of_ble_eq_true rfl) (Nat.le_of_ble_eq_true rfl) ?_ (fun _ _ h => h)
    show Rn G mJ8_setColor 0 [(0, .ref pa9), (1, .int 1)] [] w _
    refine r_aload_n 0 1 0 rfl rfl rfl ?_
    refine r_ifnull 1 4 rfl rfl ?_
    refine r_aload_n 2 5 0 rfl rfl rfl ?_
    refine r_iload_n 3 6 1 rfl rfl rfl ?_
    refine r_put (i := 5) fl_J8_290_J29 in_J29 q1328 (ty0 := tyJ29) tyJ29_ok nmJ29 4 9 rfl rfl (o4 pa9 rfl) rfl rfl rfl (Nat.le_of_ble_eq_true rfl) ?_
    show Rn G mJ8_setColor 9 [(0, .ref pa9), (1, .int 1)] [] (wset w pa9 (.inl (nJ29, [.ref a18, .ref a19, va_rf p20, va_rf p21, va_rf p22, .int 1]))) _
    refine r_vret 5 rfl rfl ?_
    show Rn G mJ8_fixAfterInsertion 126 [(0, .ref a1), (1, .ref a2)] [] (wset w pa9 (.inl (nJ29, [.ref a18, .ref a19, va_rf p20, va_rf p21, va_rf p22, .int 1]))) _
    refine r_aload_n 60 127 1 rfl rfl rfl ?_
    refine r_callS lkS_J8_294 61 130 rfl rfl (by decide) [.ref a2] rfl rfl (Nat.le_of_ble_eq_true rfl) (Nat.le_of_ble_eq_true rfl) ?_ (fun _ _ h => h)
    show Rn G mJ8_parentOf 0 [(0, .ref a2)] [] (wset w pa9 (.inl (nJ29, [.ref a18, .ref a19, va_rf p20, va_rf p21, va_rf p22, .int 1]))) _
    refine r_aload_n 0 1 0 rfl rfl rfl ?_
    refine r_ifnonnull 1 8 rfl rfl ?_
    refine r_aload_n 4 9 0 rfl rfl rfl ?_
    refine r_get (v := .ref pa9) fl_J8_124_J29 5 12 rfl rfl (Lk.set_n o1 (ne5 pa9 rfl)) rfl ?_
    refine r_aret 6 rfl rfl (Or.inl ⟨_, rfl⟩) (Or.inr ⟨_, rfl⟩) ?_
    show Rn G mJ8_fixAfterInsertion 130 [(0, .ref a1), (1, .ref a2)] [.ref pa9] (wset w pa9 (.inl (nJ29, [.ref a18, .ref a19, va_rf p20, va_rf p21, va_rf p22, .int 1]))) _
    refine r_callS lkS_J8_294 62 133 rfl rfl (by decide) [.ref pa9] rfl rfl (Nat.le_of_ble_eq_true rfl) (Nat.le_of_ble_eq_true rfl) ?_ (fun _ _ h => h)
    show Rn G mJ8_parentOf 0 [(0, .ref pa9)] [] (wset w pa9 (.inl (nJ29, [.ref a18, .ref a19, va_rf p20, va_rf p21, va_rf p22, .int 1]))) _
    refine r_aload_n 0 1 0 rfl rfl rfl ?_
    refine r_ifnonnull 1 8 rfl rfl ?_
    refine r_aload_n 4 9 0 rfl rfl rfl ?_
    refine r_get (v := va_rf p22) fl_J8_124_J29 5 12 rfl rfl (Or.inl wset_s) rfl ?_
    refine r_aret 6 rfl rfl (Or.inl ⟨_, rfl⟩) (rf_or _) ?_
    show Rn G mJ8_fixAfterInsertion 133 [(0, .ref a1), (1, .ref a2)] [va_rf p22] (wset w pa9 (.inl (nJ29, [.ref a18, .ref a19, va_rf p20, va_rf p21, va_rf p22, .int 1]))) _
    refine r_iconst 63 134 rfl rfl di_0 ?_
    cases p22 with
    | none =>
      refine r_callS lkS_J8_307 64 137 rfl rfl (by decide) [.null, .int 0] rfl rfl (Nat.le_of_ble_eq_true rfl) (Nat.le_of_ble_eq_true rfl) ?_ (fun _ _ h => h)
      show Rn G mJ8_setColor 0 [(0, .null), (1, .int 0)] [] (wset w pa9 (.inl (nJ29, [.ref a18, .ref a19, va_rf p20, va_rf p21, .null, .int 1]))) _
      refine r_aloadN_n 0 1 0 rfl rfl rfl ?_
      refine r_ifnullN 1 9 rfl rfl ?_
      refine r_vret 5 rfl rfl ?_
      show Rn G mJ8_fixAfterInsertion 137 [(0, .ref a1), (1, .ref a2)] [] (wset w pa9 (.inl (nJ29, [.ref a18, .ref a19, va_rf p20, va_rf p21, .null, .int 1]))) _
      refine r_aload_n 65 138 0 rfl rfl rfl ?_
      refine r_aload_n 66 139 1 rfl rfl rfl ?_
      refine r_callS lkS_J8_294 67 142 rfl rfl (by decide) [.ref a2] rfl rfl (Nat.le_of_ble_eq_true rfl) (Nat.le_of_ble_eq_true rfl) ?_ (fun _ _ h => h)
      show Rn G mJ8_parentOf 0 [(0, .ref a2)] [] (wset w pa9 (.inl (nJ29, [.ref a18, .ref a19, va_rf p20, va_rf p21, .null, .int 1]))) _
      refine r_aload_n 0 1 0 rfl rfl rfl ?_
      refine r_ifnonnull 1 8 rfl rfl ?_
      refine r_aload_n 4 9 0 rfl rfl rfl ?_
      refine r_get (v := .ref pa9) fl_J8_124_J29 5 12 rfl rfl (Lk.set_n o1 (ne5 pa9 rfl)) rfl ?_
      refine r_aret 6 rfl rfl (Or.inl ⟨_, rfl⟩) (Or.inr ⟨_, rfl⟩) ?_
      show Rn G mJ8_fixAfterInsertion 142 [(0, .ref a1), (1, .ref a2)] [.ref pa9, .ref a1] (wset w pa9 (.inl (nJ29, [.ref a18, .ref a19, va_rf p20, va_rf p21, .null, .int 1]))) _
      refine r_callS lkS_J8_294 68 145 rfl rfl (by decide) [.ref pa9] rfl rfl (Nat.le_of_ble_eq_true rfl) (Nat.le_of_ble_eq_true rfl) ?_ (fun _ _ h => h)
      show Rn G mJ8_parentOf 0 [(0, .ref pa9)] [] (wset w pa9 (.inl (nJ29, [.ref a18, .ref a19, va_rf p20, va_rf p21, .null, .int 1]))) _
      refine r_aload_n 0 1 0 rfl rfl rfl ?_
      refine r_ifnonnull 1 8 rfl rfl ?_
      refine r_aload_n 4 9 0 rfl rfl rfl ?_
      refine r_get (v := .null) fl_J8_124_J29 5 12 rfl rfl (Or.inl wset_s) rfl ?_
      refine r_aret 6 rfl rfl (Or.inl ⟨_, rfl⟩) (Or.inl rfl) ?_
      show Rn G mJ8_fixAfterInsertion 145 [(0, .ref a1), (1, .ref a2)] [.null, .ref a1] (wset w pa9 (.inl (nJ29, [.ref a18, .ref a19, va_rf p20, va_rf p21, .null, .int 1]))) _
      exact r_callV lkV_J8_314_J8 (C := RJ8) (TT := TJ8) (NN := 9) rfl (Lk.set_n o2 (Lk.ne o2 (o4 pa9 rfl) hwk (by intro h; simp at h))) 69 148 rfl rfl (by decide) [.null] rfl rfl (Nat.le_of_ble_eq_true rfl) (Nat.le_of_ble_eq_true rfl) (e6 pa9 rfl rfl) (fun r w' h => Af.sub [0, 1] rfl ((k6 pa9 rfl rfl) r w' h))
    | some pa24 =>
      refine r_callS lkS_J8_307 64 137 rfl rfl (by decide) [.ref pa24, .int 0] rfl rfl (Nat.le_of_ble_eq_true rfl) (Nat.le_of_ble_eq_true rfl) ?_ (fun _ _ h => h)
      show Rn G mJ8_setColor 0 [(0, .ref pa24), (1, .int 0)] [] (wset w pa9 (.inl (nJ29, [.ref a18, .ref a19, va_rf p20, va_rf p21, .ref pa24, .int 1]))) _
      refine r_aload_n 0 1 0 rfl rfl rfl ?_
      refine r_ifnull 1 4 rfl rfl ?_
      refine r_aload_n 2 5 0 rfl rfl rfl ?_
      refine r_iload_n 3 6 1 rfl rfl rfl ?_
      refine r_put (i := 5) fl_J8_290_J29 in_J29 q1328 (ty0 := tyJ29) tyJ29_ok nmJ29 4 9 rfl rfl (wset_n (o7 pa9 rfl pa24 rfl) (ne8 pa9 rfl pa24 rfl)) rfl rfl rfl (Nat.le_of_ble_eq_true rfl) ?_
      show Rn G mJ8_setColor 9 [(0, .ref pa24), (1, .int 0)] [] (wset (wset w pa9 (.inl (nJ29, [.ref a18, .ref a19, va_rf p20, va_rf p21, .ref pa24, .int 1]))) pa24 (.inl (nJ29, [.ref a25, .ref a26, va_rf p27, va_rf p28, va_rf p29, .int 0]))) _
      refine r_vret 5 rfl rfl ?_
      show Rn G mJ8_fixAfterInsertion 137 [(0, .ref a1), (1, .ref a2)] [] (wset (wset w pa9 (.inl (nJ29, [.ref a18, .ref a19, va_rf p20, va_rf p21, .ref pa24, .int 1]))) pa24 (.inl (nJ29, [.ref a25, .ref a26, va_rf p27, va_rf p28, va_rf p29, .int 0]))) _
      refine r_aload_n 65 138 0 rfl rfl rfl ?_
      refine r_aload_n 66 139 1 rfl rfl rfl ?_
      refine r_callS lkS_J8_294 67 142 rfl rfl (by decide) [.ref a2] rfl rfl (Nat.le_of_ble_eq_true rfl) (Nat.le_of_ble_eq_true rfl) ?_ (fun _ _ h => h)
      show Rn G mJ8_parentOf 0 [(0, .ref a2)] [] (wset (wset w pa9 (.inl (nJ29, [.ref a18, .ref a19, va_rf p20, va_rf p21, .ref pa24, .int 1]))) pa24 (.inl (nJ29, [.ref a25, .ref a26, va_rf p27, va_rf p28, va_rf p29, .int 0]))) _
      refine r_aload_n 0 1 0 rfl rfl rfl ?_
      refine r_ifnonnull 1 8 rfl rfl ?_
      refine r_aload_n 4 9 0 rfl rfl rfl ?_
      refine r_get (v := .ref pa9) fl_J8_124_J29 5 12 rfl rfl (Lk.set_n (Lk.set_n o1 (ne5 pa9 rfl)) (ne9 pa9 rfl pa24 rfl)) rfl ?_
      refine r_aret 6 rfl rfl (Or.inl ⟨_, rfl⟩) (Or.inr ⟨_, rfl⟩) ?_
      show Rn G mJ8_fixAfterInsertion 142 [(0, .ref a1), (1, .ref a2)] [.ref pa9, .ref a1] (wset (wset w pa9 (.inl (nJ29, [.ref a18, .ref a19, va_rf p20, va_rf p21, .ref pa24, .int 1]))) pa24 (.inl (nJ29, [.ref a25, .ref a26, va_rf p27, va_rf p28, va_rf p29, .int 0]))) _
      refine r_callS lkS_J8_294 68 145 rfl rfl (by decide) [.ref pa9] rfl rfl (Nat.le_of_ble_eq_true rfl) (Nat.le_of_ble_eq_true rfl) ?_ (fun _ _ h => h)
      show Rn G mJ8_parentOf 0 [(0, .ref pa9)] [] (wset (wset w pa9 (.inl (nJ29, [.ref a18, .ref a19, va_rf p20, va_rf p21, .ref pa24, .int 1]))) pa24 (.inl (nJ29, [.ref a25, .ref a26, va_rf p27, va_rf p28, va_rf p29, .int 0]))) _
      refine r_aload_n 0 1 0 rfl rfl rfl ?_
      refine r_ifnonnull 1 8 rfl rfl ?_
      refine r_aload_n 4 9 0 rfl rfl rfl ?_
      refine r_get (v := .ref pa24) fl_J8_124_J29 5 12 rfl rfl (Or.inl (wset_n wset_s (ne10 pa9 rfl pa24 rfl))) rfl ?_
      refine r_aret 6 rfl rfl (Or.inl ⟨_, rfl⟩) (Or.inr ⟨_, rfl⟩) ?_
      show Rn G mJ8_fixAfterInsertion 145 [(0, .ref a1), (1, .ref a2)] [.ref pa24, .ref a1] (wset (wset w pa9 (.inl (nJ29, [.ref a18, .ref a19, va_rf p20, va_rf p21, .ref pa24, .int 1]))) pa24 (.inl (nJ29, [.ref a25, .ref a26, va_rf p27, va_rf p28, va_rf p29, .int 0]))) _
      exact r_callV lkV_J8_314_J8 (C := RJ8) (TT := TJ8) (NN := 9) rfl (Lk.set_n (Lk.set_n o2 (Lk.ne o2 (o4 pa9 rfl) hwk (by intro h; simp at h))) (Lk.ne o2 (o7 pa9 rfl pa24 rfl) hwk (by intro h; simp at h))) 69 148 rfl rfl (by decide) [.ref pa24] rfl rfl (Nat.le_of_ble_eq_true rfl) (Nat.le_of_ble_eq_true rfl) (e11 pa9 rfl pa24 rfl) (fun r w' h => Af.sub [0, 1] rfl ((k11 pa9 rfl pa24 rfl) r w' h))
theorem e_J8_fixAfterInsertion_255 {G : Gm} {κ : Nat → Nat} {φ : Nat → Option Nat} (hS : GS G κ φ) {w : Wd} {Q : Rs → Wd → Prop} {a1 : Nat} {a2 : Nat} (k1 : Rn G mJ8_fixAfterInsertion 5 [(0, .ref a1), (1, .ref a2)] [] w Q) : Rn G mJ8_fixAfterInsertion 255 [(0, .ref a1), (1, .ref a2)] [] w Q := by
  refine r_goto 121 5 rfl rfl ?_
  exact k1
theorem e_J8_fixAfterInsertion_148 {G : Gm} {κ : Nat → Nat} {φ : Nat → Option Nat} (hS : GS G κ φ) {w : Wd} {Q : Rs → Wd → Prop} {a1 : Nat} {a2 : Nat} (k1 : Rn G mJ8_fixAfterInsertion 5 [(0, .ref a1), (1, .ref a2)] [] w Q) : Rn G mJ8_fixAfterInsertion 148 [(0, .ref a1), (1, .ref a2)] [] w Q := by
  refine r_goto 70 5 rfl rfl ?_
  exact k1
