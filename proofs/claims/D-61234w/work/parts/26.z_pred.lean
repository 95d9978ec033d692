set_option maxRecDepth 100000
/-! what may change, and what stays -/
def Fz (G : Gm) (M : List Nat) (w : Wd) (a : Nat) (o : Ob) : Prop := (a < gN G ∧ obAt G a o (Gs G).heap) ∨ (w.1 a = some o ∧ a ∉ M ∧ a < w.2.1)
theorem Fz.lk {G : Gm} {M : List Nat} {w : Wd} {a : Nat} {o : Ob} (h : Fz G M w a o) : Lk G w a o := h.elim Or.inr (fun h => Or.inl h.1)
theorem Fz.old {G : Gm} {M : List Nat} {w : Wd} {a : Nat} {o : Ob} (h1 : a < gN G) (h2 : obAt G a o (Gs G).heap) : Fz G M w a o := Or.inl ⟨h1, h2⟩
/-- from w to w' only what is listed in M has changed; M' lists what may change then -/
def Mv (M : List Nat) (w : Wd) (M' : List Nat) (w' : Wd) : Prop := w.2.1 ≤ w'.2.1 ∧ (∀ a, a < w.2.1 → a ∉ M → w'.1 a = w.1 a) ∧ ∀ a ∈ M', a ∈ M ∨ w.2.1 ≤ a
theorem Mv.refl (M : List Nat) (w : Wd) : Mv M w M w := ⟨Nat.le_refl _, fun _ _ _ => rfl, fun _ h => Or.inl h⟩
theorem Mv.trans {M M' M'' : List Nat} {w w' w'' : Wd} (h : Mv M w M' w') (h' : Mv M' w' M'' w'') : Mv M w M'' w'' := by
  refine ⟨Nat.le_trans h.1 h'.1, fun a ha hm => ?_, fun a ha => ?_⟩
  · rw [h'.2.1 a (Nat.lt_of_lt_of_le ha h.1) (fun q => (h.2.2 a q).elim hm (fun q => by omega)), h.2.1 a ha hm]
  · rcases h'.2.2 a ha with q | q
    · exact h.2.2 a q
    · exact Or.inr (Nat.le_trans h.1 q)
theorem Mv.mono {M M' M1 M1' : List Nat} {w w' : Wd} (h : Mv M w M' w') (h1 : ∀ a ∈ M, a ∈ M1) (h2 : ∀ a ∈ M1', a ∈ M' ∨ a ∈ M1 ∨ w.2.1 ≤ a) : Mv M1 w M1' w' := by
  refine ⟨h.1, fun a ha hm => h.2.1 a ha (fun q => hm (h1 a q)), fun a ha => ?_⟩
  rcases h2 a ha with q | q | q
  · rcases h.2.2 a q with q | q
    · exact Or.inl (h1 a q)
    · exact Or.inr q
  · exact Or.inl q
  · exact Or.inr q
theorem Mv.less {M M' M1 : List Nat} {w w' : Wd} (h : Mv M w M' w') (h1 : ∀ a ∈ M1, a ∈ M') : Mv M w M1 w' := ⟨h.1, h.2.1, fun a ha => h.2.2 a (h1 a ha)⟩
theorem Mv.set (w : Wd) (a : Nat) (o : Ob) : Mv [a] w [a] (wset w a o) := by
  refine ⟨Nat.le_refl _, fun q _ hm => ?_, fun _ h => Or.inl h⟩
  have : q ≠ a := fun e => hm (by rw [e]; exact List.mem_singleton.mpr rfl)
  simp [wset, this]
theorem Mv.new (w : Wd) (o : Ob) (n : Nat) : Mv [] w [w.2.1] (wnew w o n) := by
  refine ⟨Nat.le_succ _, fun q hq _ => ?_, fun a h => Or.inr (Nat.le_of_eq (List.mem_singleton.mp h).symm)⟩
  have : q ≠ w.2.1 := by omega
  simp [wnew, this]
theorem Fz.mv {G : Gm} {M M' : List Nat} {w w' : Wd} {a : Nat} {o : Ob} (h : Fz G M w a o) (hm : Mv M w M' w') : Fz G M' w' a o := by
  rcases h with h | ⟨h1, h2, h3⟩
  · exact Or.inl h
  · exact Or.inr ⟨(hm.2.1 a h3 h2).trans h1, fun q => (hm.2.2 a q).elim h2 (fun q => by omega), Nat.lt_of_lt_of_le h3 hm.1⟩
theorem Fz.less {G : Gm} {M M' : List Nat} {w : Wd} {a : Nat} {o : Ob} (h : Fz G M w a o) (hm : ∀ a ∈ M', a ∈ M) : Fz G M' w a o := h.imp id (fun ⟨h1, h2, h3⟩ => ⟨h1, fun q => h2 (hm a q), h3⟩)
theorem Fz.lt {G : Gm} {M : List Nat} {w : Wd} {a : Nat} {o : Ob} (h : Fz G M w a o) (hw : Wok G w) : a < w.2.1 := h.lk.lt hw
/-- what was made lies not among what is frozen -/
theorem Fz.ne {G : Gm} {M : List Nat} {w : Wd} {a b : Nat} {o o' : Ob} (h : Fz G M w a o) (h' : w.1 b = some o') (hw : Wok G w) (hb : b ∈ M) : a ≠ b := by
  rintro rfl
  rcases h with h | h
  · have := (hw.1 a o' h').1; omega
  · exact h.2.1 hb
/-- what has just been made or is no longer to be changed -/
theorem Fz.of {G : Gm} {M : List Nat} {w : Wd} {a : Nat} {o : Ob} (h : w.1 a = some o) (hn : a ∉ M) (hl : a < w.2.1) : Fz G M w a o := Or.inr ⟨h, hn, hl⟩
theorem Mv.made {M M' : List Nat} {w w' : Wd} (hm : Mv M w M' w') {a : Nat} {o : Ob} (h : w.1 a = some o) (hl : a < w.2.1) (hn : a ∉ M) : w'.1 a = some o := (hm.2.1 a hl hn).trans h
/-- contents -/
def Is {α : Type} (g : Nat → α) (cs : List α) : Prop := ∀ i, i < cs.length → cs[i]? = some (g i)
theorem Is.app {α : Type} {g : Nat → α} {cs : List α} (h : Is g cs) (c : α) : Is (upF g cs.length c) (cs ++ [c]) := by
  intro i hi
  rw [List.length_append, List.length_singleton] at hi
  by_cases e : i = cs.length
  · subst e
    simp [upF]
  · rw [List.getElem?_append_left (by omega), h i (by omega)]
    simp [upF, e]
theorem Is.cpy {α : Type} {f g : Nat → α} {cs ds : List α} (h : Is g cs) (hf : Is f ds) : Is (va_cpy f g 0 cs.length ds.length) (cs ++ ds) := by
  intro i hi
  rw [List.length_append] at hi
  unfold va_cpy
  by_cases e : cs.length ≤ i
  · rw [List.getElem?_append_right e, if_pos ⟨e, by omega⟩, hf _ (by omega), Nat.zero_add]
  · rw [List.getElem?_append_left (by omega), if_neg (by omega), h i (by omega)]
theorem Is.sub {α : Type} {f g : Nat → α} {cs : List α} (h : Is f cs) (S L : Nat) (hl : S + L ≤ cs.length) : Is (va_cpy f g S 0 L) ((cs.drop S).take L) := by
  intro i hi
  rw [List.length_take, List.length_drop] at hi
  have hi2 : i < L := by omega
  unfold va_cpy
  rw [List.getElem?_take_of_lt hi2, List.getElem?_drop, if_pos ⟨Nat.zero_le _, by omega⟩, h _ (by omega)]
  rfl
theorem Is.take {α : Type} {g : Nat → α} {cs : List α} (h : Is g cs) (n : Nat) : Is g (cs.take n) := by
  intro i hi
  rw [List.length_take] at hi
  rw [List.getElem?_take_of_lt (by omega), h i (by omega)]
theorem Is.eq {α : Type} {g : Nat → α} {cs ds : List α} (h : Is g cs) (h' : Is g ds) (hl : cs.length = ds.length) : cs = ds := by
  refine List.ext_getElem? fun i => ?_
  by_cases hi : i < cs.length
  · rw [h i hi, h' i (by omega)]
  · rw [List.getElem?_eq_none (by omega), List.getElem?_eq_none (by omega)]
theorem Is.congr {α : Type} {f g : Nat → α} {cs : List α} (h : Is g cs) (he : ∀ i, i < cs.length → f i = g i) : Is f cs := fun i hi => by rw [h i hi, he i hi]
theorem Is.at {α : Type} {g : Nat → α} {cs : List α} (h : Is g cs) {i : Nat} (hi : i < cs.length) : g i = cs[i] := by
  have := h i hi
  rw [List.getElem?_eq_getElem hi] at this
  exact (Option.some.inj this).symm
