set_option maxRecDepth 100000
/-! THE COMMON PLAIN STATE, and what each operation does to it -/
abbrev Ar : Type := Nat × List Int
abbrev Ln : Type := Nat × List Nat × List Ar
abbrev Kd : Type := List Nat × List (Nat × Bool)
/-- text, kinds, lines by numbers, kept lines -/
abbrev Sp : Type := List Nat × List Kd × List Ln × List Ln
/-- a fault at a place; or what was read, and where the reader stands -/
abbrev Pr (α : Type) : Type := Nat ⊕ (α × Nat)
def isL (c : Nat) : Bool := decide (65 ≤ c ∧ c ≤ 90)
def isD (c : Nat) : Bool := decide (48 ≤ c ∧ c ≤ 57)
/-- from p on as long as f holds -/
def run (f : Nat → Bool) (ts : List Nat) (p : Nat) : Nat := p + ((ts.drop p).takeWhile f).length
def sk (ts : List Nat) (p : Nat) : Nat := run (fun c => c == 32) ts p
def chr (ts : List Nat) (p : Nat) : Nat := (ts[p]?).getD 0
def hr (ts : List Nat) (p : Nat) : Nat := chr ts (sk ts p)
def sl (ts : List Nat) (p e : Nat) : List Nat := (ts.drop p).take (e - p)
/-- nine digits at most -/
def vl (ds : List Nat) : Nat := (ds.take 9).foldl (fun v d => 10 * v + (d - 48)) 0
def pTake (ts : List Nat) (c p : Nat) : Pr Unit := if hr ts p = c then .inr ((), sk ts p + 1) else .inl (sk ts p)
def pName (ts : List Nat) (p : Nat) : Pr (List Nat) :=
  if run isL ts (sk ts p) = sk ts p ∨ 8 < run isL ts (sk ts p) - sk ts p then .inl (sk ts p) else .inr (sl ts (sk ts p) (run isL ts (sk ts p)), run isL ts (sk ts p))
/-- digits; b: the place of the fault if there are too many -/
def pDig (ts : List Nat) (most b p : Nat) : Pr Nat :=
  if run isD ts (sk ts p) = sk ts p then .inl (sk ts p) else if most < run isD ts (sk ts p) - sk ts p then .inl b else .inr (vl (sl ts (sk ts p) (run isD ts (sk ts p))), run isD ts (sk ts p))
def pNum (ts : List Nat) (p : Nat) : Pr Int :=
  if hr ts p = 45 then match pDig ts 9 (sk ts p) (sk ts p + 1) with
    | .inl q => .inl q
    | .inr (v, e) => .inr (-(v : Int), e)
  else match pDig ts 9 (sk ts p) p with
    | .inl q => .inl q
    | .inr (v, e) => .inr ((v : Int), e)
/-- a number of a line, without its sign -/
def pNo (ts : List Nat) (p : Nat) : Pr Nat := match pDig ts 3 (sk ts p) p with
  | .inl q => .inl q
  | .inr (v, e) => if v = 0 then .inl (sk ts p) else .inr (v, e)
def pRef (ts : List Nat) (p : Nat) : Pr Nat := match pTake ts 35 p with
  | .inl q => .inl q
  | .inr (_, q) => pNo ts q
/-- behind a quote: what is told, how far the text goes -/
def txt : List Nat → Option (List Nat × Nat)
  | [] => none
  | c :: r => if c = 39 then match r with
      | [] => some ([], 1)
      | d :: r' => if d = 39 then (txt r').map (fun q => (39 :: q.1, q.2 + 2)) else some ([], 1)
    else (txt r).map (fun q => (c :: q.1, q.2 + 1))
def pText (ts : List Nat) (p : Nat) : Pr Ar := match txt (ts.drop (sk ts p + 1)) with
  | none => .inl (sk ts p)
  | some (cs, k) => if cs.length ≤ 20 then .inr ((1, cs.map Int.ofNat), sk ts p + 1 + k) else .inl (sk ts p)
def pItem (ts : List Nat) (refs : Bool) (p : Nat) : Pr Int :=
  if refs then match pRef ts p with
    | .inl q => .inl q
    | .inr (v, e) => .inr ((v : Int), e)
  else pNum ts p
/-- k more at most -/
def pItems (ts : List Nat) (refs : Bool) : Nat → Nat → Pr (List Int)
  | 0, p => .inl (sk ts p)
  | k + 1, p => match pItem ts refs p with
    | .inl q => .inl q
    | .inr (v, e) => if hr ts e = 44 then match pItems ts refs k (sk ts e + 1) with
        | .inl q => .inl q
        | .inr (vs, e') => .inr (v :: vs, e')
      else .inr ([v], sk ts e)
def pList (ts : List Nat) (p : Nat) : Pr Ar := match pTake ts 40 p with
  | .inl q => .inl q
  | .inr (_, q) => match (if hr ts q = 41 then .inr ([], sk ts q) else pItems ts (hr ts q == 35) 6 (sk ts q) : Pr (List Int)) with
    | .inl q => .inl q
    | .inr (vs, e) => match pTake ts 41 e with
      | .inl q => .inl q
      | .inr (_, e') => .inr ((if hr ts q = 35 then 4 else 3, vs), e')
def pArg (ts : List Nat) (p : Nat) : Pr Ar :=
  if hr ts p = 39 then pText ts p
  else if hr ts p = 35 then match pRef ts p with
    | .inl q => .inl q
    | .inr (v, e) => .inr ((2, [(v : Int)]), e)
  else if hr ts p = 40 then pList ts p
  else if hr ts p = 36 then .inr ((6, []), sk ts p + 1)
  else if hr ts p = 46 then match pName ts (sk ts p + 1) with
    | .inl q => .inl q
    | .inr (cs, e) => match pTake ts 46 e with
      | .inl q => .inl q
      | .inr (_, e') => .inr ((5, cs.map Int.ofNat), e')
  else match pNum ts p with
    | .inl q => .inl q
    | .inr (v, e) => .inr ((0, [v]), e)
def pArgs (ts : List Nat) : Nat → Nat → Pr (List Ar)
  | 0, p => .inl (sk ts p)
  | k + 1, p => match pArg ts p with
    | .inl q => .inl q
    | .inr (v, e) => if hr ts e = 44 then match pArgs ts k (sk ts e + 1) with
        | .inl q => .inl q
        | .inr (vs, e') => .inr (v :: vs, e')
      else .inr ([v], sk ts e)
/-- has: the numbers that there are already -/
def pLine (ts : List Nat) (has : List Nat) (p : Nat) : Pr Ln := match pTake ts 35 p with
  | .inl q => .inl q
  | .inr (_, q) => match pNo ts q with
    | .inl q => .inl q
    | .inr (n, e) => if n ∈ has then .inl (sk ts q) else match pTake ts 61 e with
      | .inl q => .inl q
      | .inr (_, q) => match pName ts q with
        | .inl q => .inl q
        | .inr (cs, q) => match pTake ts 40 q with
          | .inl q => .inl q
          | .inr (_, q) => match pArgs ts 8 q with
            | .inl q => .inl q
            | .inr (as, q) => match pTake ts 41 q with
              | .inl q => .inl q
              | .inr (_, q) => match pTake ts 59 q with
                | .inl q => .inl q
                | .inr (_, q) => .inr ((n, cs, as), q)
/-- k more lines at most, behind acc -/
def pLines (ts : List Nat) : Nat → List Ln → Nat → Nat ⊕ List Ln
  | k, acc, p => if hr ts p = 0 then .inr acc else match k with
    | 0 => .inl (sk ts p)
    | k + 1 => match pLine ts (acc.map (·.1)) p with
      | .inl q => .inl q
      | .inr (l, e) => pLines ts k (acc ++ [l]) e
def soOf (c : Nat) : Option Nat := if c = 73 then some 0 else if c = 84 then some 1 else if c = 82 then some 2 else if c = 76 then some 3 else if c = 77 then some 4 else if c = 69 then some 5 else none
def pSorts (ts : List Nat) : Nat → Nat → Pr (List (Nat × Bool))
  | 0, p => .inl (sk ts p)
  | k + 1, p => match soOf (hr ts p) with
    | none => .inl (sk ts p)
    | some s => if hr ts (if hr ts (sk ts p + 1) = 63 then sk ts (sk ts p + 1) + 1 else sk ts p + 1) = 59 then .inr ([(s, hr ts (sk ts p + 1) == 63)], sk ts (if hr ts (sk ts p + 1) = 63 then sk ts (sk ts p + 1) + 1 else sk ts p + 1) + 1)
      else match pSorts ts k (sk ts (if hr ts (sk ts p + 1) = 63 then sk ts (sk ts p + 1) + 1 else sk ts p + 1)) with
        | .inl q => .inl q
        | .inr (vs, e) => .inr ((s, hr ts (sk ts p + 1) == 63) :: vs, e)
def pKind (ts : List Nat) (has : List (List Nat)) (p : Nat) : Pr Kd := match pName ts p with
  | .inl q => .inl q
  | .inr (cs, e) => if cs ∈ has then .inl (sk ts p) else match pTake ts 61 e with
    | .inl q => .inl q
    | .inr (_, q) => match pSorts ts 8 q with
      | .inl q => .inl q
      | .inr (ss, e) => .inr ((cs, ss), e)
def pKinds (ts : List Nat) : Nat → List Kd → Nat → Nat ⊕ List Kd
  | k, acc, p => if hr ts p = 0 then .inr acc else match k with
    | 0 => .inl (sk ts p)
    | k + 1 => match pKind ts (acc.map (·.1)) p with
      | .inl q => .inl q
      | .inr (l, e) => pKinds ts k (acc ++ [l]) e
/-- what an argument refers to -/
def rfs (a : Ar) : List Nat := if a.1 = 2 ∨ a.1 = 4 then a.2.map Int.toNat else []
def lnRf (l : Ln) : List Nat := l.2.2.flatMap rfs
/-- put by its number -/
def ins (l : Ln) : List Ln → List Ln
  | [] => [l]
  | m :: r => if l.1 < m.1 then l :: m :: r else m :: ins l r
def srt (ls : List Ln) : List Ln := ls.foldl (fun a l => ins l a) []
def digs (n : Nat) : List Nat := if h : n < 10 then [48 + n] else digs (n / 10) ++ [48 + n % 10]
def numS (v : Int) : List Nat := if v < 0 then 45 :: digs v.natAbs else digs v.natAbs
def comma (f : Int → List Nat) : List Int → List Nat
  | [] => []
  | [v] => f v
  | v :: r => f v ++ 44 :: comma f r
def wrA (a : Ar) : List Nat :=
  if a.1 = 0 then comma numS a.2
  else if a.1 = 1 then 39 :: (a.2.flatMap (fun c => if c = 39 then [39, 39] else [c.toNat]) ++ [39])
  else if a.1 = 2 then comma (fun v => 35 :: numS v) a.2
  else if a.1 = 3 then 40 :: (comma numS a.2 ++ [41])
  else if a.1 = 4 then 40 :: (comma (fun v => 35 :: numS v) a.2 ++ [41])
  else if a.1 = 5 then 46 :: (a.2.map Int.toNat ++ [46])
  else [36]
def wrAs : List Ar → List Nat
  | [] => []
  | [a] => wrA a
  | a :: r => wrA a ++ 44 :: wrAs r
def wrL (l : Ln) : List Nat := 35 :: (digs l.1 ++ 61 :: (l.2.1 ++ 40 :: (wrAs l.2.2 ++ [41, 59])))
def wrS (ls : List Ln) : List Nat := ls.flatMap wrL
def getL (ls : List Ln) (n : Nat) : Option Ln := ls.find? (fun l => l.1 == n)
/-- the k-th one that P takes -/
def nth {α : Type} (P : α → Bool) : List α → Nat → Option α
  | [], _ => none
  | x :: r, k => if P x then (match k with | 0 => some x | k + 1 => nth P r k) else nth P r k
/-- depths by numbers of lines -/
abbrev Dp : Type := Nat → Option Nat
def ovs (D : Dp) : List Nat → Nat → Option Nat
  | [], m => some m
  | r :: rs, m => match D r with
    | none => none
    | some b => ovs D rs (max m (b + 1))
def ovr (D : Dp) (l : Ln) : Option Nat := ovs D (lnRf l) 0
def dstep (D : Dp) (l : Ln) : Dp := match D l.1 with
  | none => fun n => if n = l.1 then ovr D l else D n
  | some _ => D
def dpass (ls : List Ln) (D : Dp) : Dp := ls.foldl dstep D
def dps (ls : List Ln) : Nat → Dp
  | 0 => fun _ => none
  | k + 1 => dpass ls (dps ls k)
def dep (ls : List Ln) : Dp := dps ls ls.length
/-- one line refers to the other -/
def rfTo (ls : List Ln) (a b : Nat) : Prop := ∃ l ∈ ls, l.1 = a ∧ b ∈ lnRf l
def ringed (ls : List Ln) (n : Nat) : Prop := Relation.TransGen (rfTo ls) n n
noncomputable def isRing (ls : List Ln) (l : Ln) : Bool := @decide (ringed ls l.1) (Classical.propDecidable _)
def soAt (l : Ln) (k : Nat) : Nat := (l.2.2[k]?.map (·.1)).getD 7
def vaAt (l : Ln) (k : Nat) : Int := (l.2.2[k]?.bind (fun a => a.2[0]?)).getD 0
def isPl (l : Ln) : Bool := decide (3 < l.2.2.length ∧ soAt l 0 = 0 ∧ soAt l 1 = 0 ∧ soAt l 2 = 0 ∧ (soAt l 3 = 2 ∨ soAt l 3 = 6))
def nxPl (ls : List Ln) (l : Ln) : Option Ln := if soAt l 3 = 2 then (getL ls (vaAt l 3).toNat).filter isPl else none
def plc (ls : List Ln) (ax : Nat) : Nat → Ln → Int → Int
  | 0, _, _ => 1000000000000
  | f + 1, l, s => match nxPl ls l with
    | none => s + vaAt l ax
    | some m => plc ls ax f m (s + vaAt l ax)
/-- the same with references to other lines -/
def mvA (L : Nat → Nat) (a : Ar) : Ar := if a.1 = 2 ∨ a.1 = 4 then (a.1, a.2.map (fun v => (L v.toNat : Int))) else a
abbrev Sg : Type := List Nat × List Ar
def sgn (L : Nat → Nat) (l : Ln) : Sg := (l.2.1, l.2.2.map (mvA L))
abbrev Lk2 : Type := List (Sg × Nat) × (Nat → Nat)
def lstep (st : Lk2) (l : Ln) : Lk2 := match st.1.find? (fun q => q.1 == sgn st.2 l) with
  | some q => (st.1, fun n => if n = l.1 then q.2 else st.2 n)
  | none => (st.1 ++ [(sgn st.2 l, l.1)], fun n => if n = l.1 then l.1 else st.2 n)
def byDep (ls : List Ln) (m : Nat) : List Ln := (List.range m).flatMap (fun d => ls.filter (fun l => dep ls l.1 == some d))
def lst (ls : List Ln) (m : Nat) : Lk2 := (byDep ls m).foldl lstep ([], fun n => n)
def lea (ls : List Ln) : Nat → Nat := (lst ls 41).2
def joi (ls : List Ln) : List Ln := (ls.filter (fun l => lea ls l.1 == l.1)).map (fun l => (l.1, l.2.1, l.2.2.map (mvA (lea ls))))
/-- why a line does not fit -/
def takes (q : Nat × Bool) (a : Ar) : Bool := if a.1 = 6 then q.2 else decide (a.1 = q.1 ∨ (a.1 = 3 ∧ a.2 = [] ∧ q.1 = 4))
def kdOf (ks : List Kd) (l : Ln) : Option Nat := ks.findIdx? (fun k => k.1 == l.2.1)
def fstW : List (Nat × Bool) → List Ar → Nat → Option Nat
  | q :: qs, a :: as, k => if takes q a then fstW qs as (k + 1) else some k
  | _, _, _ => none
/-- 0; 1; 2; or 3 and which -/
def why (ks : List Kd) (l : Ln) : Nat × Option Nat := match ks.find? (fun k => k.1 == l.2.1) with
  | none => (1, none)
  | some k => if l.2.2.length ≠ k.2.length then (2, none) else match fstW k.2 l.2.2 0 with
    | none => (0, none)
    | some i => (3, some i)
/-- how lines differ -/
def how (now was : Option Ln) : Nat := match now, was with
  | none, none => 0
  | none, some _ => 1
  | some _, none => 2
  | some a, some b => if a.2 = b.2 then 0 else 3
/-- what is good of a text, an argument, a line, lines -/
def gCh (c : Nat) : Prop := 32 ≤ c ∧ c ≤ 126
def gA (a : Ar) : Prop := match a.1 with
  | 0 => ∃ v, a.2 = [v] ∧ -999999999 ≤ v ∧ v ≤ 999999999
  | 1 => a.2.length ≤ 20 ∧ ∀ v ∈ a.2, 32 ≤ v ∧ v ≤ 126
  | 2 => ∃ v, a.2 = [v] ∧ 1 ≤ v ∧ v ≤ 999
  | 3 => a.2.length ≤ 6 ∧ ∀ v ∈ a.2, -999999999 ≤ v ∧ v ≤ 999999999
  | 4 => a.2 ≠ [] ∧ a.2.length ≤ 6 ∧ ∀ v ∈ a.2, 1 ≤ v ∧ v ≤ 999
  | 5 => a.2 ≠ [] ∧ a.2.length ≤ 8 ∧ ∀ v ∈ a.2, 65 ≤ v ∧ v ≤ 90
  | 6 => a.2 = []
  | _ => False
def gN2 (cs : List Nat) : Prop := cs ≠ [] ∧ cs.length ≤ 8 ∧ ∀ c ∈ cs, 65 ≤ c ∧ c ≤ 90
def gL (l : Ln) : Prop := (1 ≤ l.1 ∧ l.1 ≤ 999) ∧ gN2 l.2.1 ∧ l.2.2 ≠ [] ∧ l.2.2.length ≤ 8 ∧ ∀ a ∈ l.2.2, gA a
/-- lines by numbers -/
def gLs (ls : List Ln) : Prop := ls.length ≤ 40 ∧ (∀ l ∈ ls, gL l) ∧ ls.Pairwise (fun a b => a.1 < b.1)
def cls (ls : List Ln) : Prop := ∀ l ∈ ls, ∀ n ∈ lnRf l, ∃ m ∈ ls, m.1 = n
def gK (k : Kd) : Prop := gN2 k.1 ∧ k.2 ≠ [] ∧ k.2.length ≤ 8 ∧ ∀ q ∈ k.2, q.1 ≤ 5
def gKs (ks : List Kd) : Prop := ks.length ≤ 12 ∧ (∀ k ∈ ks, gK k) ∧ (ks.map (·.1)).Nodup
def gS (S : Sp) : Prop := S.1.length ≤ 1200 ∧ (∀ c ∈ S.1, gCh c) ∧ gKs S.2.1 ∧ gLs S.2.2.1 ∧ cls S.2.2.1 ∧ gLs S.2.2.2
