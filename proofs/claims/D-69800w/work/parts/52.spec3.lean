/-! the specification: what is checked, what is worked out -/
/-- a table: name, columns, rows -/
abbrev Tab : Type := Str × List Col × List (List Val)
/-- what names mean: the sources known, the parameters' types, whether COUNT and so on may stand -/
abbrev TEnv : Type := List (Str × Tab) × List Nat × Bool
abbrev Ex (α : Type) : Type := Except Str α
def xErr {α : Type} (s : String) : Ex α := .error (sStr s)
def xMust (b : Bool) (s : String) : Ex Unit := if b then .ok () else xErr s
def tFits (a b : Nat) : Ex Unit := xMust (a == 0 || (b == 0 || a == b)) "42804"
def tSame (a b : Nat) : Ex Nat := (tFits a b).map fun _ => if a == 0 then b else a
def tColOf (cs : List Col) (s : Str) : Option Nat := cs.findIdx? fun c => c.1 == s
/-- the sources that have the column, with its place -/
def tFound (ss : List (Str × Tab)) (of : Option Str) (s : Str) : List (Nat × Nat) :=
  (ss.zipIdx.filterMap fun q => if of.all (· == q.1.1) then (tColOf q.1.2.2.1 s).map fun c => (q.2, c) else none)
def tColumn (E : TEnv) (of : Option Str) (s : Str) : Ex (Nat × Nat) := do
  xMust (of.isNone || E.1.any fun q => of == some q.1) "42P01"
  match tFound E.1 of s with
  | [] => xErr "42703"
  | [q] => .ok q
  | _ => xErr "42702"
def tGather (s : Str) : Bool := s == sStr "count" || (s == sStr "sum" || (s == sStr "min" || s == sStr "max"))
def nNone : Nod := (0, 0, [], none, vNull, [], 0)
def ndO (n : Nod) : Nat := n.1
def ndK (n : Nod) : Nat := n.2.1
def ndS (n : Nod) : Str := n.2.2.1
def ndF (n : Nod) : Option Str := n.2.2.2.1
def ndV (n : Nod) : Val := n.2.2.2.2.1
def ndP (n : Nod) : List Nat := n.2.2.2.2.2.1
def tAll (l : List Nat) (w : Nat) : Ex Unit := l.forM fun t => tFits t w
def tOne (l : List Nat) : Ex Nat := l.foldlM tSame 0
def evens {α : Type} : List α → List α
  | a :: _ :: l => a :: evens l
  | [a] => [a]
  | [] => []
/-- the type of CASE: what stands behind WHEN is a truth, the others are alike; from the first part on -/
def tCase (k : Nat) (ts : List Nat) : Ex Nat := do
  let w := ts.length - k
  (evens (ts.take w)).forM fun t => tFits t 16
  tOne (evens ((ts.take w).drop 1) ++ ts.drop w)
def tFun (E : TEnv) (within : Bool) (s : Str) (star : Bool) (ts : List Nat) : Ex Nat :=
  let known := if star then s == sStr "count"
    else if s == sStr "abs" || (s == sStr "length" || (s == sStr "upper" || (s == sStr "lower" || tGather s))) then ts.length == 1
    else if s == sStr "nullif" then ts.length == 2 else if s == sStr "substr" then ts.length == 3 else if s == sStr "coalesce" then ts.length != 0 else false
  do
    xMust known "42883"
    xMust (!tGather s || (E.2.2 && !within)) "42803"
    if s == sStr "count" then .ok 20
    else if s == sStr "sum" || s == sStr "abs" then (tAll ts 20).map fun _ => 20
    else if s == sStr "min" || s == sStr "max" then .ok (ts.headD 0)
    else if s == sStr "length" then (tAll ts 25).map fun _ => 20
    else if s == sStr "upper" || s == sStr "lower" then (tAll ts 25).map fun _ => 25
    else if s == sStr "substr" then do
      tAll (ts.take 1) 25
      tAll (ts.drop 1) 20
      .ok 25
    else tOne ts
/-- the type of a node whose parts have the types ts -/
def tNode (E : TEnv) (within : Bool) (n : Nod) (ts : List Nat) : Ex Nat :=
  match ndO n with
  | 0 => .ok (ndV n).1
  | 1 => match E.2.1[ndK n]? with
    | some t => .ok t
    | none => xErr "42P02"
  | 2 => do
    let (k, c) ← tColumn E (ndF n) (ndS n)
    .ok (((E.1[k]?.map fun q => q.2.2.1[c]?.map fun (x : Col) => x.2.1).join).getD 0)
  | 3 => tFun E within (ndS n) (ndK n == 1) ts
  | 4 => tCase (ndK n) ts
  | 6 => (tAll ts 25).map fun _ => 16
  | 8 => .ok 16
  | 10 | 11 | 12 => (tAll ts 16).map fun _ => 16
  | 13 => (tAll ts 20).map fun _ => 20
  | 14 => if ndK n == 5 then (tAll ts 25).map fun _ => 25 else (tAll ts 20).map fun _ => 20
  | _ => (tOne ts).map fun _ => 16
/-- the type of the tree of node i -/
def tTree (A : List Nod) (E : TEnv) : Nat → Bool → Nat → Ex Nat
  | 0, _, _ => .ok 0
  | f + 1, within, i => do
    let n := A.getD i nNone
    let ts ← (ndP n).mapM (tTree A E f (within || (ndO n == 3 && tGather (ndS n))))
    tNode E within n ts
def tType (A : List Nod) (E : TEnv) (i : Nat) : Ex Nat := tTree A E (i + 1) false i
def tCond (A : List Nod) (E : TEnv) (x : Option Nat) : Ex Unit := match x with
  | none => .ok ()
  | some i => do
    let t ← tType A E i
    tFits t 16
/-- whether COUNT and so on stand in the tree -/
def tGathers (A : List Nod) : Nat → Nat → Bool
  | 0, _ => false
  | f + 1, i =>
    let n := A.getD i nNone
    (ndO n == 3 && tGather (ndS n)) || (ndP n).any (tGathers A f)
/-! values -/
def vCmpS : Str → Str → Int
  | [], [] => 0
  | [], _ :: _ => -1
  | _ :: _, [] => 1
  | a :: s, b :: t => if a == b then vCmpS s t else if a < b then -1 else 1
/-- of two that are not NULL -/
def vCmp (a b : Val) : Int := if a.1 == 25 then vCmpS a.2.2 b.2.2 else if a.2.1 < b.2.1 then -1 else if a.2.1 == b.2.1 then 0 else 1
def vAlike (a b : Val) : Bool := if a.1 == 0 || b.1 == 0 then a.1 == b.1 else a.1 == b.1 && vCmp a b == 0
def vTrue (v : Val) : Bool := v.1 == 16 && v.2.1 == 1
def vFalse (v : Val) : Bool := v.1 == 16 && v.2.1 == 0
def xNum (n : Int64) : Ex Val := if n ≤ sMost && -sMost ≤ n then .ok (vNum n) else xErr "22003"
def xTxt (s : Str) : Ex Val := if s.length ≤ 40 then .ok (vTxt s) else xErr "22001"
def sAbs (n : Int64) : Int64 := if n < 0 then -n else n
/-- trees written alike; columns are alike if they are the same -/
def tEqual (A B : List Nod) (E : TEnv) : Nat → Nat → Nat → Bool
  | 0, _, _ => false
  | f + 1, i, j =>
    let a := A.getD i nNone
    let b := B.getD j nNone
    ndO a == ndO b && (ndK a == ndK b && ((ndP a).length == (ndP b).length && ((ndO a != 0 || vAlike (ndV a) (ndV b)) && ((ndO a != 3 || ndS a == ndS b) &&
      ((ndO a != 2 || tFound E.1 (ndF a) (ndS a) == tFound E.1 (ndF b) (ndS b)) && ((ndP a).zip (ndP b)).all fun q => tEqual A B E f q.1 q.2)))))
/-- what LIKE means -/
def vLike : Str → Str → Bool
  | [], [] => true
  | _ :: _, [] => false
  | [], q :: p => q == 37 && vLike [] p
  | c :: s, q :: p => if q == 37 then vLike (c :: s) p || vLike s (q :: p) else (q == 95 || q == c) && vLike s p
def vTold (k : Nat) (a b : Val) : Val :=
  if a.1 == 0 || b.1 == 0 then vNull
  else let c := vCmp a b
    vBool (match k with
    | 0 => c == 0
    | 1 => c != 0
    | 2 => c < 0
    | 3 => c ≤ 0
    | 4 => 0 < c
    | _ => 0 ≤ c)
def vWorked (k : Nat) (a b : Val) : Ex Val :=
  if a.1 == 0 || b.1 == 0 then .ok vNull
  else match k with
    | 0 => xNum (a.2.1 + b.2.1)
    | 1 => xNum (a.2.1 - b.2.1)
    | 2 => if a.2.1 == 0 || sAbs b.2.1 ≤ sMost / sAbs a.2.1 then xNum (a.2.1 * b.2.1) else xErr "22003"
    | 3 => if b.2.1 == 0 then xErr "22012" else xNum (a.2.1 / b.2.1)
    | 4 => if b.2.1 == 0 then xErr "22012" else xNum (a.2.1 - a.2.1 / b.2.1 * b.2.1)
    | _ => xTxt (a.2.2 ++ b.2.2)
def vPiece (a : Str) (i n : Int64) : Str := (a.zipIdx.filter fun q => decide (i ≤ (Int64.ofNat q.2) + 1 ∧ (Int64.ofNat q.2) + 1 < i + n)).map (·.1)
def vCased (up : Bool) (s : Str) : Str := s.map fun x => if up then (if 97 ≤ x && x ≤ 122 then x - 32 else x) else (if 65 ≤ x && x ≤ 90 then x + 32 else x)
/-- rows of the sources (none: missing), parameters' values, the rows of the group -/
abbrev TRow : Type := List (Option (List Val))
/-- what aggregates know of one more value -/
def gStep (s : Str) (q : Nat × Val) (v : Val) : Ex (Nat × Val) :=
  if v.1 == 0 then .ok q
  else if s == sStr "sum" && q.1 != 0 then (xNum (q.2.2.1 + v.2.1)).map fun x => (q.1 + 1, x)
  else if q.1 == 0 || ((s == sStr "min" && vCmp v q.2 < 0) || (s == sStr "max" && 0 < vCmp v q.2)) then .ok (q.1 + 1, v)
  else .ok (q.1 + 1, q.2)
/-- the value of the tree of node i -/
def eTree (A : List Nod) (E : TEnv) (pv : List Val) (grp : List TRow) : Nat → TRow → Nat → Ex Val
  | 0, _, _ => .ok vNull
  | f + 1, R, i =>
    let n := A.getD i nNone
    let ev := fun k => eTree A E pv grp f R ((ndP n).getD k 0)
    match ndO n with
    | 0 => .ok (ndV n)
    | 1 => .ok (pv.getD (ndK n) vNull)
    | 2 => match tFound E.1 (ndF n) (ndS n) with
      | q :: _ => .ok ((((R[q.1]?).join).map fun r => r.getD q.2 vNull).getD vNull)
      | [] => .ok vNull
    | 3 =>
      let s := ndS n
      if tGather s then
        if ndK n == 1 then xNum (Int64.ofNat grp.length)
        else do
          let q ← grp.foldlM (fun q r => do
            let v ← eTree A E pv grp f r ((ndP n).getD 0 0)
            gStep s q v) (0, vNull)
          if s == sStr "count" then xNum (Int64.ofNat q.1) else .ok q.2
      else if s == sStr "coalesce" then
        (ndP n).foldlM (fun v k => if v.1 == 0 then eTree A E pv grp f R k else .ok v) vNull
      else do
        let a ← ev 0
        let b ← (if 1 < (ndP n).length then ev 1 else .ok a)
        let c ← (if 2 < (ndP n).length then ev 2 else .ok a)
        if s == sStr "nullif" then .ok (if vTrue (vTold 0 a b) then vNull else a)
        else if a.1 == 0 || (b.1 == 0 || c.1 == 0) then .ok vNull
        else if s == sStr "abs" then xNum (sAbs a.2.1)
        else if s == sStr "length" then xNum (Int64.ofNat a.2.2.length)
        else if s == sStr "substr" then (if c.2.1 < 0 then xErr "22011" else xTxt (vPiece a.2.2 b.2.1 c.2.1))
        else xTxt (vCased (s == sStr "upper") a.2.2)
    | 4 =>
      let w := (ndP n).length - ndK n
      let rec go : List Nat → Ex (Option Val)
        | a :: b :: l => do
          let v ← eTree A E pv grp f R a
          if vTrue v then (eTree A E pv grp f R b).map some else go l
        | _ => .ok none
      do
        let r ← go ((ndP n).take w)
        match r with
        | some v => .ok v
        | none => if ndK n == 1 then ev w else .ok vNull
    | 5 => do
      let x ← ev 0
      let q ← ((ndP n).drop 1).foldlM (fun (q : Bool × Bool) k => if q.1 then .ok q else do
        let y ← eTree A E pv grp f R k
        let t := vTold 0 x y
        .ok (vTrue t, q.2 || t.1 == 0)) (false, false)
      .ok (if q.1 then vBool true else if q.2 then vNull else vBool false)
    | 6 => do
      let a ← ev 0
      let b ← ev 1
      .ok (if a.1 == 0 || b.1 == 0 then vNull else vBool (vLike a.2.2 b.2.2))
    | 7 => do
      let x ← ev 0
      let lo ← ev 1
      let a := vTold 5 x lo
      if vFalse a then .ok a
      else do
        let hi ← ev 2
        let b := vTold 3 x hi
        .ok (if vFalse b || a.1 != 0 then b else a)
    | 8 => do
      let x ← ev 0
      .ok (vBool ((x.1 == 0) != (ndK n == 1)))
    | 9 => do
      let a ← ev 0
      let b ← ev 1
      .ok (vTold (ndK n) a b)
    | 10 => do
      let a ← ev 0
      if vFalse a then .ok a
      else do
        let b ← ev 1
        .ok (if vFalse b then b else if a.1 == 0 then a else b)
    | 11 => do
      let a ← ev 0
      if vTrue a then .ok a
      else do
        let b ← ev 1
        .ok (if vTrue b then b else if a.1 == 0 then a else b)
    | 12 => do
      let a ← ev 0
      .ok (if a.1 == 0 then a else vBool (a.2.1 == 0))
    | 13 => do
      let a ← ev 0
      if a.1 == 0 then .ok a else xNum (-a.2.1)
    | _ => do
      let a ← ev 0
      let b ← ev 1
      vWorked (ndK n) a b
def eVal (A : List Nod) (E : TEnv) (pv : List Val) (grp : List TRow) (R : TRow) (i : Nat) : Ex Val := eTree A E pv grp (i + 1) R i
def eCond (A : List Nod) (E : TEnv) (pv : List Val) (grp : List TRow) (R : TRow) (x : Option Nat) : Ex Bool := match x with
  | none => .ok true
  | some i => (eVal A E pv grp R i).map vTrue
