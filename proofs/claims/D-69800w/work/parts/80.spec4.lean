/-! the specification: statements are checked and worked out -/
def tbAt (T : List Tab) (s : Str) : Option Nat := T.findIdx? fun t => t.1 == s
def tabNone : Tab := ([], [], [])
def tbNeed (T : List Tab) (s : Str) : Ex Nat := match tbAt T s with
  | some k => .ok k
  | none => xErr "42P01"
def tbGet (T : List Tab) (k : Nat) : Tab := T.getD k tabNone
/-- the sources of a selection, one after the other -/
def cSrcs (T : List Tab) (A : List Nod) (pt : List Nat) : List Src → List (Str × Tab) → Ex (List (Str × Tab))
  | [], acc => .ok acc
  | s :: l, acc => do
    let k ← tbNeed T s.1
    xMust (!(acc.any fun q => q.1 == s.2.1)) "42712"
    tCond A (acc ++ [(s.2.1, tbGet T k)], pt, false) s.2.2.2
    cSrcs T A pt l (acc ++ [(s.2.1, tbGet T k)])
/-- columns stand within what is grouped by -/
def tApart (A : List Nod) (E : TEnv) (gs : List Nat) : Nat → Nat → Ex Unit
  | 0, _ => .ok ()
  | f + 1, i =>
    let n := A.getD i nNone
    if ndO n == 3 && tGather (ndS n) then .ok ()
    else if gs.any fun g => tEqual A A E (i + 1) i g then .ok ()
    else if ndO n == 2 then xErr "42803"
    else (ndP n).forM (tApart A E gs f)
def cApart (gr : Bool) (A : List Nod) (E : TEnv) (gs : List Nat) (i : Nat) : Ex Unit := if gr then tApart A E gs (i + 1) i else .ok ()
/-- columns of a selection: node, title, type -/
abbrev SCol : Type := Nat × Str × Nat
def cTitle (n : Nod) : Str := if ndO n == 2 || ndO n == 3 then ndS n else if ndO n == 4 then sStr "case" else sStr "?column?"
def cAdd (cs : List SCol) (c : SCol) : Ex (List SCol) := if cs.length == 16 then xErr "54000" else .ok (cs ++ [c])
/-- a column that a star stands for -/
def cStar1 (gr : Bool) (E : TEnv) (gs : List Nat) (s : Str) (c : Col) (q : List Nod × List SCol) : Ex (List Nod × List SCol) := do
  let A := q.1 ++ [(2, 0, c.1, some s, vNull, [], q.1.length)]
  cApart gr A E gs q.1.length
  let cs ← cAdd q.2 (q.1.length, c.1, c.2.1)
  .ok (A, cs)
def cStarT (gr : Bool) (E : TEnv) (gs : List Nat) (s : Str) : List Col → List Nod × List SCol → Ex (List Nod × List SCol)
  | [], q => .ok q
  | c :: l, q => do
    let q ← cStar1 gr E gs s c q
    cStarT gr E gs s l q
def cStars (gr : Bool) (E : TEnv) (gs : List Nat) (of : Option Str) : List (Str × Tab) → List Nod × List SCol → Ex (List Nod × List SCol)
  | [], q => .ok q
  | s :: l, q => do
    let q ← (if of.all (· == s.1) then cStarT gr E gs s.1 s.2.2.1 q else .ok q)
    cStars gr E gs of l q
def cItem (gr : Bool) (E : TEnv) (gs : List Nat) (i : Itm) (q : List Nod × List SCol) : Ex (List Nod × List SCol) :=
  if i.1 then do
    xMust (i.2.1.isSome || !E.1.isEmpty) "42601"
    xMust (i.2.1.isNone || E.1.any fun s => i.2.1 == some s.1) "42P01"
    cStars gr E gs i.2.1 E.1 q
  else do
    let t ← tType q.1 E i.2.2
    cApart gr q.1 E gs i.2.2
    let cs ← cAdd q.2 (i.2.2, i.2.1.getD (cTitle (q.1.getD i.2.2 nNone)), t)
    .ok (q.1, cs)
/-- the items; of each the first column is kept -/
def cItems (gr : Bool) (E : TEnv) (gs : List Nat) : List Itm → List Nod × List SCol → List Nat → Ex ((List Nod × List SCol) × List Nat)
  | [], q, st => .ok (q, st)
  | i :: l, q, st => do
    let q' ← cItem gr E gs i q
    cItems gr E gs l q' (st ++ [q.2.length])
/-- the item that has the name by AS -/
def cNamed (is : List Itm) (s : Str) : Option Nat := is.findIdx? fun i => !i.1 && i.2.1 == some s
/-- what an order goes by: a column, or a tree -/
def cOrder (gr ds : Bool) (E : TEnv) (gs : List Nat) (is : List Itm) (st : List Nat) (A : List Nod) (cs : List SCol) (x : Nat) : Ex (Nat ⊕ Nat) :=
  let n := A.getD x nNone
  if ndO n == 0 && (ndV n).1 == 20 then
    if 1 ≤ (ndV n).2.1 && (ndV n).2.1 ≤ Int64.ofNat cs.length then .ok (.inl ((ndV n).2.1.toNatClampNeg - 1)) else xErr "42P10"
  else match (if ndO n == 2 && (ndF n).isNone then cNamed is (ndS n) else none) with
    | some k => .ok (.inl (st.getD k 0))
    | none => do
      let _ ← tType A E x
      cApart gr A E gs x
      xMust (!ds || cs.any fun c => tEqual A A E (x + 1) x c.1) "42P10"
      .ok (.inr x)
def cOrders (gr ds : Bool) (E : TEnv) (gs : List Nat) (is : List Itm) (st : List Nat) (A : List Nod) (cs : List SCol) : List (Nat × Bool) → List (Nat ⊕ Nat) → Ex (List (Nat ⊕ Nat))
  | [], acc => .ok acc
  | o :: l, acc => do
    let k ← cOrder gr ds E gs is st A cs o.1
    cOrders gr ds E gs is st A cs l (acc ++ [k])
def cTypes (A : List Nod) (E : TEnv) : List Nat → Ex Unit
  | [] => .ok ()
  | g :: l => do
    let _ ← tType A E g
    cTypes A E l
/-- a checked selection: sources, nodes with those of stars, columns, orders, whether it is grouped -/
abbrev CSel : Type := List (Str × Tab) × List Nod × List SCol × List (Nat ⊕ Nat) × Bool
def cGrouped (A : List Nod) (s : Sel) : Bool := !(slG s).isEmpty || ((slH s).isSome || ((slI s).any fun i => !i.1 && tGathers A (i.2.2 + 1) i.2.2) || (slO s).any fun o => tGathers A (o.1 + 1) o.1)
def cSelect (T : List Tab) (pt : List Nat) (s : Stm) : Ex CSel := do
  let A := smA s
  let q := smS s
  let ss ← cSrcs T A pt (slF q) []
  tCond A (ss, pt, false) (smW s)
  cTypes A (ss, pt, false) (slG q)
  let gr := cGrouped A q
  let E : TEnv := (ss, pt, true)
  tCond A E (slH q)
  (match slH q with
    | some x => tApart A E (slG q) (x + 1) x
    | none => .ok ())
  let r ← cItems gr E (slG q) (slI q) (A, []) []
  let os ← cOrders gr (slD q) E (slG q) (slI q) r.2 r.1.1 r.1.2 (slO q) []
  .ok (ss, r.1.1, r.1.2, os, gr)
/-! rows of sources: which row of each, none: missing -/
abbrev Tup : Type := List (Option Nat)
def tbRows (t : Tab) : List (List Val) := t.2.2
def tupRow (ss : List (Str × Tab)) (p : Tup) : TRow := (p.zip ss).map fun q => q.1.map fun r => (tbRows q.2.2).getD r []
/-- all ways to take a row of each source -/
def sJoinL (on : Tup → Ex Bool) (rec : Tup → Ex (List Tup)) (p : Tup) : List Nat → Bool × List Tup → Ex (Bool × List Tup)
  | [], acc => .ok acc
  | r :: l, acc => do
    let b ← on (p ++ [some r])
    if b then
      let m ← rec (p ++ [some r])
      sJoinL on rec p l (true, acc.2 ++ m)
    else sJoinL on rec p l acc
def sJoin (A : List Nod) (ss : List (Str × Tab)) (pt : List Nat) (pv : List Val) : List (Src × Tab) → Tup → Ex (List Tup)
  | [], p => .ok [p]
  | s :: l, p => do
    let q ← sJoinL (fun p' => eCond A (ss.take p'.length, pt, false) pv [] (tupRow ss p') s.1.2.2.2) (sJoin A ss pt pv l) p (List.range (tbRows s.2).length) (false, [])
    if q.1 || !s.1.2.2.1 then .ok q.2
    else
      let m ← sJoin A ss pt pv l (p ++ [none])
      .ok (q.2 ++ m)
def sFilter (c : Tup → Ex Bool) : List Tup → List Tup → Ex (List Tup)
  | [], acc => .ok acc
  | p :: l, acc => do
    let b ← c p
    sFilter c l (if b then acc ++ [p] else acc)
def vAlikes (a b : List Val) : Bool := (a.zip b).all fun q => vAlike q.1 q.2
/-- the values of some trees, one after the other -/
def sVals (ev : Nat → Ex Val) : List Nat → List Val → Ex (List Val)
  | [], acc => .ok acc
  | x :: l, acc => do
    let v ← ev x
    sVals ev l (acc ++ [v])
abbrev Grp : Type := List Val × List Tup
def sGroup1 (k : List Val) (p : Tup) (gs : List Grp) : Ex (List Grp) := match gs.findIdx? fun g => vAlikes g.1 k with
  | some g => .ok (gs.modify g fun q => (q.1, q.2 ++ [p]))
  | none => if gs.length == 300 then xErr "54000" else .ok (gs ++ [(k, [p])])
def sGroups (key : Tup → Ex (List Val)) : List Tup → List Grp → Ex (List Grp)
  | [], gs => .ok gs
  | p :: l, gs => do
    let k ← key p
    let gs ← sGroup1 k p gs
    sGroups key l gs
def sStays (c : Grp → Ex Bool) : List Grp → List Bool → Ex (List Bool)
  | [], acc => .ok acc
  | g :: l, acc => do
    let b ← c g
    sStays c l (acc ++ [b])
/-- the columns and the orders of a row -/
abbrev ORow : Type := List Val × List Val
def sOrdV (ev : Nat → Ex Val) (cs : List Val) : List (Nat ⊕ Nat) → List Val → Ex (List Val)
  | [], acc => .ok acc
  | .inl c :: l, acc => sOrdV ev cs l (acc ++ [cs.getD c vNull])
  | .inr x :: l, acc => do
    let v ← ev x
    sOrdV ev cs l (acc ++ [v])
def sOut1 (ev : Nat → Ex Val) (cs : List SCol) (os : List (Nat ⊕ Nat)) : Ex ORow := do
  let c ← sVals ev (cs.map (·.1)) []
  let o ← sOrdV ev c os []
  .ok (c, o)
def sOuts {α : Type} (f : α → Ex ORow) : List α → List ORow → Ex (List ORow)
  | [], acc => .ok acc
  | p :: l, acc => do
    let r ← f p
    sOuts f l (acc ++ [r])
def sDistinct : List ORow → List ORow → List ORow
  | [], acc => acc
  | r :: l, acc => sDistinct l (if acc.any fun a => vAlikes a.1 r.1 then acc else acc ++ [r])
/-- missing ones last -/
def oCmp1 (x y : Val) : Int := if x.1 == 0 || y.1 == 0 then (if x.1 == 0 then 1 else 0) - (if y.1 == 0 then 1 else 0) else vCmp x y
def oCmp : List Bool → List Val → List Val → Int
  | dn :: l, x :: a, y :: b => if oCmp1 x y == 0 then oCmp l a b else if dn then -oCmp1 x y else oCmp1 x y
  | _, _, _ => 0
/-- r goes behind the last one that is not above it; the list is turned round -/
def oIns (dn : List Bool) (r : ORow) : List ORow → List ORow
  | [] => [r]
  | e :: l => if 0 < oCmp dn e.2 r.2 then e :: oIns dn r l else r :: e :: l
def oSort (dn : List Bool) : List ORow → List ORow → List ORow
  | [], acc => acc
  | r :: l, acc => oSort dn l (oIns dn r acc)
def vSize (v : Val) : Nat := if v.1 == 0 then 0 else if v.1 == 20 then (sDigits v.2.1).length else if v.1 == 16 then 1 else v.2.2.length
def sBytes (rs : List (List Val)) : Nat := (rs.map fun r => (r.map vSize).sum).sum
/-- the rows of a selection; sent: bytes of this step so far -/
def sSelect (pt : List Nat) (pv : List Val) (s : Stm) (c : CSel) (sent : Nat) : Ex (List (List Val) × Nat) := do
  let q := smS s
  let ss := c.1
  let A := c.2.1
  xMust (((ss.map fun t => (tbRows t.2).length).foldl (· * ·) 1) ≤ 10000) "54000"
  let E : TEnv := (ss, pt, true)
  let tp ← sJoin A ss pt pv ((slF q).zip (ss.map (·.2))) []
  let tp ← (match smW s with
    | none => .ok tp
    | some x => sFilter (fun p => eCond A E pv [] (tupRow ss p) (some x)) tp [])
  let rs ← (if c.2.2.2.2 then do
      let gs ← (if (slG q).isEmpty then .ok [([], tp)] else sGroups (fun p => sVals (eVal A E pv [] (tupRow ss p)) (slG q) []) tp [])
      let ev := fun (g : Grp) => eVal A E pv (g.2.map (tupRow ss)) (tupRow ss (g.2.headD []))
      let st ← sStays (fun g => eCond A E pv (g.2.map (tupRow ss)) (tupRow ss (g.2.headD [])) (slH q)) gs []
      sOuts (fun g => sOut1 (ev g) c.2.2.1 c.2.2.2.1) (((gs.zip st).filter (·.2)).map (·.1)) []
    else do
      xMust (tp.length ≤ 300) "54000"
      sOuts (fun p => sOut1 (eVal A E pv [] (tupRow ss p)) c.2.2.1 c.2.2.2.1) tp [])
  let rs := if slD q then sDistinct rs [] else rs
  let rs := (oSort ((slO q).map (·.2)) rs []).reverse
  let from_ := (min (slX q) (Int64.ofNat rs.length)).toNatClampNeg
  let n := match slL q with
    | some l => min (rs.length - from_) l.toNatClampNeg
    | none => rs.length - from_
  xMust (n ≤ 200) "54000"
  let out := ((rs.drop from_).take n).map (·.1)
  xMust (sent + sBytes out ≤ 8000) "54000"
  .ok (out, sent + sBytes out)
/-! other statements -/
/-- the places of named columns -/
def cPlaces (cs : List Col) : List Str → List Nat → Ex (List Nat)
  | [], acc => .ok acc
  | s :: l, acc => match tColOf cs s with
    | none => xErr "42703"
    | some c => if acc.contains c then xErr "42701" else cPlaces cs l (acc ++ [c])
def cVals (A : List Nod) (E : TEnv) (cs : List Col) : List Nat → List Nat → Ex Unit
  | x :: l, p :: ps => do
    let t ← tType A E x
    tFits t ((cs.getD p ([], 0, false, false)).2.1)
    cVals A E cs l ps
  | _, _ => .ok ()
def cRows (A : List Nod) (E : TEnv) (cs : List Col) (ps : List Nat) : List (List Nat) → Ex Unit
  | [] => .ok ()
  | r :: l => do
    xMust (r.length == ps.length) "42601"
    cVals A E cs r ps
    cRows A E cs ps l
def cSets (A : List Nod) (E : TEnv) (cs : List Col) : List (Str × Nat) → List Nat → Ex (List Nat)
  | [], acc => .ok acc
  | s :: l, acc => match tColOf cs s.1 with
    | none => xErr "42703"
    | some c => if acc.contains c then xErr "42701" else do
      let t ← tType A E s.2
      tFits t ((cs.getD c ([], 0, false, false)).2.1)
      cSets A E cs l (acc ++ [c])
def cDup : List Col → List Str → Ex Unit
  | [], _ => .ok ()
  | c :: l, acc => if acc.contains c.1 then xErr "42701" else cDup l (acc ++ [c.1])
/-- a statement that is no selection is checked; for INSERT and UPDATE: the places -/
def cOther (T : List Tab) (pt : List Nat) (s : Stm) : Ex (List Nat) :=
  match smK s with
  | 0 => do
    xMust ((tbAt T (smT s)).isNone) "42P07"
    cDup (smC s) []
    xMust (T.length != 4) "54000"
    .ok []
  | 1 => (tbNeed T (smT s)).map fun _ => []
  | 2 => do
    let k ← tbNeed T (smT s)
    let cs := (tbGet T k).2.1
    let ps ← (if (smN s).isEmpty then .ok (List.range cs.length) else cPlaces cs (smN s) [])
    cRows (smA s) ([], pt, false) cs ps (smR s)
    .ok ps
  | 3 => do
    let k ← tbNeed T (smT s)
    let E : TEnv := ([(smT s, tbGet T k)], pt, false)
    let ps ← cSets (smA s) E (tbGet T k).2.1 ((smN s).zip ((smR s).headD [])) []
    tCond (smA s) E (smW s)
    .ok ps
  | 4 => do
    let k ← tbNeed T (smT s)
    tCond (smA s) ([(smT s, tbGet T k)], pt, false) (smW s)
    .ok []
  | _ => .ok []
def rSet (row : List Val) : List Nat → List Val → List Val
  | p :: ps, v :: vs => rSet (row.set p v) ps vs
  | _, _ => row
def rMiss (cs : List Col) (row : List Val) : Bool := (cs.zip row).any fun q => q.1.2.2.1 && q.2.1 == 0
def uNew (A : List Nod) (pt : List Nat) (pv : List Val) (cs : List Col) (ps : List Nat) : List (List Nat) → List (List Val) → Ex (List (List Val))
  | [], acc => .ok acc
  | r :: l, acc => do
    let vs ← sVals (eVal A ([], pt, false) pv [] []) r []
    let row := rSet (List.replicate cs.length vNull) ps vs
    xMust (!rMiss cs row) "23502"
    uNew A pt pv cs ps l (acc ++ [row])
/-- no two of a column are alike -/
def uSame (c : Nat) : List (List Val) → List (List Val) → Bool
  | [], _ => false
  | r :: l, acc => ((r.getD c vNull).1 != 0 && acc.any fun a => vAlike (r.getD c vNull) (a.getD c vNull)) || uSame c l (acc ++ [r])
def uSingles (cs : List Col) (rows : List (List Val)) : Ex Unit := xMust (!(cs.zipIdx.any fun q => q.1.2.2.2 && uSame q.2 rows [])) "23505"
def uSet1 (ev : List Val → Nat → Ex Val) (cs : List Col) (ps : List Nat) (xs : List Nat) (r : List Val) : Ex (List Val) := do
  let vs ← sVals (ev r) xs []
  let row := rSet r ps vs
  xMust (!rMiss cs row) "23502"
  .ok row
def uSets (w : List Val → Ex Bool) (f : List Val → Ex (List Val)) : List (List Val) → List (List Val) × Nat → Ex (List (List Val) × Nat)
  | [], acc => .ok acc
  | r :: l, acc => do
    let b ← w r
    if b then
      let r' ← f r
      uSets w f l (acc.1 ++ [r'], acc.2 + 1)
    else uSets w f l (acc.1 ++ [r], acc.2)
def uKeep (w : List Val → Ex Bool) : List (List Val) → List (List Val) → Ex (List (List Val))
  | [], acc => .ok acc
  | r :: l, acc => do
    let b ← w r
    uKeep w l (if b then acc else acc ++ [r])
def tbPut (T : List Tab) (k : Nat) (rows : List (List Val)) : List Tab := T.set k ((tbGet T k).1, (tbGet T k).2.1, rows)
/-- what it does to the tables; how many rows -/
def uWork (T : List Tab) (pt : List Nat) (pv : List Val) (s : Stm) (ps : List Nat) : Ex (List Tab × Nat) :=
  let k := (tbAt T (smT s)).getD 0
  let t := tbGet T k
  match smK s with
  | 0 => .ok (T ++ [(smT s, smC s, [])], 0)
  | 1 => .ok (T.eraseIdx k, 0)
  | 2 => do
    let rs ← uNew (smA s) pt pv t.2.1 ps (smR s) []
    xMust ((tbRows t).length + rs.length ≤ 100) "54000"
    uSingles t.2.1 (tbRows t ++ rs)
    .ok (tbPut T k (tbRows t ++ rs), rs.length)
  | 3 => do
    let E : TEnv := ([(smT s, t)], pt, false)
    let q ← uSets (fun r => eCond (smA s) E pv [] [some r] (smW s)) (uSet1 (fun r => eVal (smA s) E pv [] [some r]) t.2.1 ps ((smR s).headD [])) (tbRows t) ([], 0)
    uSingles t.2.1 q.1
    .ok (tbPut T k q.1, q.2)
  | _ => do
    let E : TEnv := ([(smT s, t)], pt, false)
    let q ← uKeep (fun r => eCond (smA s) E pv [] [some r] (smW s)) (tbRows t) []
    .ok (tbPut T k q, (tbRows t).length - q.length)
