/-! the specification: statements -/
/-- of a new table: name, type, needed, unique -/
abbrev Col : Type := Str × Nat × Bool × Bool
/-- of a selection: a star, its source or its name by AS, its tree -/
abbrev Itm : Type := Bool × Option Str × Nat
/-- the table's name, its name here, left, on -/
abbrev Src : Type := Str × Str × Bool × Option Nat
/-- distinct, items, sources, groups, having, orders, limit, offset -/
abbrev Sel : Type := Bool × List Itm × List Src × List Nat × Option Nat × List (Nat × Bool) × Option Int64 × Int64
/-- kind (0 create, 1 drop, 2 insert, 3 update, 4 delete, 5 begin, 6 commit, 7 rollback, 8 select), table, columns, names, rows of values, where, selection, greatest parameter, nodes -/
abbrev Stm : Type := Nat × Str × List Col × List Str × List (List Nat) × Option Nat × Sel × Nat × List Nod
def selNone : Sel := (false, [], [], [], none, [], none, 0)
def smK (s : Stm) : Nat := s.1
def smT (s : Stm) : Str := s.2.1
def smC (s : Stm) : List Col := s.2.2.1
def smN (s : Stm) : List Str := s.2.2.2.1
def smR (s : Stm) : List (List Nat) := s.2.2.2.2.1
def smW (s : Stm) : Option Nat := s.2.2.2.2.2.1
def smS (s : Stm) : Sel := s.2.2.2.2.2.2.1
def smP (s : Stm) : Nat := s.2.2.2.2.2.2.2.1
def smA (s : Stm) : List Nod := s.2.2.2.2.2.2.2.2
def slD (s : Sel) : Bool := s.1
def slI (s : Sel) : List Itm := s.2.1
def slF (s : Sel) : List Src := s.2.2.1
def slG (s : Sel) : List Nat := s.2.2.2.1
def slH (s : Sel) : Option Nat := s.2.2.2.2.1
def slO (s : Sel) : List (Nat × Bool) := s.2.2.2.2.2.1
def slL (s : Sel) : Option Int64 := s.2.2.2.2.2.2.1
def slX (s : Sel) : Int64 := s.2.2.2.2.2.2.2
/-- NOT NULL, UNIQUE, PRIMARY KEY -/
def pMods (sx : Bool) (src : Str) : Nat → Bool → Bool → PS → Except Nat ((Bool × Bool) × PS)
  | 0, _, _, σ => pBroken σ
  | n + 1, nd, un, σ =>
    if pIs σ "not" then do
      let (_, σ) ← pNext sx src σ
      let (_, σ) ← pNeed sx src "null" σ
      pMods sx src n true un σ
    else if pIs σ "unique" then do
      let (_, σ) ← pNext sx src σ
      pMods sx src n nd true σ
    else if pIs σ "primary" then do
      let (_, σ) ← pNext sx src σ
      let (_, σ) ← pNeed sx src "key" σ
      pMods sx src n true true σ
    else .ok ((nd, un), σ)
def pColumn (sx : Bool) (src : Str) (σ : PS) : Except Nat (Col × PS) := do
  let (s, σ) ← pName sx src σ
  let ty := if pIs σ "int" then 20 else if pIs σ "text" then 25 else 16
  if !(pIs σ "int" || (pIs σ "text" || pIs σ "bool")) then pBroken σ
  else
    let (_, σ) ← pNext sx src σ
    let (m, σ) ← pMods sx src (src.length + 1) false false σ
    .ok ((s, ty, m.1, m.2), σ)
def pCols (sx : Bool) (src : Str) : Nat → List Col → PS → Except Nat (List Col × PS)
  | 0, _, σ => pBroken σ
  | n + 1, l, σ =>
    if l.length == 10 then pBroken σ
    else do
      let (c, σ) ← pColumn sx src σ
      let (b, σ) ← pTake sx src "," σ
      if b then pCols sx src n (l ++ [c]) σ else .ok (l ++ [c], σ)
def pNames (sx : Bool) (src : Str) : Nat → List Str → PS → Except Nat (List Str × PS)
  | 0, _, σ => pBroken σ
  | n + 1, l, σ =>
    if l.length == 10 then pBroken σ
    else do
      let (c, σ) ← pName sx src σ
      let (b, σ) ← pTake sx src "," σ
      if b then pNames sx src n (l ++ [c]) σ else .ok (l ++ [c], σ)
def pRows (sx : Bool) (src : Str) : Nat → List (List Nat) → PS → Except Nat (List (List Nat) × PS)
  | 0, _, σ => pBroken σ
  | n + 1, l, σ =>
    if l.length == 20 then pBroken σ
    else do
      let (_, σ) ← pNeed sx src "(" σ
      let (r, σ) ← pList (pExpr sx src 31) sx src 10 11 [] σ
      let (_, σ) ← pNeed sx src ")" σ
      let (b, σ) ← pTake sx src "," σ
      if b then pRows sx src n (l ++ [r]) σ else .ok (l ++ [r], σ)
def pSets (sx : Bool) (src : Str) : Nat → List Str → List Nat → PS → Except Nat ((List Str × List Nat) × PS)
  | 0, _, _, σ => pBroken σ
  | n + 1, l, v, σ =>
    if l.length == 10 then pBroken σ
    else do
      let (c, σ) ← pName sx src σ
      let (_, σ) ← pNeed sx src "=" σ
      let (x, σ) ← pExpr sx src 31 σ
      let (b, σ) ← pTake sx src "," σ
      if b then pSets sx src n (l ++ [c]) (v ++ [x]) σ else .ok ((l ++ [c], v ++ [x]), σ)
def pWhere (sx : Bool) (src : Str) (s : String) (σ : PS) : Except Nat (Option Nat × PS) := do
  let (b, σ) ← pTake sx src s σ
  if b then
    let (x, σ) ← pExpr sx src 31 σ
    .ok (some x, σ)
  else .ok (none, σ)
/-- NAME . * is told from other expressions by its first signs -/
def pStarred (sx : Bool) (src : Str) (σ : PS) : Except Nat (Bool × PS) :=
  if tkK (psT σ) == 2 then
    match pNext sx src σ with
    | .error e => .error e
    | .ok (_, σ1) =>
      if pIs σ1 "." then
        match pNext sx src σ1 with
        | .error e => .error e
        | .ok (_, σ2) => .ok (pIs σ2 "*", σ)
      else .ok (false, σ)
  else .ok (false, σ)
def pItem (sx : Bool) (src : Str) (σ : PS) : Except Nat (Itm × PS) := do
  let (s, σ) ← pTake sx src "*" σ
  if s then .ok ((true, none, 0), σ)
  else
    let (st, σ) ← pStarred sx src σ
    if st then
      let w := tkW (psT σ)
      let (_, σ) ← pNext sx src σ
      let (_, σ) ← pNext sx src σ
      let (_, σ) ← pNext sx src σ
      .ok ((true, some w, 0), σ)
    else
      let (x, σ) ← pExpr sx src 31 σ
      let (a, σ) ← pTake sx src "as" σ
      if a then
        let (nm, σ) ← pName sx src σ
        .ok ((false, some nm, x), σ)
      else .ok ((false, none, x), σ)
def pItems (sx : Bool) (src : Str) : Nat → List Itm → PS → Except Nat (List Itm × PS)
  | 0, _, σ => pBroken σ
  | n + 1, l, σ =>
    if l.length == 12 then pBroken σ
    else do
      let (c, σ) ← pItem sx src σ
      let (b, σ) ← pTake sx src "," σ
      if b then pItems sx src n (l ++ [c]) σ else .ok (l ++ [c], σ)
def pSource (sx : Bool) (src : Str) (k : Nat) (joined left : Bool) (σ : PS) : Except Nat (Src × PS) :=
  if k == 3 then pBroken σ
  else do
    let (t, σ) ← pName sx src σ
    let (a, σ) ← pTake sx src "as" σ
    let (nm, σ) ← (if a || tkK (psT σ) == 2 then pName sx src σ else .ok (t, σ))
    if joined then
      let (_, σ) ← pNeed sx src "on" σ
      let (x, σ) ← pExpr sx src 31 σ
      .ok ((t, nm, left, some x), σ)
    else .ok ((t, nm, left, none), σ)
def pSources (sx : Bool) (src : Str) : Nat → List Src → PS → Except Nat (List Src × PS)
  | 0, _, σ => pBroken σ
  | n + 1, l, σ =>
    if pIs σ "," then do
      let (_, σ) ← pNext sx src σ
      let (s, σ) ← pSource sx src l.length false false σ
      pSources sx src n (l ++ [s]) σ
    else if pIs σ "left" || pIs σ "join" then do
      let (lf, σ) ← pTake sx src "left" σ
      let (_, σ) ← pNeed sx src "join" σ
      let (s, σ) ← pSource sx src l.length true lf σ
      pSources sx src n (l ++ [s]) σ
    else .ok (l, σ)
def pFrom (sx : Bool) (src : Str) (σ : PS) : Except Nat (List Src × PS) := do
  let (b, σ) ← pTake sx src "from" σ
  if b then
    let (s, σ) ← pSource sx src 0 false false σ
    pSources sx src 5 [s] σ
  else .ok ([], σ)
def pGroups (sx : Bool) (src : Str) (σ : PS) : Except Nat (List Nat × PS) := do
  let (b, σ) ← pTake sx src "group" σ
  if b then
    let (_, σ) ← pNeed sx src "by" σ
    pList (pExpr sx src 31) sx src 8 9 [] σ
  else .ok ([], σ)
def pOrdL (sx : Bool) (src : Str) : Nat → List (Nat × Bool) → PS → Except Nat (List (Nat × Bool) × PS)
  | 0, _, σ => pBroken σ
  | n + 1, l, σ =>
    if l.length == 8 then pBroken σ
    else do
      let (x, σ) ← pExpr sx src 31 σ
      let dn := pIs σ "desc"
      let (_, σ) ← (if dn || pIs σ "asc" then pNext sx src σ else .ok ((), σ))
      let (b, σ) ← pTake sx src "," σ
      if b then pOrdL sx src n (l ++ [(x, dn)]) σ else .ok (l ++ [(x, dn)], σ)
def pOrders (sx : Bool) (src : Str) (σ : PS) : Except Nat (List (Nat × Bool) × PS) := do
  let (b, σ) ← pTake sx src "order" σ
  if b then
    let (_, σ) ← pNeed sx src "by" σ
    pOrdL sx src 9 [] σ
  else .ok ([], σ)
def pInt (sx : Bool) (src : Str) (s : String) (σ : PS) : Except Nat (Option Int64 × PS) := do
  let (b, σ) ← pTake sx src s σ
  if b then
    if tkK (psT σ) == 3 then
      let v := tkN (psT σ)
      let (_, σ) ← pNext sx src σ
      .ok (some v, σ)
    else pBroken σ
  else .ok (none, σ)
def pSelect (sx : Bool) (src : Str) (σ : PS) : Except Nat (Stm × PS) := do
  let (ds, σ) ← pTake sx src "distinct" σ
  let (is, σ) ← pItems sx src 13 [] σ
  let (fs, σ) ← pFrom sx src σ
  let (wh, σ) ← pWhere sx src "where" σ
  let (gs, σ) ← pGroups sx src σ
  let (hv, σ) ← pWhere sx src "having" σ
  let (os, σ) ← pOrders sx src σ
  let (li, σ) ← pInt sx src "limit" σ
  let (of, σ) ← pInt sx src "offset" σ
  .ok ((8, [], [], [], [], wh, (ds, is, fs, gs, hv, os, li, of.getD 0), psP σ, psA σ), σ)
/-- a statement; what comes behind it is not looked at -/
def pStm0 (sx : Bool) (src : Str) (σ : PS) : Except Nat (Stm × PS) :=
  if pIs σ "create" then do
    let (_, σ) ← pNext sx src σ
    let (_, σ) ← pNeed sx src "table" σ
    let (t, σ) ← pName sx src σ
    let (_, σ) ← pNeed sx src "(" σ
    let (cs, σ) ← pCols sx src 11 [] σ
    let (_, σ) ← pNeed sx src ")" σ
    .ok ((0, t, cs, [], [], none, selNone, psP σ, psA σ), σ)
  else if pIs σ "drop" then do
    let (_, σ) ← pNext sx src σ
    let (_, σ) ← pNeed sx src "table" σ
    let (t, σ) ← pName sx src σ
    .ok ((1, t, [], [], [], none, selNone, psP σ, psA σ), σ)
  else if pIs σ "insert" then do
    let (_, σ) ← pNext sx src σ
    let (_, σ) ← pNeed sx src "into" σ
    let (t, σ) ← pName sx src σ
    let (b, σ) ← pTake sx src "(" σ
    let (ns, σ) ← (if b then do
        let (l, σ) ← pNames sx src 11 [] σ
        let (_, σ) ← pNeed sx src ")" σ
        .ok (l, σ)
      else .ok ([], σ))
    let (_, σ) ← pNeed sx src "values" σ
    let (rs, σ) ← pRows sx src 21 [] σ
    .ok ((2, t, [], ns, rs, none, selNone, psP σ, psA σ), σ)
  else if pIs σ "update" then do
    let (_, σ) ← pNext sx src σ
    let (t, σ) ← pName sx src σ
    let (_, σ) ← pNeed sx src "set" σ
    let (q, σ) ← pSets sx src 11 [] [] σ
    let (wh, σ) ← pWhere sx src "where" σ
    .ok ((3, t, [], q.1, [q.2], wh, selNone, psP σ, psA σ), σ)
  else if pIs σ "delete" then do
    let (_, σ) ← pNext sx src σ
    let (_, σ) ← pNeed sx src "from" σ
    let (t, σ) ← pName sx src σ
    let (wh, σ) ← pWhere sx src "where" σ
    .ok ((4, t, [], [], [], wh, selNone, psP σ, psA σ), σ)
  else if pIs σ "begin" || (pIs σ "commit" || pIs σ "rollback") then do
    let k := if pIs σ "begin" then 5 else if pIs σ "commit" then 6 else 7
    let (_, σ) ← pNext sx src σ
    .ok ((k, [], [], [], [], none, selNone, psP σ, psA σ), σ)
  else do
    let (_, σ) ← pNeed sx src "select" σ
    pSelect sx src σ
/-- a statement, and then its end or a sign that parts; the nodes are its own, parameters go on -/
def pStm (sx : Bool) (src : Str) (σ : PS) : Except Nat (Stm × PS) := do
  let (s, σ) ← pStm0 sx src (psT σ, 0, 0, psP σ, [])
  if tkK (psT σ) == 0 || pIs σ ";" then .ok (s, σ) else pBroken σ
/-- signs that part statements are passed over -/
def pParts (sx : Bool) (src : Str) : Nat → PS → Except Nat (Unit × PS)
  | 0, σ => pBroken σ
  | n + 1, σ => if pIs σ ";" then do
      let (_, σ) ← pNext sx src σ
      pParts sx src n σ
    else .ok ((), σ)
def ps0 : PS := ((0, 0, 0, [], 0, []), 0, 0, 0, [])
/-- the statements of a text, at most 20 -/
def pStms (sx : Bool) (src : Str) : Nat → List Stm → PS → Except Nat (List Stm)
  | 0, _, σ => .error (tkF (psT σ) + 1)
  | n + 1, l, σ =>
    if tkK (psT σ) == 0 then .ok l
    else if l.length == 20 then .error (tkF (psT σ) + 1)
    else do
      let (s, σ) ← pStm sx src σ
      let (_, σ) ← pParts sx src (src.length + 1) σ
      pStms sx src n (l ++ [s]) σ
def pText (sx : Bool) (src : Str) : Except Nat (List Stm) := do
  let (_, σ) ← pNext sx src ps0
  let (_, σ) ← pParts sx src (src.length + 1) σ
  pStms sx src 21 [] σ
/-- one statement at most, and its greatest parameter -/
def pOne (sx : Bool) (src : Str) : Except Nat (Option Stm × Nat) := do
  let (_, σ) ← pNext sx src ps0
  let (_, σ) ← pParts sx src (src.length + 1) σ
  if tkK (psT σ) == 0 then .ok (none, 0)
  else
    let (s, σ) ← pStm sx src σ
    let (_, σ) ← pParts sx src (src.length + 1) σ
    if tkK (psT σ) == 0 then .ok (some s, psP σ) else .error (tkF (psT σ) + 1)
