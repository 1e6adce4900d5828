/-! the specification: signs and trees -/
abbrev Str : Type := List Int32
/-- a value: its type (0 null, 16 truth, 20 number, 25 text), number, text -/
abbrev Val : Type := Nat × Int64 × Str
abbrev vNull : Val := (0, 0, [])
def vBool (b : Bool) : Val := (16, if b then 1 else 0, [])
def vNum (n : Int64) : Val := (20, n, [])
def vTxt (s : Str) : Val := (25, 0, s)
def sMost : Int64 := 9007199254740991
/-- a sign: kind (0 end, 1 reserved word, 2 name, 3 number, 4 text, 5 parameter, 6 sign, 7 bad), from, to, word, number, text -/
abbrev Tok : Type := Nat × Nat × Nat × Str × Int64 × Str
def tkK (t : Tok) : Nat := t.1
def tkF (t : Tok) : Nat := t.2.1
def tkT (t : Tok) : Nat := t.2.2.1
def tkW (t : Tok) : Str := t.2.2.2.1
def tkN (t : Tok) : Int64 := t.2.2.2.2.1
def tkS (t : Tok) : Str := t.2.2.2.2.2
def sLk (src : Str) (i : Nat) : Int32 := match src[i]? with
  | some b => b &&& 255
  | none => -1
def sLetter (c : Int32) : Bool := (97 ≤ c && c ≤ 122) || ((65 ≤ c && c ≤ 90) || c == 95)
def sDigit (c : Int32) : Bool := 48 ≤ c && c ≤ 57
def sSmall (c : Int32) : Int32 := if 65 ≤ c && c ≤ 90 then c + 32 else c
def sSpace (c : Int32) : Bool := c == 32 || (c == 9 || (c == 10 || c == 13))
/-- to the end of a remark's line -/
def sLine (src : Str) : Nat → Nat → Nat
  | 0, i => i
  | n + 1, i => if i < src.length && sLk src i != 10 then sLine src n (i + 1) else i
def sSkip (src : Str) : Nat → Nat → Nat
  | 0, i => i
  | n + 1, i =>
    if sSpace (sLk src i) then sSkip src n (i + 1)
    else if sLk src i == 45 && sLk src (i + 1) == 45 then sSkip src n (sLine src src.length i)
    else i
/-- where a word ends -/
def sWordEnd (src : Str) : Nat → Nat → Nat
  | 0, i => i
  | n + 1, i => if sLetter (sLk src i) || sDigit (sLk src i) then sWordEnd src n (i + 1) else i
def sWord (src : Str) (i j : Nat) : Str := (List.range (j - i)).map fun k => sSmall (sLk src (i + k))
def sNumEnd (src : Str) : Nat → Nat → Nat
  | 0, i => i
  | n + 1, i => if sDigit (sLk src i) then sNumEnd src n (i + 1) else i
/-- the digits of a number; beyond the greatest it stays there -/
def sNum (src : Str) : Nat → Nat → Int64 → Int64
  | 0, _, v => v
  | n + 1, i, v => if sDigit (sLk src i) then sNum src n (i + 1) (if v ≤ sMost then 10 * v + (sLk src i).toInt64 - 48 else v) else v
/-- a quoted text from behind its first quote: its end and its characters, none if it is bad -/
def sQuoted (src : Str) : Nat → Nat → Str → Option (Nat × Str)
  | 0, _, _ => none
  | n + 1, i, acc =>
    let c := sLk src i
    if c < 32 || 126 < c then none
    else if c == 39 then
      if sLk src (i + 1) == 39 then (if acc.length == 40 then none else sQuoted src n (i + 2) (acc ++ [39])) else some (i + 1, acc)
    else if acc.length == 40 then none else sQuoted src n (i + 1) (acc ++ [c])
def sStr (s : String) : Str := s.toList.map fun c => Int32.ofNat c.toNat
def sReserved : List Str := ["create", "table", "int", "text", "bool", "not", "null", "unique", "primary", "key", "drop", "insert", "into", "values", "update", "set", "where", "delete", "from", "begin", "commit", "rollback", "select", "distinct", "left", "join", "on", "group", "by", "having", "order", "asc", "desc", "limit", "offset", "as", "or", "and", "is", "in", "like", "between", "true", "false", "case", "when", "then", "else", "end"].map sStr
def sSigns : Str := sStr "(),.;*+-/%=<>"
def sTwo (c d : Int32) : Bool := (c == 60 && (d == 62 || d == 61)) || ((c == 62 && d == 61) || (c == 124 && d == 124))
/-- the next sign from i on -/
def sTok (src : Str) (i0 : Nat) : Tok :=
  let i := sSkip src (src.length + 1) i0
  let c := sLk src i
  if c < 0 then (0, i, i, [], 0, [])
  else if sLetter c then
    let j := sWordEnd src src.length i
    let w := sWord src i j
    (if sReserved.contains w then 1 else if w.length ≤ 20 then 2 else 7, i, j, w, 0, [])
  else if sDigit c then
    let v := sNum src src.length i 0
    (if sMost < v then 7 else 3, i, sNumEnd src src.length i, [], v, [])
  else if c == 39 then match sQuoted src (src.length + 1) (i + 1) [] with
    | some (j, s) => (4, i, j, [], 0, s)
    | none => (7, i, i, [], 0, [])
  else if c == 36 then
    (if 49 ≤ sLk src (i + 1) && sLk src (i + 1) ≤ 56 then 5 else 7, i, i + 2, [], (sLk src (i + 1) - 48).toInt64, [])
  else if sTwo c (sLk src (i + 1)) then (6, i, i + 2, [c, sLk src (i + 1)], 0, [])
  else (if sSigns.contains c then 6 else 7, i, i + 1, [c], 0, [])
/-- a node of a tree: op, kind, name, of, literal, parts, and where its tree begins among the nodes.
    ops: 0 literal, 1 parameter, 2 column, 3 function, 4 case, 5 in, 6 like, 7 between, 8 is null, 9 compared, 10 and, 11 or, 12 not, 13 minus, 14 worked, 15 star -/
abbrev Nod : Type := Nat × Nat × Str × Option Str × Val × List Nat × Nat
/-- what a parser knows: the sign, open, operators, greatest parameter, the nodes so far -/
abbrev PS : Type := Tok × Nat × Nat × Nat × List Nod
def psT (σ : PS) : Tok := σ.1
def psO (σ : PS) : Nat := σ.2.1
def psN (σ : PS) : Nat := σ.2.2.1
def psP (σ : PS) : Nat := σ.2.2.2.1
def psA (σ : PS) : List Nod := σ.2.2.2.2
def pBroken {α : Type} (σ : PS) : Except Nat (α × PS) := .error (tkF (psT σ) + 1)
/-- the next sign; the strict one refuses a bad sign at once -/
def pNext (sx : Bool) (src : Str) (σ : PS) : Except Nat (Unit × PS) :=
  let t := sTok src (tkT (psT σ))
  if sx && tkK t == 7 then .error (tkF t + 1) else .ok ((), t, σ.2)
def pIs (σ : PS) (s : String) : Bool := (tkK (psT σ) == 1 || tkK (psT σ) == 6) && tkW (psT σ) == sStr s
def pTake (sx : Bool) (src : Str) (s : String) (σ : PS) : Except Nat (Bool × PS) :=
  if pIs σ s then (pNext sx src σ).map fun q => (true, q.2) else .ok (false, σ)
def pNeed (sx : Bool) (src : Str) (s : String) (σ : PS) : Except Nat (Unit × PS) :=
  if pIs σ s then pNext sx src σ else pBroken σ
def pName (sx : Bool) (src : Str) (σ : PS) : Except Nat (Str × PS) :=
  if tkK (psT σ) == 2 then (pNext sx src σ).map fun q => (tkW (psT σ), q.2) else pBroken σ
def pNode (σ : PS) (nd : Nod) : Nat × PS := ((psA σ).length, psT σ, psO σ, psN σ, psP σ, psA σ ++ [nd])
def pEnter (σ : PS) : Except Nat (Unit × PS) := if psO σ == 30 then pBroken σ else .ok ((), psT σ, psO σ + 1, σ.2.2)
def pLeave (σ : PS) : PS := (psT σ, psO σ - 1, σ.2.2)
def pOper (sx : Bool) (src : Str) (σ : PS) : Except Nat (Unit × PS) :=
  if psN σ == 300 then pBroken σ else pNext sx src (psT σ, psO σ, psN σ + 1, σ.2.2.2)
/-- expressions between commas, at most m -/
def pList (rec : PS → Except Nat (Nat × PS)) (sx : Bool) (src : Str) (m : Nat) : Nat → List Nat → PS → Except Nat (List Nat × PS)
  | 0, _, σ => pBroken σ
  | n + 1, l, σ =>
    if l.length == m then pBroken σ
    else do
      let (x, σ) ← rec σ
      let (c, σ) ← pTake sx src "," σ
      if c then pList rec sx src m n (l ++ [x]) σ else .ok (l ++ [x], σ)
/-- WHEN and THEN -/
def pWhens (rec : PS → Except Nat (Nat × PS)) (sx : Bool) (src : Str) : Nat → List Nat → PS → Except Nat (List Nat × PS)
  | 0, _, σ => pBroken σ
  | n + 1, l, σ =>
    if !pIs σ "when" then .ok (l, σ)
    else if l.length == 38 then pBroken σ
    else do
      let (_, σ) ← pNext sx src σ
      let (x, σ) ← rec σ
      let (_, σ) ← pNeed sx src "then" σ
      let (y, σ) ← rec σ
      pWhens rec sx src n (l ++ [x, y]) σ
def pCases (rec : PS → Except Nat (Nat × PS)) (sx : Bool) (src : Str) (lo : Nat) (σ : PS) : Except Nat (Nat × PS) := do
  if !pIs σ "when" then pBroken σ
  else
    let (l, σ) ← pWhens rec sx src 20 [] σ
    let (e, σ) ← pTake sx src "else" σ
    if e then
      let (x, σ) ← rec σ
      let (_, σ) ← pNeed sx src "end" σ
      .ok (pNode σ (4, 1, [], none, vNull, l ++ [x], lo))
    else
      let (_, σ) ← pNeed sx src "end" σ
      .ok (pNode σ (4, 0, [], none, vNull, l, lo))
def pPrimary (rec : PS → Except Nat (Nat × PS)) (sx : Bool) (src : Str) (σ : PS) : Except Nat (Nat × PS) :=
  let lo := (psA σ).length
  let t := psT σ
  if tkK t == 3 then (pNext sx src σ).map fun q => pNode q.2 (0, 0, [], none, vNum (tkN t), [], lo)
  else if tkK t == 4 then (pNext sx src σ).map fun q => pNode q.2 (0, 0, [], none, vTxt (tkS t), [], lo)
  else if tkK t == 5 then
    let k := (tkN t).toNatClampNeg
    (pNext sx src (t, psO σ, psN σ, max (psP σ) k, psA σ)).map fun q => pNode q.2 (1, k - 1, [], none, vNull, [], lo)
  else if pIs σ "true" || pIs σ "false" then (pNext sx src σ).map fun q => pNode q.2 (0, 0, [], none, vBool (pIs σ "true"), [], lo)
  else if pIs σ "null" then (pNext sx src σ).map fun q => pNode q.2 (0, 0, [], none, vNull, [], lo)
  else if pIs σ "case" then (pNext sx src σ).bind fun q => pCases rec sx src lo q.2
  else if pIs σ "(" then do
    let (_, σ) ← pNext sx src σ
    let (x, σ) ← rec σ
    let (_, σ) ← pNeed sx src ")" σ
    .ok (x, σ)
  else do
    let (s, σ) ← pName sx src σ
    if pIs σ "(" then do
      let (_, σ) ← pNext sx src σ
      let (star, σ) ← pTake sx src "*" σ
      if star || pIs σ ")" then do
        let (_, σ) ← pNeed sx src ")" σ
        .ok (pNode σ (3, if star then 1 else 0, s, none, vNull, [], lo))
      else do
        let (l, σ) ← pList rec sx src 8 9 [] σ
        let (_, σ) ← pNeed sx src ")" σ
        .ok (pNode σ (3, 0, s, none, vNull, l, lo))
    else if pIs σ "." then do
      let (_, σ) ← pNext sx src σ
      let (s2, σ) ← pName sx src σ
      .ok (pNode σ (2, 0, s2, some s, vNull, [], lo))
    else .ok (pNode σ (2, 0, s, none, vNull, [], lo))
def pMinus (rec : PS → Except Nat (Nat × PS)) (sx : Bool) (src : Str) : Nat → PS → Except Nat (Nat × PS)
  | 0, σ => pBroken σ
  | n + 1, σ =>
    let lo := (psA σ).length
    if !pIs σ "-" then pPrimary rec sx src σ
    else do
      let (_, σ) ← pEnter σ
      let (_, σ) ← pNext sx src σ
      let (x, σ) ← pMinus rec sx src n σ
      .ok (pNode (pLeave σ) (13, 0, [], none, vNull, [x], lo))
def pProducts (rec : PS → Except Nat (Nat × PS)) (sx : Bool) (src : Str) (lo : Nat) : Nat → Nat → PS → Except Nat (Nat × PS)
  | 0, _, σ => pBroken σ
  | n + 1, x, σ =>
    if pIs σ "*" || (pIs σ "/" || pIs σ "%") then do
      let k := if pIs σ "*" then 2 else if pIs σ "/" then 3 else 4
      let (_, σ) ← pOper sx src σ
      let (y, σ) ← pMinus rec sx src 31 σ
      let (z, σ) := pNode σ (14, k, [], none, vNull, [x, y], lo)
      pProducts rec sx src lo n z σ
    else .ok (x, σ)
def pTerm (rec : PS → Except Nat (Nat × PS)) (sx : Bool) (src : Str) (σ : PS) : Except Nat (Nat × PS) := do
  let lo := (psA σ).length
  let (x, σ) ← pMinus rec sx src 31 σ
  pProducts rec sx src lo 302 x σ
def pSumsL (rec : PS → Except Nat (Nat × PS)) (sx : Bool) (src : Str) (lo : Nat) : Nat → Nat → PS → Except Nat (Nat × PS)
  | 0, _, σ => pBroken σ
  | n + 1, x, σ =>
    if pIs σ "+" || (pIs σ "-" || pIs σ "||") then do
      let k := if pIs σ "+" then 0 else if pIs σ "-" then 1 else 5
      let (_, σ) ← pOper sx src σ
      let (y, σ) ← pTerm rec sx src σ
      let (z, σ) := pNode σ (14, k, [], none, vNull, [x, y], lo)
      pSumsL rec sx src lo n z σ
    else .ok (x, σ)
def pSums (rec : PS → Except Nat (Nat × PS)) (sx : Bool) (src : Str) (σ : PS) : Except Nat (Nat × PS) := do
  let lo := (psA σ).length
  let (x, σ) ← pTerm rec sx src σ
  pSumsL rec sx src lo 302 x σ
/-- IN, LIKE, BETWEEN behind x; none of them: x itself, if that may be -/
def pAmong (rec : PS → Except Nat (Nat × PS)) (sx : Bool) (src : Str) (lo x : Nat) (due : Bool) (σ : PS) : Except Nat (Nat × PS) :=
  if pIs σ "in" then do
    let (_, σ) ← pNext sx src σ
    let (_, σ) ← pNeed sx src "(" σ
    let (l, σ) ← pList rec sx src 8 9 [] σ
    let (_, σ) ← pNeed sx src ")" σ
    .ok (pNode σ (5, 0, [], none, vNull, x :: l, lo))
  else if pIs σ "like" then do
    let (_, σ) ← pNext sx src σ
    let (y, σ) ← pSums rec sx src σ
    .ok (pNode σ (6, 0, [], none, vNull, [x, y], lo))
  else if pIs σ "between" then do
    let (_, σ) ← pNext sx src σ
    let (a, σ) ← pSums rec sx src σ
    let (_, σ) ← pNeed sx src "and" σ
    let (b, σ) ← pSums rec sx src σ
    .ok (pNode σ (7, 0, [], none, vNull, [x, a, b], lo))
  else if due then pBroken σ else .ok (x, σ)
def pCmp (σ : PS) : Option Nat :=
  if tkK (psT σ) == 6 then
    if pIs σ "=" then some 0 else if pIs σ "<>" then some 1 else if pIs σ "<" then some 2 else if pIs σ "<=" then some 3 else if pIs σ ">" then some 4 else if pIs σ ">=" then some 5 else none
  else none
def pCompared (rec : PS → Except Nat (Nat × PS)) (sx : Bool) (src : Str) (σ : PS) : Except Nat (Nat × PS) := do
  let lo := (psA σ).length
  let (x, σ) ← pSums rec sx src σ
  match pCmp σ with
  | some k => do
    let (_, σ) ← pNext sx src σ
    let (y, σ) ← pSums rec sx src σ
    .ok (pNode σ (9, k, [], none, vNull, [x, y], lo))
  | none =>
    if pIs σ "is" then do
      let (_, σ) ← pNext sx src σ
      let (nt, σ) ← pTake sx src "not" σ
      let (_, σ) ← pNeed sx src "null" σ
      .ok (pNode σ (8, if nt then 1 else 0, [], none, vNull, [x], lo))
    else if pIs σ "not" then do
      let (_, σ) ← pNext sx src σ
      let (y, σ) ← pAmong rec sx src lo x true σ
      .ok (pNode σ (12, 0, [], none, vNull, [y], lo))
    else pAmong rec sx src lo x false σ
def pNots (rec : PS → Except Nat (Nat × PS)) (sx : Bool) (src : Str) : Nat → PS → Except Nat (Nat × PS)
  | 0, σ => pBroken σ
  | n + 1, σ =>
    let lo := (psA σ).length
    if !pIs σ "not" then pCompared rec sx src σ
    else do
      let (_, σ) ← pEnter σ
      let (_, σ) ← pNext sx src σ
      let (x, σ) ← pNots rec sx src n σ
      .ok (pNode (pLeave σ) (12, 0, [], none, vNull, [x], lo))
def pAndsL (rec : PS → Except Nat (Nat × PS)) (sx : Bool) (src : Str) (lo : Nat) : Nat → Nat → PS → Except Nat (Nat × PS)
  | 0, _, σ => pBroken σ
  | n + 1, x, σ =>
    if pIs σ "and" then do
      let (_, σ) ← pOper sx src σ
      let (y, σ) ← pNots rec sx src 31 σ
      let (z, σ) := pNode σ (10, 0, [], none, vNull, [x, y], lo)
      pAndsL rec sx src lo n z σ
    else .ok (x, σ)
def pAnds (rec : PS → Except Nat (Nat × PS)) (sx : Bool) (src : Str) (σ : PS) : Except Nat (Nat × PS) := do
  let lo := (psA σ).length
  let (x, σ) ← pNots rec sx src 31 σ
  pAndsL rec sx src lo 302 x σ
def pOrsL (rec : PS → Except Nat (Nat × PS)) (sx : Bool) (src : Str) (lo : Nat) : Nat → Nat → PS → Except Nat (Nat × PS)
  | 0, _, σ => pBroken σ
  | n + 1, x, σ =>
    if pIs σ "or" then do
      let (_, σ) ← pOper sx src σ
      let (y, σ) ← pAnds rec sx src σ
      let (z, σ) := pNode σ (11, 0, [], none, vNull, [x, y], lo)
      pOrsL rec sx src lo n z σ
    else .ok (x, σ)
/-- an expression; n: how deep it may still go -/
def pExpr (sx : Bool) (src : Str) : Nat → PS → Except Nat (Nat × PS)
  | 0, σ => pBroken σ
  | n + 1, σ => do
    let lo := (psA σ).length
    let (_, σ) ← pEnter σ
    let (x, σ) ← pAnds (pExpr sx src n) sx src σ
    let (x, σ) ← pOrsL (pExpr sx src n) sx src lo 302 x σ
    .ok (x, pLeave σ)
