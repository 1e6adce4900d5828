/-! the specification: the session -/
abbrev MErr : Type := Str × Option Nat
abbrev Mx (α : Type) : Type := Except MErr α
def mErrS {α : Type} (s : String) : Mx α := .error (sStr s, none)
def mProto {α : Type} : Mx α := mErrS "08P01"
def mMust (b : Bool) (s : String) : Mx Unit := if b then .ok () else mErrS s
/-- a fault of a check: broken signs are without a place there -/
def mOfX {α : Type} (x : Ex α) : Mx α := match x with
  | .ok a => .ok a
  | .error c => .error (c, if c == sStr "42601" then some 0 else none)
def mOfP {α : Type} (x : Except Nat α) : Mx α := match x with
  | .ok a => .ok a
  | .error p => .error (sStr "42601", some p)
/-! what is sent -/
def mMsg (k : Int32) (body : Str) : Str := [k, cByte (body.length + 4) 0, cByte (body.length + 4) 1, cByte (body.length + 4) 2, cByte (body.length + 4) 3] ++ body
def vText (v : Val) : Str := if v.1 == 16 then (if v.2.1 == 1 then [116] else [102]) else if v.1 == 20 then sDigits v.2.1 else v.2.2
def mCell (v : Val) : Str := if v.1 == 0 then b4 (-1) else b4 (nI (vSize v)) ++ vText v
def mRow (r : List Val) : Str := mMsg 68 (b2 (nI r.length) ++ r.flatMap mCell)
def mCol (c : SCol) : Str := c.2.1 ++ [0, 0, 0, 0, 0, 0, 0] ++ b4 (if c.2.2 == 0 then 25 else nI c.2.2) ++ b2 (if c.2.2 == 16 then 1 else if c.2.2 == 20 then 8 else -1) ++ b4 (-1) ++ [0, 0]
def mCols (cs : List SCol) : Str := mMsg 84 (b2 (nI cs.length) ++ cs.flatMap mCol)
def mTag (s : Str) : Str := mMsg 67 (s ++ [0])
def mTagN (s : String) (n : Nat) : Str := mTag (sStr s ++ (32 :: sDigits (Int64.ofNat n)))
def mError (e : MErr) : Str := mMsg 69 ((83 :: sStr "ERROR") ++ [0] ++ (67 :: e.1) ++ [0] ++ (match e.2 with
  | some p => (80 :: sDigits (Int64.ofNat p)) ++ [0]
  | none => []) ++ [0])
def mReady (st : Nat) : Str := mMsg 90 [if st == 3 then 84 else if st == 4 then 69 else 73]
/-! the state: tape, in, out, status (0 startup, 1 password, 2 ready, 3 in a block, 4 a block that failed, 5 closed), user, skips, tables, saved ones, prepared statements, portals -/
/-- name, statement, types of parameters -/
abbrev Prep : Type := Str × Option Stm × List Nat
/-- name, statement, types, values, done, rows, how many are sent -/
abbrev Port : Type := Str × Option Stm × List Nat × List Val × Bool × List (List Val) × Nat
/-- what statements work on: out, status, tables, saved ones, portals -/
abbrev Eng : Type := Str × Nat × List Tab × List Tab × List Port
abbrev Ses : Type := Str × Str × Str × Bool × List Prep × Eng
def egO (e : Eng) : Str := e.1
def egS (e : Eng) : Nat := e.2.1
def egT (e : Eng) : List Tab := e.2.2.1
def egV (e : Eng) : List Tab := e.2.2.2.1
def egP (e : Eng) : List Port := e.2.2.2.2
def egSay (e : Eng) (s : Str) : Eng := (egO e ++ s, e.2)
def ssT (s : Ses) : Str := s.1
def ssI (s : Ses) : Str := s.2.1
def ssU (s : Ses) : Str := s.2.2.1
def ssK (s : Ses) : Bool := s.2.2.2.1
def ssP (s : Ses) : List Prep := s.2.2.2.2.1
def ssE (s : Ses) : Eng := s.2.2.2.2.2
def ssSet (s : Ses) (e : Eng) : Ses := (ssT s, ssI s, ssU s, ssK s, ssP s, e)
def eAllowed (e : Eng) (k : Nat) : Mx Unit := mMust (egS e != 4 || (k == 6 || k == 7)) "25P02"
/-- a statement that is no selection -/
def eAct (e : Eng) (pt : List Nat) (pv : List Val) (s : Stm) : Mx Eng :=
  match smK s with
  | 5 => .ok (egO e ++ mTag (sStr "BEGIN"), 3, egT e, if egS e == 2 then egT e else egV e, egP e)
  | 6 | 7 =>
    let back := smK s == 7 || egS e == 4
    .ok (egO e ++ mTag (if back then sStr "ROLLBACK" else sStr "COMMIT"), 2, if back then egV e else egT e, if back then egV e else egT e, if egS e == 2 then egP e else [])
  | k => do
    let ps ← mOfX (cOther (egT e) pt s)
    let q ← mOfX (uWork (egT e) pt pv s ps)
    .ok (egO e ++ (if k == 0 then mTag (sStr "CREATE TABLE") else if k == 1 then mTag (sStr "DROP TABLE") else mTagN (if k == 2 then "INSERT 0" else if k == 3 then "UPDATE" else "DELETE") q.2), egS e, q.1, egV e, egP e)
/-- the statements of a text; sent: bytes of rows so far; what was done before a fault stays -/
def eRun1 (e : Eng) (s : Stm) (sent : Nat) : Mx (Eng × Nat) := do
  eAllowed e (smK s)
  if smK s == 8 then
    let c ← mOfX (cSelect (egT e) [] s)
    let r ← mOfX (sSelect [] [] s c sent)
    .ok (egSay e (mCols c.2.2.1 ++ r.1.flatMap mRow ++ mTagN "SELECT" r.1.length), r.2)
  else (eAct e [] [] s).map fun e => (e, sent)
def eRun : List Stm → Eng → Nat → Eng × Option MErr
  | [], e, _ => (e, none)
  | s :: l, e, sent => match eRun1 e s sent with
    | .ok q => eRun l q.1 q.2
    | .error x => (e, some x)
/-- a fault has come: a block fails, or the tables are as saved -/
def eFail (e : Eng) (x : MErr) : Eng := (egO e ++ mError x, if egS e == 2 then 2 else 4, if egS e == 2 then egV e else egT e, egV e, egP e)
def eSave (e : Eng) : Eng := (egO e, egS e, egT e, if egS e == 2 then egT e else egV e, egP e)
/-- the text of Q -/
def eQuery (e : Eng) (txt : Str) : Eng :=
  let e := eSave e
  let q := match pText true txt with
    | .error p => (e, some (sStr "42601", some p))
    | .ok l => eRun l (if l.isEmpty then egSay e (mMsg 73 []) else e) 0
  let e := match q.2 with
    | none => q.1
    | some x => eFail q.1 x
  (egO e ++ mReady (egS e), egS e, egT e, egV e, if egS e == 2 then [] else egP e)
/-! messages: their bytes are read one after the other -/
def beNum : Str → Int64
  | [] => 0
  | b :: l => l.foldl (fun v c => (v <<< 8) ||| (c &&& 255).toInt64) b.toInt64
def rNum (n : Nat) (b : Str) : Mx (Int64 × Str) := if b.length < n then mProto else .ok (beNum (b.take n), b.drop n)
def rStr (b : Str) : Mx (Str × Str) := match b.findIdx? (· == 0) with
  | some i => .ok (b.take i, b.drop (i + 1))
  | none => mProto
def rAll (b : Str) : Mx Unit := if b.isEmpty then .ok () else mProto
def rTypes : Nat → Str → List Nat → Mx (List Nat × Str)
  | 0, b, acc => .ok (acc, b)
  | n + 1, b, acc => do
    let (t, b) ← rNum 4 b
    if t == 16 then rTypes n b (acc ++ [16]) else if t == 20 then rTypes n b (acc ++ [20]) else if t == 25 || t == 0 then rTypes n b (acc ++ [25]) else mProto
def rZeros : Nat → Str → Mx Str
  | 0, b => .ok b
  | n + 1, b => do
    let (t, b) ← rNum 2 b
    if t == 0 then rZeros n b else mProto
def rFormats (b : Str) : Mx Str := do
  let (n, b) ← rNum 2 b
  if n < 0 then mProto else rZeros n.toNatClampNeg b
/-- values of parameters as they come; none: NULL -/
def rVals : Nat → Str → List (Option Str) → Mx (List (Option Str) × Str)
  | 0, b, acc => .ok (acc, b)
  | n + 1, b, acc => do
    let (k, b) ← rNum 4 b
    if k < -1 || Int64.ofNat b.length < k then mProto
    else if k < 0 then rVals n b (acc ++ [none])
    else rVals n (b.drop k.toNatClampNeg) (acc ++ [some (b.take k.toNatClampNeg)])
def prepAt (l : List Prep) (s : Str) : Option Nat := l.findIdx? fun p => p.1 == s
def portAt (l : List Port) (s : Str) : Option Nat := l.findIdx? fun p => p.1 == s
def putAt {α : Type} (l : List α) (k : Option Nat) (a : α) : List α := match k with
  | some i => l.set i a
  | none => l ++ [a]
/-- the first of the types told, text for the others -/
def pTypes (told : List Nat) (g : Nat) : List Nat := told ++ List.replicate (g - told.length) 25
def mParse (s : Ses) (b : Str) : Mx Ses := do
  let (name, b) ← rStr b
  let (txt, b) ← rStr b
  let (n, b) ← rNum 2 b
  if n < 0 || 8 < n then mProto
  else
    let (told, b) ← rTypes n.toNatClampNeg b []
    rAll b
    let (o, g) ← mOfP (pOne true txt)
    let k := prepAt (ssP s) name
    mMust (k.isNone || name.isEmpty) "42P05"
    mMust (k.isSome || (ssP s).length != 10) "54000"
    .ok (ssT s, ssI s, ssU s, ssK s, putAt (ssP s) k (name, o, pTypes told g), egSay (ssE s) (mMsg 49 []))
/-- the digits of a parameter -/
def vDigits : Str → Int64 → Option Int64
  | [], v => some v
  | c :: l, v => if sDigit (c &&& 255) then (if 10 * v + (c &&& 255).toInt64 - 48 ≤ sMost then vDigits l (10 * v + (c &&& 255).toInt64 - 48) else none) else none
def mValue (t : Nat) (o : Option Str) : Mx Val := match o with
  | none => .ok vNull
  | some s =>
    if t == 25 then (if s.length ≤ 40 && s.all fun c => 32 ≤ c && c ≤ 126 then .ok (vTxt s) else mErrS "22P02")
    else if t == 16 then
      if s == sStr "t" || s == sStr "true" then .ok (vBool true) else if s == sStr "f" || s == sStr "false" then .ok (vBool false) else mErrS "22P02"
    else
      let minus := s.head? == some 45
      let ds := if minus then s.drop 1 else s
      if ds.isEmpty then mErrS "22P02"
      else match vDigits ds 0 with
        | some v => .ok (vNum (if minus then -v else v))
        | none => mErrS "22P02"
def mValues : List (Nat × Option Str) → List Val → Mx (List Val)
  | [], acc => .ok acc
  | q :: l, acc => do
    let v ← mValue q.1 q.2
    mValues l (acc ++ [v])
def mBind (s : Ses) (b : Str) : Mx Ses := do
  let (pn, b) ← rStr b
  let (sn, b) ← rStr b
  let b ← rFormats b
  let (n, b) ← rNum 2 b
  if n < 0 then mProto
  else
    let (raw, b) ← rVals n.toNatClampNeg b []
    let b ← rFormats b
    rAll b
    match prepAt (ssP s) sn with
    | none => mErrS "26000"
    | some k =>
      let p := (ssP s).getD k ([], none, [])
      if raw.length != p.2.2.length then mProto
      else
        let o := portAt (egP (ssE s)) pn
        mMust (o.isNone || pn.isEmpty) "42P03"
        mMust (o.isSome || (egP (ssE s)).length != 4) "54000"
        let vs ← mValues (p.2.2.zip raw) []
        let e := ssE s
        .ok (ssSet s (egO e ++ mMsg 50 [], egS e, egT e, egV e, putAt (egP e) o (pn, p.2.1, p.2.2, vs, false, [], 0)))
def rWhich (b : Str) : Mx (Bool × Str) := match b with
  | [] => mProto
  | c :: l => if c == 83 then .ok (true, l) else if c == 80 then .ok (false, l) else mProto
def isSel (o : Option Stm) : Bool := match o with
  | some s => smK s == 8
  | none => false
def stmNone : Stm := (5, [], [], [], [], none, selNone, 0, [])
def mDescribe (s : Ses) (b : Str) : Mx Ses := do
  let (w, b) ← rWhich b
  let (name, b) ← rStr b
  rAll b
  match (if w then (prepAt (ssP s) name).map fun k => (((ssP s).getD k ([], none, [])).2.1, ((ssP s).getD k ([], none, [])).2.2)
      else (portAt (egP (ssE s)) name).map fun k => (((egP (ssE s)).getD k ([], none, [], [], false, [], 0)).2.1, ((egP (ssE s)).getD k ([], none, [], [], false, [], 0)).2.2.1)) with
  | none => mErrS (if w then "26000" else "34000")
  | some q =>
    let ts := if w then mMsg 116 (b2 (nI q.2.length) ++ q.2.flatMap fun t => b4 (nI t)) else []
    if isSel q.1 then do
      eAllowed (ssE s) 8
      let c ← mOfX (cSelect (egT (ssE s)) q.2 (q.1.getD stmNone))
      .ok (ssSet s (egSay (ssE s) (ts ++ mCols c.2.2.1)))
    else .ok (ssSet s (egSay (ssE s) (ts ++ mMsg 110 [])))
def mExecute (s : Ses) (b : Str) : Mx Ses := do
  let (name, b) ← rStr b
  let (most, b) ← rNum 4 b
  rAll b
  let e := ssE s
  match portAt (egP e) name with
  | none => mErrS "34000"
  | some k =>
    let p := (egP e).getD k ([], none, [], [], false, [], 0)
    match p.2.1 with
    | none => .ok (ssSet s (egSay e (mMsg 73 [])))
    | some st => do
      eAllowed e (smK st)
      if smK st != 8 then do
        mMust (!p.2.2.2.2.1) "55000"
        let e ← eAct (egO e, egS e, egT e, egV e, (egP e).set k (p.1, p.2.1, p.2.2.1, p.2.2.2.1, true, [], 0)) p.2.2.1 p.2.2.2.1 st
        .ok (ssSet s e)
      else do
        let q ← (if p.2.2.2.2.1 then .ok (p.2.2.2.2.2.1, p.2.2.2.2.2.2) else do
          let c ← mOfX (cSelect (egT e) p.2.2.1 st)
          let r ← mOfX (sSelect p.2.2.1 p.2.2.2.1 st c 0)
          .ok (r.1, 0))
        let n := if most ≤ 0 then q.1.length - q.2 else min most.toNatClampNeg (q.1.length - q.2)
        let say := ((q.1.drop q.2).take n).flatMap mRow ++ (if q.2 + n < q.1.length then mMsg 115 [] else mTagN "SELECT" q.1.length)
        .ok (ssSet s (egO e ++ say, egS e, egT e, egV e, (egP e).set k (p.1, p.2.1, p.2.2.1, p.2.2.2.1, true, q.1, q.2 + n)))
def mDrop (s : Ses) (b : Str) : Mx Ses := do
  let (w, b) ← rWhich b
  let (name, b) ← rStr b
  rAll b
  let e := ssE s
  if w then .ok (ssT s, ssI s, ssU s, ssK s, (match prepAt (ssP s) name with
      | some k => (ssP s).eraseIdx k
      | none => ssP s), egSay e (mMsg 51 []))
  else .ok (ssSet s (egO e ++ mMsg 51 [], egS e, egT e, egV e, match portAt (egP e) name with
      | some k => (egP e).eraseIdx k
      | none => egP e))
def mShut (s : Ses) : Ses := (ssT s, [], ssU s, false, [], (egO (ssE s), 5, egV (ssE s), egV (ssE s), []))
def mSync (s : Ses) : Ses :=
  let e := eSave (ssE s)
  (ssT s, ssI s, ssU s, false, ssP s, (egO e ++ mReady (egS e), egS e, egT e, egV e, if egS e == 2 then [] else egP e))
/-- a message of kind k; its rest is b -/
def mMessage (s : Ses) (k : Int32) (b : Str) : Ses :=
  if ssK s && (k != 83 && k != 88) then s
  else
    let r : Mx Ses :=
      if k == 81 then (do
        let (t, b) ← rStr b
        rAll b
        .ok (ssSet s (eQuery (ssE s) t)))
      else if k == 80 then mParse s b
      else if k == 66 then mBind s b
      else if k == 68 then mDescribe s b
      else if k == 69 then mExecute s b
      else if k == 67 then mDrop s b
      else if k == 72 then (rAll b).map fun _ => s
      else if k == 83 then (rAll b).map fun _ => mSync s
      else if k == 88 then (rAll b).map fun _ => mShut s
      else mProto
    match r with
    | .ok s => s
    | .error x => (ssT s, ssI s, ssU s, true, ssP s, eFail (ssE s) x)
/-- names and values of the greeting; the user's name -/
def rUser : Nat → Str → Str → Mx Str
  | 0, _, _ => mProto
  | n + 1, u, b => do
    let (name, b) ← rStr b
    if name.isEmpty then (rAll b).map fun _ => u
    else do
      let (v, b) ← rStr b
      rUser n (if name == sStr "user" then v else u) b
def ssSay (s : Ses) (x : Str) : Ses := ssSet s (egSay (ssE s) x)
def ssStat (s : Ses) (n : Nat) : Ses := ssSet s (egO (ssE s), n, (ssE s).2.2)
def mStartup (s : Ses) (b : Str) : Ses :=
  let r : Mx Ses := do
    let (v, c) ← rNum 4 b
    if v == 80877103 && b.length == 4 then .ok (ssSay s [78])
    else if v != 196608 then mProto
    else do
      let u ← rUser (b.length + 1) [] c
      mMust (!u.isEmpty && u.length ≤ 20) "28000"
      let s := (ssT s, ssI s, u, ssK s, ssP s, ssE s)
      .ok (ssStat (ssSay s (mMsg 82 [0, 0, 0, 3])) 1)
  match r with
  | .ok s => s
  | .error x => mShut (ssSay s (mError x))
def mPassword (s : Ses) (k : Int32) (b : Str) : Ses :=
  let r : Mx Ses := do
    if k != 112 then mProto
    else
      let (p, b) ← rStr b
      rAll b
      mMust (p == (ssU s).reverse) "28P01"
      .ok (ssStat (ssSay s (mMsg 82 [0, 0, 0, 0] ++ mMsg 83 (sStr "server_encoding" ++ [0] ++ sStr "SQL_ASCII" ++ [0]) ++ mReady 2)) 2)
  match r with
  | .ok s => s
  | .error x => mShut (ssSay s (mError x))
/-- one step: the answer and the state -/
def mStep (s0 : Ses) : Int32 × Ses :=
  let s := ssSet s0 ([], (ssE s0).2)
  let st := egS (ssE s)
  if st == 5 then (-2, s)
  else
    let head := if st == 0 then 0 else 1
    if (ssI s).length < head + 4 then (-1, s)
    else
      let n := beNum (((ssI s).drop head).take 4)
      if (if st == 0 then n < 8 || 1000 < n else n < 4 || 4000 < n) then (-2, mShut s)
      else if Int64.ofNat (ssI s).length < Int64.ofNat head + n then (-1, s)
      else
        let k : Int32 := if st == 0 then 0 else (ssI s).headD 0 &&& 255
        let stop := head + n.toNatClampNeg
        let b := ((ssI s).take stop).drop (head + 4)
        let s' := if st == 0 then mStartup s b else if st == 1 then mPassword s k b else mMessage s k b
        (k, if egS (ssE s') == 5 then s' else (ssT s', (ssI s').drop stop, s'.2.2))
/-! what is fed and what is told -/
def mBytes (x : Int32) : Str := b4 x
def mFeed (s : Ses) (a b c d e : Int32) : Nat × Int32 × Ses :=
  if 2000 < (ssT s).length + 20 then (1, 0, s) else
    let t := ssT s ++ mBytes a ++ mBytes b ++ mBytes c ++ mBytes d ++ mBytes e
    (0, nI t.length, (t, s.2))
def mEnd (s : Ses) (n : Int32) : Nat × Int32 × Ses := if n < 0 || nI (ssT s).length < n then (1, 0, s) else (0, n, ((ssT s).take n.toNatClampNeg, s.2))
def mOpen (s : Ses) (n : Nat) : Nat := if egS (ssE s) == 5 then 1 else if 8192 < (ssI s).length + n then 2 else 0
def mArrive (s : Ses) (b : Str) : Nat × Int32 × Ses := (0, nI ((ssI s).length + b.length), (ssT s, ssI s ++ b, s.2.2))
def mPut (s : Ses) : Nat × Int32 × Ses :=
  let c := mOpen s (ssT s).length
  if c == 0 then mArrive ([], s.2) (ssT s) else (c, 0, ([], s.2))
def mAsk (s : Ses) : Nat × Int32 × Ses :=
  let c := mOpen s ((ssT s).length + 6)
  if c == 0 then mArrive ([], s.2) ([81] ++ b4 (nI ((ssT s).length + 5)) ++ ssT s ++ [0]) else (c, 0, ([], s.2))
def mGreet (s : Ses) : Nat × Int32 × Ses :=
  let c := mOpen s 23
  if c == 0 then mArrive s (b4 16 ++ b4 196608 ++ sStr "user" ++ [0, 117, 0, 0, 112] ++ b4 6 ++ [117, 0]) else (c, 0, s)
def mWord (s : Ses) (i : Int32) : Nat × Int64 :=
  let o := egO (ssE s)
  if i < 0 || nI o.length ≤ i then (1, 0) else (0, (List.range 8).foldl (fun v k => (v <<< 8) ||| (match o[i.toNatClampNeg + k]? with
    | some b => (b &&& 255).toInt64
    | none => 0)) 0)
def mHash (s : Ses) : Int32 := (egO (ssE s)).foldl (fun v b => 31 * v + (b &&& 255)) 1
def mCount (s : Ses) (w : Int32) : Nat × Int32 :=
  if w == 0 then (0, nI (ssI s).length) else if w == 1 then (0, nI (egO (ssE s)).length) else if w == 2 then (0, nI (egS (ssE s))) else if w == 3 then (0, nI (egT (ssE s)).length)
  else if w == 4 then (0, nI ((egT (ssE s)).map fun t => (tbRows t).length).sum) else if w == 5 then (0, nI (ssP s).length) else if w == 6 then (0, nI (egP (ssE s)).length) else if w == 7 then (0, if ssK s then 1 else 0) else if w == 8 then (0, nI (ssT s).length) else (1, 0)
def ses0 : Ses := ([], [], [], false, [], ([], 0, [], [], []))
