/-! what a tree's value is, by its sign -/
section
variable {A : List Nod} {E : TEnv} {pv : List Val} {grp : List TRow} {f i : Nat} {R : TRow}
/-- the value of the part k -/
def evK (A : List Nod) (E : TEnv) (pv : List Val) (grp : List TRow) (f : Nat) (R : TRow) (i k : Nat) : Ex Val := eTree A E pv grp f R ((ndP (nat_ A i)).getD k 0)
theorem eT_0 (o : ndO (nat_ A i) = 0) : eTree A E pv grp (f + 1) R i = .ok (ndV (nat_ A i)) := by
  unfold eTree; dsimp only; rw [show ndO (A.getD i nNone) = 0 from o]; rfl
theorem eT_1 (o : ndO (nat_ A i) = 1) : eTree A E pv grp (f + 1) R i = .ok (pv.getD (ndK (nat_ A i)) vNull) := by
  unfold eTree; dsimp only; rw [show ndO (A.getD i nNone) = 1 from o]; rfl
theorem eT_2 (o : ndO (nat_ A i) = 2) : eTree A E pv grp (f + 1) R i = (match tFound E.1 (ndF (nat_ A i)) (ndS (nat_ A i)) with
    | q :: _ => .ok ((((R[q.1]?).join).map fun r => r.getD q.2 vNull).getD vNull)
    | [] => .ok vNull) := by
  unfold eTree; dsimp only; rw [show ndO (A.getD i nNone) = 2 from o]; rfl
theorem eT_6 (o : ndO (nat_ A i) = 6) : eTree A E pv grp (f + 1) R i = (evK A E pv grp f R i 0 >>= fun a => evK A E pv grp f R i 1 >>= fun b => .ok (if (a.1 == 0 || b.1 == 0) = true then vNull else vBool (vLike a.2.2 b.2.2))) := by
  unfold eTree; dsimp only; rw [show ndO (A.getD i nNone) = 6 from o]; rfl
theorem eT_7 (o : ndO (nat_ A i) = 7) : eTree A E pv grp (f + 1) R i = (evK A E pv grp f R i 0 >>= fun x => evK A E pv grp f R i 1 >>= fun lo => if vFalse (vTold 5 x lo) = true then .ok (vTold 5 x lo) else evK A E pv grp f R i 2 >>= fun hi => .ok (if (vFalse (vTold 3 x hi) || (vTold 5 x lo).1 != 0) = true then vTold 3 x hi else vTold 5 x lo)) := by
  unfold eTree; dsimp only; rw [show ndO (A.getD i nNone) = 7 from o]; rfl
theorem eT_8 (o : ndO (nat_ A i) = 8) : eTree A E pv grp (f + 1) R i = (evK A E pv grp f R i 0 >>= fun x => .ok (vBool ((x.1 == 0) != (ndK (nat_ A i) == 1)))) := by
  unfold eTree; dsimp only; rw [show ndO (A.getD i nNone) = 8 from o]; rfl
theorem eT_9 (o : ndO (nat_ A i) = 9) : eTree A E pv grp (f + 1) R i = (evK A E pv grp f R i 0 >>= fun a => evK A E pv grp f R i 1 >>= fun b => .ok (vTold (ndK (nat_ A i)) a b)) := by
  unfold eTree; dsimp only; rw [show ndO (A.getD i nNone) = 9 from o]; rfl
theorem eT_10 (o : ndO (nat_ A i) = 10) : eTree A E pv grp (f + 1) R i = (evK A E pv grp f R i 0 >>= fun a => if vFalse a = true then .ok a else evK A E pv grp f R i 1 >>= fun b => .ok (if vFalse b = true then b else if (a.1 == 0) = true then a else b)) := by
  unfold eTree; dsimp only; rw [show ndO (A.getD i nNone) = 10 from o]; rfl
theorem eT_11 (o : ndO (nat_ A i) = 11) : eTree A E pv grp (f + 1) R i = (evK A E pv grp f R i 0 >>= fun a => if vTrue a = true then .ok a else evK A E pv grp f R i 1 >>= fun b => .ok (if vTrue b = true then b else if (a.1 == 0) = true then a else b)) := by
  unfold eTree; dsimp only; rw [show ndO (A.getD i nNone) = 11 from o]; rfl
theorem eT_12 (o : ndO (nat_ A i) = 12) : eTree A E pv grp (f + 1) R i = (evK A E pv grp f R i 0 >>= fun a => .ok (if (a.1 == 0) = true then a else vBool (a.2.1 == 0))) := by
  unfold eTree; dsimp only; rw [show ndO (A.getD i nNone) = 12 from o]; rfl
theorem eT_13 (o : ndO (nat_ A i) = 13) : eTree A E pv grp (f + 1) R i = (evK A E pv grp f R i 0 >>= fun a => if (a.1 == 0) = true then .ok a else xNum (-a.2.1)) := by
  unfold eTree; dsimp only; rw [show ndO (A.getD i nNone) = 13 from o]; rfl
theorem eT_14 (o : ndO (nat_ A i) = 14) : eTree A E pv grp (f + 1) R i = (evK A E pv grp f R i 0 >>= fun a => evK A E pv grp f R i 1 >>= fun b => vWorked (ndK (nat_ A i)) a b) := by
  unfold eTree; dsimp only; rw [show ndO (A.getD i nNone) = 14 from o]; rfl
/-- IN: what is known of the values so far -/
def inF (A : List Nod) (E : TEnv) (pv : List Val) (grp : List TRow) (f : Nat) (R : TRow) (x : Val) (q : Bool × Bool) (k : Nat) : Ex (Bool × Bool) := if q.1 = true then .ok q else eTree A E pv grp f R k >>= fun y => .ok (vTrue (vTold 0 x y), q.2 || (vTold 0 x y).1 == 0)
theorem eT_5 (o : ndO (nat_ A i) = 5) : eTree A E pv grp (f + 1) R i = (evK A E pv grp f R i 0 >>= fun x => ((ndP (nat_ A i)).drop 1).foldlM (inF A E pv grp f R x) (false, false) >>= fun q => .ok (if q.1 = true then vBool true else if q.2 = true then vNull else vBool false)) := by
  unfold eTree; dsimp only; rw [show ndO (A.getD i nNone) = 5 from o]; rfl
/-- CASE: the first that is true -/
def caG (A : List Nod) (E : TEnv) (pv : List Val) (grp : List TRow) (f : Nat) (R : TRow) : List Nat → Ex (Option Val)
  | a :: b :: l => eTree A E pv grp f R a >>= fun v => if vTrue v = true then (eTree A E pv grp f R b).map some else caG A E pv grp f R l
  | _ => .ok none
theorem caG_eq (A : List Nod) (E : TEnv) (pv : List Val) (grp : List TRow) (f : Nat) (R : TRow) : ∀ l, eTree.go A E pv grp f R l = caG A E pv grp f R l
  | [] => by unfold eTree.go caG; rfl
  | [_] => by unfold eTree.go caG; rfl
  | a :: b :: l => by
    unfold eTree.go caG
    cases eTree A E pv grp f R a with
    | error c => rfl
    | ok v =>
      show (if vTrue v = true then _ else eTree.go A E pv grp f R l) = (if vTrue v = true then _ else _)
      rw [caG_eq A E pv grp f R l]
theorem eT_4 (o : ndO (nat_ A i) = 4) : eTree A E pv grp (f + 1) R i = (caG A E pv grp f R ((ndP (nat_ A i)).take ((ndP (nat_ A i)).length - ndK (nat_ A i))) >>= fun r => match r with
    | some v => .ok v
    | none => if (ndK (nat_ A i) == 1) = true then evK A E pv grp f R i ((ndP (nat_ A i)).length - ndK (nat_ A i)) else .ok vNull) := by
  rw [← caG_eq]
  unfold eTree; dsimp only; rw [show ndO (A.getD i nNone) = 4 from o]; rfl
/-- aggregates: one row more -/
def agF (A : List Nod) (E : TEnv) (pv : List Val) (grp : List TRow) (f : Nat) (s : Str) (p : Nat) (q : Nat × Val) (r : TRow) : Ex (Nat × Val) := eTree A E pv grp f r p >>= fun v => gStep s q v
def coF (A : List Nod) (E : TEnv) (pv : List Val) (grp : List TRow) (f : Nat) (R : TRow) (v : Val) (k : Nat) : Ex Val := if (v.1 == 0) = true then eTree A E pv grp f R k else .ok v
/-- a plain function of its values -/
def fnV (s : Str) (a b c : Val) : Ex Val :=
  if (s == sStr "nullif") = true then .ok (if vTrue (vTold 0 a b) = true then vNull else a)
  else if (a.1 == 0 || (b.1 == 0 || c.1 == 0)) = true then .ok vNull
  else if (s == sStr "abs") = true then xNum (sAbs a.2.1)
  else if (s == sStr "length") = true then xNum (Int64.ofNat a.2.2.length)
  else if (s == sStr "substr") = true then (if c.2.1 < 0 then xErr "22011" else xTxt (vPiece a.2.2 b.2.1 c.2.1))
  else xTxt (vCased (s == sStr "upper") a.2.2)
theorem eT_3 (o : ndO (nat_ A i) = 3) : eTree A E pv grp (f + 1) R i = (if tGather (ndS (nat_ A i)) = true then
      (if (ndK (nat_ A i) == 1) = true then xNum (Int64.ofNat grp.length)
      else grp.foldlM (agF A E pv grp f (ndS (nat_ A i)) ((ndP (nat_ A i)).getD 0 0)) (0, vNull) >>= fun q => if (ndS (nat_ A i) == sStr "count") = true then xNum (Int64.ofNat q.1) else .ok q.2)
    else if (ndS (nat_ A i) == sStr "coalesce") = true then (ndP (nat_ A i)).foldlM (coF A E pv grp f R) vNull
    else evK A E pv grp f R i 0 >>= fun a => (if 1 < (ndP (nat_ A i)).length then evK A E pv grp f R i 1 else .ok a) >>= fun b => (if 2 < (ndP (nat_ A i)).length then evK A E pv grp f R i 2 else .ok a) >>= fun c => fnV (ndS (nat_ A i)) a b c) := by
  unfold eTree; dsimp only; rw [show ndO (A.getD i nNone) = 3 from o]; rfl
end
