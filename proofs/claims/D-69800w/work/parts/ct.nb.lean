/-! faults of checks and of values never are 42601; a fault with the place that the session tells -/
section
variable {α β : Type} {A : List Nod} {E : TEnv} {pv : List Val} {grp : List TRow} {f i : Nat} {R : TRow}
def Nb (x : Ex α) : Prop := ∀ c, x = .error c → c ≠ sStr "42601"
theorem nb_ok {a : α} : Nb (.ok a : Ex α) := fun c e => by cases e
theorem nb_err {w : String} (hw : sStr w ≠ sStr "42601") : Nb (xErr w : Ex α) := fun c e => by
  cases e
  exact hw
theorem Nb.bind {x : Ex α} {g : α → Ex β} (hx : Nb x) (hg : ∀ a, Nb (g a)) : Nb (x >>= g) := fun c e => by
  cases x with
  | error z =>
    have e : (Except.error z : Ex β) = .error c := e
    cases e
    exact hx c rfl
  | ok a => exact hg a c e
theorem Nb.mapf {x : Ex α} {g : α → β} (hx : Nb x) : Nb (x.map g) := fun c e => by
  cases x with
  | error z =>
    have e : (Except.error z : Ex β) = .error c := e
    cases e
    exact hx c rfl
  | ok a => cases e
theorem nb_must {b : Bool} {w : String} (hw : sStr w ≠ sStr "42601") : Nb (xMust b w) := by
  unfold xMust
  split
  · exact nb_ok
  · exact nb_err hw
theorem nb_mapM {g : α → Ex β} (hg : ∀ a, Nb (g a)) : ∀ l : List α, Nb (l.mapM g)
  | [] => by rw [List.mapM_nil]; exact nb_ok
  | a :: l => by
    rw [List.mapM_cons]
    exact (hg a).bind fun b => (nb_mapM hg l).bind fun bs => nb_ok
theorem nb_forM {g : α → Ex PUnit} (hg : ∀ a, Nb (g a)) : ∀ l : List α, Nb (l.forM g)
  | [] => nb_ok
  | a :: l => by
    rw [show (a :: l).forM g = (g a >>= fun _ => l.forM g) from rfl]
    exact (hg a).bind fun _ => nb_forM hg l
theorem nb_foldlM {g : β → α → Ex β} (hg : ∀ b a, Nb (g b a)) : ∀ (l : List α) (b : β), Nb (l.foldlM g b)
  | [], b => nb_ok
  | a :: l, b => by
    rw [List.foldlM_cons]
    exact (hg b a).bind fun b' => nb_foldlM hg l b'
theorem nb_fits {a b : Nat} : Nb (tFits a b) := nb_must (by decide +kernel)
theorem nb_all {l : List Nat} {w : Nat} : Nb (tAll l w) := nb_forM (fun _ => nb_fits) l
theorem nb_one {l : List Nat} : Nb (tOne l) := nb_foldlM (fun _ _ => nb_fits.mapf) l 0
theorem nb_col {o : Option Str} {s : Str} : Nb (tColumn E o s) := by
  unfold tColumn
  refine (nb_must (by decide +kernel)).bind fun _ => ?_
  split
  · exact nb_err (by decide +kernel)
  · exact nb_ok
  · exact nb_err (by decide +kernel)
theorem nb_fun {w : Bool} {s : Str} {st : Bool} {ts : List Nat} : Nb (tFun E w s st ts) := by
  unfold tFun
  dsimp only
  refine (nb_must (by decide +kernel)).bind fun _ => (nb_must (by decide +kernel)).bind fun _ => ?_
  repeat' (first | exact nb_ok | exact nb_all.mapf | exact nb_one | exact nb_all.bind fun _ => nb_all.bind fun _ => nb_ok | split)
theorem nb_case {k : Nat} {ts : List Nat} : Nb (tCase k ts) := by
  unfold tCase
  exact (nb_forM (fun _ => nb_fits) _).bind fun _ => nb_one
theorem nb_node {w : Bool} {n : Nod} {ts : List Nat} : Nb (tNode E w n ts) := by
  unfold tNode
  repeat' (first | exact nb_ok | exact nb_all.mapf | exact nb_one.mapf | exact nb_fun | exact nb_case | exact nb_err (by decide +kernel) | exact nb_col.bind fun _ => nb_ok | split)
theorem nb_tree : ∀ (f : Nat) (w : Bool) (i : Nat), Nb (tTree A E f w i)
  | 0, _, _ => nb_ok
  | f + 1, w, i => by
    rw [tTree]
    exact (nb_mapM (fun k => nb_tree f _ k) _).bind fun _ => nb_node
theorem nb_type : Nb (tType A E i) := nb_tree _ _ _
theorem nb_cond {o : Option Nat} : Nb (tCond A E o) := by
  cases o with
  | none => exact nb_ok
  | some x => exact nb_type.bind fun _ => nb_fits
theorem nb_num {n : Int64} : Nb (xNum n) := by
  unfold xNum
  split
  · exact nb_ok
  · exact nb_err (by decide +kernel)
theorem nb_txt {s : Str} : Nb (xTxt s) := by
  unfold xTxt
  split
  · exact nb_ok
  · exact nb_err (by decide +kernel)
theorem nb_worked {k : Nat} {a b : Val} : Nb (vWorked k a b) := by
  unfold vWorked
  repeat' (first | exact nb_ok | exact nb_num | exact nb_txt | exact nb_err (by decide +kernel) | split)
theorem nb_gstep {s : Str} {q : Nat × Val} {v : Val} : Nb (gStep s q v) := by
  unfold gStep
  repeat' (first | exact nb_ok | exact nb_num.mapf | split)
theorem nb_fnV {s : Str} {a b c : Val} : Nb (fnV s a b c) := by
  unfold fnV
  repeat' (first | exact nb_ok | exact nb_num | exact nb_txt | exact nb_err (by decide +kernel) | split)
theorem nb_caG (hf : ∀ R i, Nb (eTree A E pv grp f R i)) : ∀ l, Nb (caG A E pv grp f R l)
  | [] => by unfold caG; exact nb_ok
  | [_] => by unfold caG; exact nb_ok
  | a :: b :: l => by
    unfold caG
    refine (hf R a).bind fun v => ?_
    split
    · exact (hf R b).mapf
    · exact nb_caG hf l
theorem nb_eTree : ∀ (f : Nat) (R : TRow) (i : Nat), Nb (eTree A E pv grp f R i)
  | 0, _, _ => by unfold eTree; exact nb_ok
  | f + 1, R, i => by
    have ih : ∀ R i, Nb (eTree A E pv grp f R i) := nb_eTree f
    have iv : ∀ k, Nb (evK A E pv grp f R i k) := fun k => ih R _
    by_cases o3 : ndO (nat_ A i) = 3
    · rw [eT_3 o3]
      split
      · split
        · exact nb_num
        · refine (nb_foldlM (fun q r => ?_) _ _).bind fun q => ?_
          · unfold agF
            exact (ih r _).bind fun _ => nb_gstep
          · split
            · exact nb_num
            · exact nb_ok
      · split
        · refine nb_foldlM (fun v k => ?_) _ _
          unfold coF
          split
          · exact ih R k
          · exact nb_ok
        · refine (iv 0).bind fun a => Nb.bind ?_ fun b => Nb.bind ?_ fun c => nb_fnV
          · split
            · exact iv 1
            · exact nb_ok
          · split
            · exact iv 2
            · exact nb_ok
    by_cases o4 : ndO (nat_ A i) = 4
    · rw [eT_4 o4]
      refine (nb_caG ih _).bind fun r => ?_
      cases r with
      | some v => exact nb_ok
      | none =>
        show Nb (if (ndK (nat_ A i) == 1) = true then _ else _)
        split
        · exact iv _
        · exact nb_ok
    by_cases o5 : ndO (nat_ A i) = 5
    · rw [eT_5 o5]
      refine (iv 0).bind fun x => (nb_foldlM (fun q k => ?_) _ _).bind fun _ => nb_ok
      unfold inF
      split
      · exact nb_ok
      · exact (ih R k).bind fun _ => nb_ok
    by_cases o0 : ndO (nat_ A i) = 0
    · rw [eT_0 o0]; exact nb_ok
    by_cases o1 : ndO (nat_ A i) = 1
    · rw [eT_1 o1]; exact nb_ok
    by_cases o2 : ndO (nat_ A i) = 2
    · rw [eT_2 o2]
      split
      · exact nb_ok
      · exact nb_ok
    by_cases o6 : ndO (nat_ A i) = 6
    · rw [eT_6 o6]; exact (iv 0).bind fun _ => (iv 1).bind fun _ => nb_ok
    by_cases o7 : ndO (nat_ A i) = 7
    · rw [eT_7 o7]
      refine (iv 0).bind fun _ => (iv 1).bind fun _ => ?_
      split
      · exact nb_ok
      · exact (iv 2).bind fun _ => nb_ok
    by_cases o8 : ndO (nat_ A i) = 8
    · rw [eT_8 o8]; exact (iv 0).bind fun _ => nb_ok
    by_cases o9 : ndO (nat_ A i) = 9
    · rw [eT_9 o9]; exact (iv 0).bind fun _ => (iv 1).bind fun _ => nb_ok
    by_cases oa : ndO (nat_ A i) = 10
    · rw [eT_10 oa]
      refine (iv 0).bind fun _ => ?_
      split
      · exact nb_ok
      · exact (iv 1).bind fun _ => nb_ok
    by_cases ob : ndO (nat_ A i) = 11
    · rw [eT_11 ob]
      refine (iv 0).bind fun _ => ?_
      split
      · exact nb_ok
      · exact (iv 1).bind fun _ => nb_ok
    by_cases oc : ndO (nat_ A i) = 12
    · rw [eT_12 oc]; exact (iv 0).bind fun _ => nb_ok
    by_cases od : ndO (nat_ A i) = 13
    · rw [eT_13 od]
      refine (iv 0).bind fun _ => ?_
      split
      · exact nb_ok
      · exact nb_num
    by_cases oe : ndO (nat_ A i) = 14
    · rw [eT_14 oe]; exact (iv 0).bind fun _ => (iv 1).bind fun _ => nb_worked
    · have hn : ∀ k, ndO (A.getD i nNone) = k → ndO (nat_ A i) = k := fun k e => e
      unfold eTree
      dsimp only
      split
      all_goals first
        | (rename_i z; exact absurd (hn _ z) (by assumption))
        | exact (ih R _).bind fun _ => (ih R _).bind fun _ => nb_worked
theorem nb_val : Nb (eVal A E pv grp R i) := nb_eTree _ _ _
theorem nb_econd {o : Option Nat} : Nb (eCond A E pv grp R o) := by
  cases o with
  | none => exact nb_ok
  | some x => exact nb_val.mapf
/-- the place that a fault of the code c tells -/
def fpl (c : Str) : Int32 := if c = sStr "42601" then 0 else -1
def FlX (hm h' : JH) (y : Nat) (c : Str) : Prop := FtR h' y c (fpl c) ∧ New hm h' 1 8
theorem Flt.fx {hm h' : JH} {y : Nat} {c : Str} (k : Flt hm h' y c) (hc : c ≠ sStr "42601") : FlX hm h' y c := by
  refine ⟨?_, k.2⟩
  unfold fpl
  rw [if_neg hc]
  exact k.1
end
