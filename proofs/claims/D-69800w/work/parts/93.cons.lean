/-! constructors of nodes -/
/-- an array of parts -/
def ArR (h : JH) (ρ : Nat → Nat) (r : Nat) (l : List Nat) : Prop := r ≠ 0 ∧ jkd h r = 222 ∧ l.length ≤ jln h r ∧ jln h r ≤ 40 ∧ ∀ i x, l[i]? = some x → jar h r i = ρ x
theorem ArR.of {h h' : JH} {ρ : Nat → Nat} {r : Nat} {l : List Nat} (k : ArR h ρ r l) (s : same h h' r) : ArR h' ρ r l :=
  ⟨k.1, by rw [s.kd]; exact k.2.1, by rw [s.ln]; exact k.2.2.1, by rw [s.ln]; exact k.2.2.2.1, fun i x hx => by rw [s.ar]; exact k.2.2.2.2 i x hx⟩
theorem ArR.ext {h : JH} {ρ ρ' : Nat → Nat} {r : Nat} {l : List Nat} (k : ArR h ρ r l) (e : ∀ x ∈ l, ρ' x = ρ x) : ArR h ρ' r l :=
  ⟨k.1, k.2.1, k.2.2.1, k.2.2.2.1, fun i x hx => by rw [k.2.2.2.2 i x hx, e x (List.mem_of_getElem? hx)]⟩
section
variable {D : JD} {h h' : JH} {ρ : Nat → Nat} {r d : Nat}
theorem MkN.out {n : Nat} (m : MkN D h h' r) : CelW D h' (jfr h' 108 r) := by rw [m.2.2.2.1]; exact m.2.2.2.2.2.1.1
theorem k_pairInit {op x y : Nat} (w : Raw h r 27) : cX33_init D (d + 3) r op x y h (pV D h (fun h' => MkN D h h' r ∧ jfr h' 123 r = op ∧ jfr h' 124 r = x ∧ jfr h' 125 r = y ∧ jfr h' 111 r = jfr h 111 r ∧ ∀ q, jfr h' 111 q = jfr h 111 q) no) := by
  refine JW.inv fun hI => t_X33_init ⟨w.1, useV0 (k_exInit (d := d) w.1) ?_⟩
  rintro h1 _ _ rfl h2 rfl h3 rfl h4 rfl
  refine endV fun _ _ => ⟨(((MkN.ex hI w.2.1 (by rw [w.2.2.1]; decide)).fr w.2.1).fr w.2.1).fr w.2.1, ?_, ?_, ?_, ?_, fun q => ?_⟩
  all_goals simp only [hEx, jkd_wfi, jln_wfi, jfi_wfi, jfl_wfi, jfr_wfi, jai_wfi, jal_wfi, jar_wfi, jsz_wfi, jus_wfi, jkd_wfl, jln_wfl, jfi_wfl, jfl_wfl, jfr_wfl, jai_wfl, jal_wfl, jar_wfl, jsz_wfl, jus_wfl, jkd_wfr, jln_wfr, jfi_wfr, jfl_wfr, jfr_wfr, jai_wfr, jal_wfr, jar_wfr, jsz_wfr, jus_wfr, jkd_wai, jln_wai, jfi_wai, jfl_wai, jfr_wai, jai_wai, jal_wai, jar_wai, jsz_wai, jus_wai, jkd_wal, jln_wal, jfi_wal, jfl_wal, jfr_wal, jai_wal, jal_wal, jar_wal, jsz_wal, jus_wal, jkd_war, jln_war, jfi_war, jfl_war, jfr_war, jai_war, jal_war, jar_war, jsz_war, jus_war, jkd_nwo, jln_nwo, jfi_nwo, jfl_nwo, jfr_nwo, jai_nwo, jal_nwo, jar_nwo, jsz_nwo, jus_nwo, jkd_nwa, jln_nwa, jfi_nwa, jfl_nwa, jfr_nwa, jai_nwa, jal_nwa, jar_nwa, jsz_nwa, jus_nwa, jkd_cpa, jln_cpa, jfi_cpa, jfl_cpa, jfr_cpa, jai_cpa, jal_cpa, jar_cpa, jsz_cpa, jus_cpa, Nat.reduceEqDiff, false_and, if_false, and_self, if_true]
theorem nod_pair {o k lo x y : Nat} (m : MkN D h h' r) (w : Raw h r 27) (ho : o = 6 ∨ o = 9 ∨ o = 10 ∨ o = 11 ∨ o = 14) (e1 : jfr h' 123 r = jcs D (opN (o, k, [], none, vNull, [x, y], lo))) (e2 : jfr h' 124 r = ρ x) (e3 : jfr h' 125 r = ρ y) : NodR D h' ρ (o, k, [], none, vNull, [x, y], lo) r := by
  refine ⟨w.1, ?_, m.out (n := 0), fun e => ?_, fun e => ?_, fun e => ?_, fun e => ?_, fun e => ?_, fun e => ?_, fun e => ?_, fun e => ⟨e1, e2, e3⟩, fun e => ?_, fun e => ?_⟩
  · rw [m.2.2.2.2.2.2.1, w.2.2.1]
    rcases ho with rfl | rfl | rfl | rfl | rfl <;> rfl
  all_goals (exfalso; (have e' := e; simp only [ndO] at e'; omega))
theorem k_turnedInit {x : Nat} {v : Int32} (w : Raw h r 26) (hv : jbo v) : cX32_init D (d + 3) r v x h (pV D h (fun h' => MkN D h h' r ∧ jfi h' 121 r = v ∧ jfr h' 122 r = x ∧ ∀ q, jfr h' 111 q = jfr h 111 q) no) := by
  refine JW.inv fun hI => t_X32_init ⟨w.1, useV0 (k_exInit (d := d) w.1) ?_⟩
  rintro h1 _ _ rfl
  refine ⟨hv, ?_⟩
  rintro h2 rfl h3 rfl
  refine endV fun _ _ => ⟨((MkN.ex hI w.2.1 (by rw [w.2.2.1]; decide)).fi w.2.1).fr w.2.1, ?_, ?_, fun q => ?_⟩
  all_goals simp only [hEx, jkd_wfi, jln_wfi, jfi_wfi, jfl_wfi, jfr_wfi, jai_wfi, jal_wfi, jar_wfi, jsz_wfi, jus_wfi, jkd_wfl, jln_wfl, jfi_wfl, jfl_wfl, jfr_wfl, jai_wfl, jal_wfl, jar_wfl, jsz_wfl, jus_wfl, jkd_wfr, jln_wfr, jfi_wfr, jfl_wfr, jfr_wfr, jai_wfr, jal_wfr, jar_wfr, jsz_wfr, jus_wfr, jkd_wai, jln_wai, jfi_wai, jfl_wai, jfr_wai, jai_wai, jal_wai, jar_wai, jsz_wai, jus_wai, jkd_wal, jln_wal, jfi_wal, jfl_wal, jfr_wal, jai_wal, jal_wal, jar_wal, jsz_wal, jus_wal, jkd_war, jln_war, jfi_war, jfl_war, jfr_war, jai_war, jal_war, jar_war, jsz_war, jus_war, jkd_nwo, jln_nwo, jfi_nwo, jfl_nwo, jfr_nwo, jai_nwo, jal_nwo, jar_nwo, jsz_nwo, jus_nwo, jkd_nwa, jln_nwa, jfi_nwa, jfl_nwa, jfr_nwa, jai_nwa, jal_nwa, jar_nwa, jsz_nwa, jus_nwa, jkd_cpa, jln_cpa, jfi_cpa, jfl_cpa, jfr_cpa, jai_cpa, jal_cpa, jar_cpa, jsz_cpa, jus_cpa, Nat.reduceEqDiff, false_and, if_false, and_self, if_true]
theorem nod_turned {o lo x : Nat} (m : MkN D h h' r) (w : Raw h r 26) (ho : o = 12 ∨ o = 13) (e1 : jfi h' 121 r = if o = 12 then 1 else 0) (e2 : jfr h' 122 r = ρ x) : NodR D h' ρ (o, 0, [], none, vNull, [x], lo) r := by
  refine ⟨w.1, ?_, m.out (n := 0), fun e => ?_, fun e => ?_, fun e => ?_, fun e => ?_, fun e => ?_, fun e => ?_, fun e => ?_, fun e => ?_, fun e => ?_, fun e => ⟨e1, e2⟩⟩
  · rw [m.2.2.2.2.2.2.1, w.2.2.1]
    rcases ho with rfl | rfl <;> rfl
  all_goals (exfalso; (have e' := e; simp only [ndO] at e'; omega))
theorem k_missingInit {x : Nat} {v : Int32} (w : Raw h r 28) (hv : jbo v) : cX34_init D (d + 3) r x v h (pV D h (fun h' => MkN D h h' r ∧ jfr h' 126 r = x ∧ (jfi h' 127 r = v ∧ jfr h' 109 r = tyc D 16) ∧ ∀ q, jfr h' 111 q = jfr h 111 q) no) := by
  refine JW.inv fun hI => t_X34_init ⟨w.1, useV0 (k_exInit (d := d) w.1) ?_⟩
  rintro h1 _ _ rfl h2 rfl
  refine ⟨hv, ?_⟩
  rintro h3 rfl h4 rfl
  refine endV fun _ _ => ⟨(((MkN.ex hI w.2.1 (by rw [w.2.2.1]; decide)).fr w.2.1).fi w.2.1).fr w.2.1, ?_, ⟨?_, ?_⟩, fun q => ?_⟩
  all_goals simp only [hEx, jkd_wfi, jln_wfi, jfi_wfi, jfl_wfi, jfr_wfi, jai_wfi, jal_wfi, jar_wfi, jsz_wfi, jus_wfi, jkd_wfl, jln_wfl, jfi_wfl, jfl_wfl, jfr_wfl, jai_wfl, jal_wfl, jar_wfl, jsz_wfl, jus_wfl, jkd_wfr, jln_wfr, jfi_wfr, jfl_wfr, jfr_wfr, jai_wfr, jal_wfr, jar_wfr, jsz_wfr, jus_wfr, jkd_wai, jln_wai, jfi_wai, jfl_wai, jfr_wai, jai_wai, jal_wai, jar_wai, jsz_wai, jus_wai, jkd_wal, jln_wal, jfi_wal, jfl_wal, jfr_wal, jai_wal, jal_wal, jar_wal, jsz_wal, jus_wal, jkd_war, jln_war, jfi_war, jfl_war, jfr_war, jai_war, jal_war, jar_war, jsz_war, jus_war, jkd_nwo, jln_nwo, jfi_nwo, jfl_nwo, jfr_nwo, jai_nwo, jal_nwo, jar_nwo, jsz_nwo, jus_nwo, jkd_nwa, jln_nwa, jfi_nwa, jfl_nwa, jfr_nwa, jai_nwa, jal_nwa, jar_nwa, jsz_nwa, jus_nwa, jkd_cpa, jln_cpa, jfi_cpa, jfl_cpa, jfr_cpa, jai_cpa, jal_cpa, jar_cpa, jsz_cpa, jus_cpa, Nat.reduceEqDiff, false_and, if_false, and_self, if_true, tyc]
theorem nod_missing {k lo x : Nat} (m : MkN D h h' r) (w : Raw h r 28) (e1 : jfr h' 126 r = ρ x) (e2 : jfi h' 127 r = nI k) (e3 : jfr h' 109 r = tyc D 16) : NodR D h' ρ (8, k, [], none, vNull, [x], lo) r := by
  refine ⟨w.1, ?_, m.out (n := 0), fun e => ?_, fun e => ?_, fun e => ?_, fun e => ?_, fun e => ?_, fun e => ?_, fun e => ?_, fun e => ?_, fun e => ⟨e1, e2, e3⟩, fun e => ?_⟩
  · rw [m.2.2.2.2.2.2.1, w.2.2.1]; rfl
  all_goals (exfalso; (have e' := e; simp only [ndO] at e'; omega))
theorem k_paramInit {v : Int32} (w : Raw h r 20) : cX25_init D (d + 3) r v h (pV D h (fun h' => MkN D h h' r ∧ jfi h' 110 r = v ∧ ∀ q, jfr h' 111 q = jfr h 111 q) no) := by
  refine JW.inv fun hI => t_X25_init ⟨w.1, useV0 (k_exInit (d := d) w.1) ?_⟩
  rintro h1 _ _ rfl h2 rfl
  refine endV fun _ _ => ⟨(MkN.ex hI w.2.1 (by rw [w.2.2.1]; decide)).fi w.2.1, ?_, fun q => ?_⟩
  all_goals simp only [hEx, jkd_wfi, jln_wfi, jfi_wfi, jfl_wfi, jfr_wfi, jai_wfi, jal_wfi, jar_wfi, jsz_wfi, jus_wfi, jkd_wfl, jln_wfl, jfi_wfl, jfl_wfl, jfr_wfl, jai_wfl, jal_wfl, jar_wfl, jsz_wfl, jus_wfl, jkd_wfr, jln_wfr, jfi_wfr, jfl_wfr, jfr_wfr, jai_wfr, jal_wfr, jar_wfr, jsz_wfr, jus_wfr, jkd_wai, jln_wai, jfi_wai, jfl_wai, jfr_wai, jai_wai, jal_wai, jar_wai, jsz_wai, jus_wai, jkd_wal, jln_wal, jfi_wal, jfl_wal, jfr_wal, jai_wal, jal_wal, jar_wal, jsz_wal, jus_wal, jkd_war, jln_war, jfi_war, jfl_war, jfr_war, jai_war, jal_war, jar_war, jsz_war, jus_war, jkd_nwo, jln_nwo, jfi_nwo, jfl_nwo, jfr_nwo, jai_nwo, jal_nwo, jar_nwo, jsz_nwo, jus_nwo, jkd_nwa, jln_nwa, jfi_nwa, jfl_nwa, jfr_nwa, jai_nwa, jal_nwa, jar_nwa, jsz_nwa, jus_nwa, jkd_cpa, jln_cpa, jfi_cpa, jfl_cpa, jfr_cpa, jai_cpa, jal_cpa, jar_cpa, jsz_cpa, jus_cpa, Nat.reduceEqDiff, false_and, if_false, and_self, if_true]
theorem nod_param {k lo : Nat} (m : MkN D h h' r) (w : Raw h r 20) (e1 : jfi h' 110 r = nI (k + 1)) : NodR D h' ρ (1, k, [], none, vNull, [], lo) r := by
  refine ⟨w.1, ?_, m.out (n := 0), fun e => ?_, fun e => e1, fun e => ?_, fun e => ?_, fun e => ?_, fun e => ?_, fun e => ?_, fun e => ?_, fun e => ?_, fun e => ?_⟩
  · rw [m.2.2.2.2.2.2.1, w.2.2.1]; rfl
  all_goals (exfalso; (have e' := e; simp only [ndO] at e'; omega))
theorem k_again {x y : Nat} (h0 : r ≠ 0) : cX30_again D (d + 1) r x y h (pR D h 24 (fun v h' => v = r ∧ h' = wfr (wfr h 117 r x) 118 r y) no) := by
  refine t_X30_again ⟨h0, ?_⟩
  rintro h1 rfl h2 rfl
  exact endR fun _ _ _ => ⟨rfl, rfl⟩
theorem k_colInit {x y : Nat} (w : Raw h r 24) : cX30_init D (d + 3) r x y h (pV D h (fun h' => MkN D h h' r ∧ jfr h' 117 r = x ∧ jfr h' 118 r = y ∧ ∀ q, jfr h' 111 q = jfr h 111 q) no) := by
  refine JW.inv fun hI => t_X30_init ⟨w.1, useV0 (k_exInit (d := d) w.1) ?_⟩
  rintro h1 _ _ rfl
  refine useR0 (k_again (d := d + 1) w.1) ?_
  rintro v h2 _ _ ⟨rfl, rfl⟩
  refine endV fun _ _ => ⟨((MkN.ex hI w.2.1 (by rw [w.2.2.1]; decide)).fr w.2.1).fr w.2.1, ?_, ?_, fun q => ?_⟩
  all_goals simp only [hEx, jkd_wfi, jln_wfi, jfi_wfi, jfl_wfi, jfr_wfi, jai_wfi, jal_wfi, jar_wfi, jsz_wfi, jus_wfi, jkd_wfl, jln_wfl, jfi_wfl, jfl_wfl, jfr_wfl, jai_wfl, jal_wfl, jar_wfl, jsz_wfl, jus_wfl, jkd_wfr, jln_wfr, jfi_wfr, jfl_wfr, jfr_wfr, jai_wfr, jal_wfr, jar_wfr, jsz_wfr, jus_wfr, jkd_wai, jln_wai, jfi_wai, jfl_wai, jfr_wai, jai_wai, jal_wai, jar_wai, jsz_wai, jus_wai, jkd_wal, jln_wal, jfi_wal, jfl_wal, jfr_wal, jai_wal, jal_wal, jar_wal, jsz_wal, jus_wal, jkd_war, jln_war, jfi_war, jfl_war, jfr_war, jai_war, jal_war, jar_war, jsz_war, jus_war, jkd_nwo, jln_nwo, jfi_nwo, jfl_nwo, jfr_nwo, jai_nwo, jal_nwo, jar_nwo, jsz_nwo, jus_nwo, jkd_nwa, jln_nwa, jfi_nwa, jfl_nwa, jfr_nwa, jai_nwa, jal_nwa, jar_nwa, jsz_nwa, jus_nwa, jkd_cpa, jln_cpa, jfi_cpa, jfl_cpa, jfr_cpa, jai_cpa, jal_cpa, jar_cpa, jsz_cpa, jus_cpa, Nat.reduceEqDiff, false_and, if_false, and_self, if_true]
theorem nod_col {lo : Nat} {w1 : Str} {o : Option Str} (m : MkN D h h' r) (w : Raw h r 24) (e1 : StR h' (jfr h' 118 r) w1) (e2 : OStR h' (jfr h' 117 r) o) : NodR D h' ρ (2, 0, w1, o, vNull, [], lo) r := by
  refine ⟨w.1, ?_, m.out (n := 0), fun e => ?_, fun e => ?_, fun e => ⟨e1, e2⟩, fun e => ?_, fun e => ?_, fun e => ?_, fun e => ?_, fun e => ?_, fun e => ?_, fun e => ?_⟩
  · rw [m.2.2.2.2.2.2.1, w.2.2.1]; rfl
  all_goals (exfalso; (have e' := e; simp only [ndO] at e'; omega))
theorem k_manyInit {kk x : Nat} {v : Int32} (w : Raw h r kk) (hk : kk < 96) : cX26_init D (d + 3) r x v h (pV D h (fun h' => MkN D h h' r ∧ jfr h' 111 r = x ∧ jfi h' 112 r = v ∧ ∀ q, q ≠ r → jfr h' 111 q = jfr h 111 q) no) := by
  refine JW.inv fun hI => t_X26_init ⟨w.1, useV0 (k_exInit (d := d) w.1) ?_⟩
  rintro h1 _ _ rfl h2 rfl h3 rfl
  refine endV fun _ _ => ⟨((MkN.ex hI w.2.1 (by rw [w.2.2.1]; exact hk)).fr w.2.1).fi w.2.1, ?_, ?_, fun q hq => ?_⟩
  · simp only [hEx, jkd_wfi, jln_wfi, jfi_wfi, jfl_wfi, jfr_wfi, jai_wfi, jal_wfi, jar_wfi, jsz_wfi, jus_wfi, jkd_wfl, jln_wfl, jfi_wfl, jfl_wfl, jfr_wfl, jai_wfl, jal_wfl, jar_wfl, jsz_wfl, jus_wfl, jkd_wfr, jln_wfr, jfi_wfr, jfl_wfr, jfr_wfr, jai_wfr, jal_wfr, jar_wfr, jsz_wfr, jus_wfr, jkd_wai, jln_wai, jfi_wai, jfl_wai, jfr_wai, jai_wai, jal_wai, jar_wai, jsz_wai, jus_wai, jkd_wal, jln_wal, jfi_wal, jfl_wal, jfr_wal, jai_wal, jal_wal, jar_wal, jsz_wal, jus_wal, jkd_war, jln_war, jfi_war, jfl_war, jfr_war, jai_war, jal_war, jar_war, jsz_war, jus_war, jkd_nwo, jln_nwo, jfi_nwo, jfl_nwo, jfr_nwo, jai_nwo, jal_nwo, jar_nwo, jsz_nwo, jus_nwo, jkd_nwa, jln_nwa, jfi_nwa, jfl_nwa, jfr_nwa, jai_nwa, jal_nwa, jar_nwa, jsz_nwa, jus_nwa, jkd_cpa, jln_cpa, jfi_cpa, jfl_cpa, jfr_cpa, jai_cpa, jal_cpa, jar_cpa, jsz_cpa, jus_cpa, Nat.reduceEqDiff, false_and, if_false, and_self, if_true]
  · simp only [hEx, jkd_wfi, jln_wfi, jfi_wfi, jfl_wfi, jfr_wfi, jai_wfi, jal_wfi, jar_wfi, jsz_wfi, jus_wfi, jkd_wfl, jln_wfl, jfi_wfl, jfl_wfl, jfr_wfl, jai_wfl, jal_wfl, jar_wfl, jsz_wfl, jus_wfl, jkd_wfr, jln_wfr, jfi_wfr, jfl_wfr, jfr_wfr, jai_wfr, jal_wfr, jar_wfr, jsz_wfr, jus_wfr, jkd_wai, jln_wai, jfi_wai, jfl_wai, jfr_wai, jai_wai, jal_wai, jar_wai, jsz_wai, jus_wai, jkd_wal, jln_wal, jfi_wal, jfl_wal, jfr_wal, jai_wal, jal_wal, jar_wal, jsz_wal, jus_wal, jkd_war, jln_war, jfi_war, jfl_war, jfr_war, jai_war, jal_war, jar_war, jsz_war, jus_war, jkd_nwo, jln_nwo, jfi_nwo, jfl_nwo, jfr_nwo, jai_nwo, jal_nwo, jar_nwo, jsz_nwo, jus_nwo, jkd_nwa, jln_nwa, jfi_nwa, jfl_nwa, jfr_nwa, jai_nwa, jal_nwa, jar_nwa, jsz_nwa, jus_nwa, jkd_cpa, jln_cpa, jfi_cpa, jfl_cpa, jfr_cpa, jai_cpa, jal_cpa, jar_cpa, jsz_cpa, jus_cpa, Nat.reduceEqDiff, false_and, if_false, and_self, if_true]
  · simp only [hEx, jkd_wfi, jln_wfi, jfi_wfi, jfl_wfi, jfr_wfi, jai_wfi, jal_wfi, jar_wfi, jsz_wfi, jus_wfi, jkd_wfl, jln_wfl, jfi_wfl, jfl_wfl, jfr_wfl, jai_wfl, jal_wfl, jar_wfl, jsz_wfl, jus_wfl, jkd_wfr, jln_wfr, jfi_wfr, jfl_wfr, jfr_wfr, jai_wfr, jal_wfr, jar_wfr, jsz_wfr, jus_wfr, jkd_wai, jln_wai, jfi_wai, jfl_wai, jfr_wai, jai_wai, jal_wai, jar_wai, jsz_wai, jus_wai, jkd_wal, jln_wal, jfi_wal, jfl_wal, jfr_wal, jai_wal, jal_wal, jar_wal, jsz_wal, jus_wal, jkd_war, jln_war, jfi_war, jfl_war, jfr_war, jai_war, jal_war, jar_war, jsz_war, jus_war, jkd_nwo, jln_nwo, jfi_nwo, jfl_nwo, jfr_nwo, jai_nwo, jal_nwo, jar_nwo, jsz_nwo, jus_nwo, jkd_nwa, jln_nwa, jfi_nwa, jfl_nwa, jfr_nwa, jai_nwa, jal_nwa, jar_nwa, jsz_nwa, jus_nwa, jkd_cpa, jln_cpa, jfi_cpa, jfl_cpa, jfr_cpa, jai_cpa, jal_cpa, jar_cpa, jsz_cpa, jus_cpa, Nat.reduceEqDiff, false_and, if_false, hq, and_false]
theorem ArR.mk {x : Nat} {l : List Nat} (k : ArR h ρ x l) (hx : x ≤ jsz h) (hr : jkd h r ≠ 222) (f : fr (jsz h) (fun q => q = r) h h') : ArR h' ρ x l := k.of (f x hx fun e => hr (e ▸ k.2.1))
theorem k_withinInit {x : Nat} {v z : Int32} (w : Raw h r 29) (hz : jbo z) : cX35_init D (d + 4) r x v z h (pV D h (fun h' => MkN D h h' r ∧ jfr h' 111 r = x ∧ jfi h' 112 r = v ∧ jfi h' 128 r = z ∧ ∀ q, q ≠ r → jfr h' 111 q = jfr h 111 q) no) := by
  refine t_X35_init ⟨w.1, useV0 (k_manyInit (d := d) w (by decide)) ?_⟩
  rintro h1 _ _ ⟨m, e1, e2, e3⟩
  refine ⟨hz, ?_⟩
  rintro h2 rfl
  exact endV fun _ _ => ⟨m.fi w.2.1, e1, by rw [jfi_wfi, if_neg (by simp)]; exact e2, by rw [jfi_wfi, if_pos ⟨rfl, rfl⟩], e3⟩
theorem nod_within {o lo x : Nat} {l : List Nat} (m : MkN D h h' r) (w : Raw h r 29) (ho : o = 5 ∨ o = 7) (ha : ArR h' ρ x l) (e1 : jfr h' 111 r = x) (e2 : jfi h' 112 r = nI l.length) (e3 : jfi h' 128 r = if o = 5 then 0 else 1) : NodR D h' ρ (o, 0, [], none, vNull, l, lo) r := by
  refine ⟨w.1, ?_, m.out (n := 0), fun e => ?_, fun e => ?_, fun e => ?_, fun e => ?_, fun e => ⟨by rw [e1]; exact ha.1, by rw [e1]; exact ha.2.1, e2, by rw [e1]; exact ha.2.2.1, by rw [e1]; exact ha.2.2.2.1, by rw [e1]; exact ha.2.2.2.2⟩, fun e => ?_, fun e => ?_, fun e => ?_, fun e => ?_, fun e => ?_⟩
  · rw [m.2.2.2.2.2.2.1, w.2.2.1]
    rcases ho with rfl | rfl <;> rfl
  · exfalso; have e' := e; simp only [ndO] at e'; omega
  · exfalso; have e' := e; simp only [ndO] at e'; omega
  · exfalso; have e' := e; simp only [ndO] at e'; omega
  · exfalso; have e' := e; simp only [ndO] at e'; omega
  · have e' : o = 5 := e
    rw [e3, if_pos e']
  · have e' : o = 7 := e
    rw [e3, if_neg (by omega)]
  · exfalso; have e' := e; simp only [ndO] at e'; omega
  · exfalso; have e' := e; simp only [ndO] at e'; omega
  · exfalso; have e' := e; simp only [ndO] at e'; omega
theorem k_casesInit {x : Nat} {v : Int32} (w : Raw h r 21) : cX27_init D (d + 4) r x v h (pV D h (fun h' => MkN D h h' r ∧ jfr h' 111 r = x ∧ jfi h' 112 r = v ∧ ∀ q, q ≠ r → jfr h' 111 q = jfr h 111 q) no) := by
  refine t_X27_init ⟨w.1, useV0 (k_manyInit (d := d) w (by decide)) ?_⟩
  rintro h1 _ _ m
  exact endV fun _ _ => m
theorem nod_cases {k lo x : Nat} {l : List Nat} (m : MkN D h h' r) (w : Raw h r 21) (ha : ArR h' ρ x l) (e1 : jfr h' 111 r = x) (e2 : jfi h' 112 r = nI l.length) : NodR D h' ρ (4, k, [], none, vNull, l, lo) r := by
  refine ⟨w.1, ?_, m.out (n := 0), fun e => ?_, fun e => ?_, fun e => ?_, fun e => ?_, fun e => ⟨by rw [e1]; exact ha.1, by rw [e1]; exact ha.2.1, e2, by rw [e1]; exact ha.2.2.1, by rw [e1]; exact ha.2.2.2.1, by rw [e1]; exact ha.2.2.2.2⟩, fun e => ?_, fun e => ?_, fun e => ?_, fun e => ?_, fun e => ?_⟩
  · rw [m.2.2.2.2.2.2.1, w.2.2.1]; rfl
  all_goals (exfalso; (have e' := e; simp only [ndO] at e'; omega))
theorem k_callInit {x y : Nat} {v : Int32} (w : Raw h r 23) : cX29_init D (d + 4) r y x v h (pV D h (fun h' => MkN D h h' r ∧ jfr h' 111 r = x ∧ jfi h' 112 r = v ∧ jfr h' 116 r = y ∧ ∀ q, q ≠ r → jfr h' 111 q = jfr h 111 q) no) := by
  refine t_X29_init ⟨w.1, useV0 (k_manyInit (d := d) w (by decide)) ?_⟩
  rintro h1 _ _ ⟨m, e1, e2, e3⟩ h2 rfl
  refine endV fun _ _ => ⟨m.fr w.2.1, by rw [jfr_wfr, if_neg (by simp)]; exact e1, e2, by rw [jfr_wfr, if_pos ⟨rfl, rfl⟩], fun q hq => by rw [jfr_wfr, if_neg (by simp)]; exact e3 q hq⟩
theorem nod_call {lo x : Nat} {l : List Nat} {nm : Str} (m : MkN D h h' r) (w : Raw h r 23) (hg : tGather nm = false) (ha : ArR h' ρ x l) (e1 : jfr h' 111 r = x) (e2 : jfi h' 112 r = nI l.length) (e3 : StR h' (jfr h' 116 r) nm) : NodR D h' ρ (3, 0, nm, none, vNull, l, lo) r := by
  have hn : nkd (3, 0, nm, none, vNull, l, lo) = 23 := by
    show (if (0 : Nat) = 1 ∨ tGather nm = true then 22 else 23) = 23
    rw [if_neg (by rw [hg]; simp)]
  refine ⟨w.1, ?_, m.out (n := 0), fun e => ?_, fun e => ?_, fun e => ?_, fun e => ⟨fun z => ?_, fun z => e3⟩, fun e => ⟨by rw [e1]; exact ha.1, by rw [e1]; exact ha.2.1, e2, by rw [e1]; exact ha.2.2.1, by rw [e1]; exact ha.2.2.2.1, by rw [e1]; exact ha.2.2.2.2⟩, fun e => ?_, fun e => ?_, fun e => ?_, fun e => ?_, fun e => ?_⟩
  · rw [m.2.2.2.2.2.2.1, w.2.2.1, hn]
  · exfalso; have e' := e; simp only [ndO] at e'; omega
  · exfalso; have e' := e; simp only [ndO] at e'; omega
  · exfalso; have e' := e; simp only [ndO] at e'; omega
  · rw [hn] at z; cases z
  all_goals (exfalso; (have e' := e; simp only [ndO] at e'; omega))
end
