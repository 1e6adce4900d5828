/-! the component: whether a row of a table is picked -/
section
variable {D : JD} {h h' h'' h0 h1 h2 : JH} {ρ : Nat → Nat} {A : List Nod} {E : TEnv} {q c r i v k j d e sc n B u t : Nat} {tb : Tab} {pv : List Val} {row : List Val} {w : Str}
/-- the scope but for its rows -/
def EnvP (D : JD) (h : JH) (sc : Nat) (pv : List Val) : Prop := (sc ≠ 0 ∧ jkd h sc = 6) ∧ (jfr h 56 sc ≠ 0 ∧ jln h (jfr h 56 sc) = 3) ∧ (jfr h 50 sc ≠ 0 ∧ pv.length ≤ jln h (jfr h 50 sc) ∧ jln h (jfr h 50 sc) ≤ 8 ∧ ∀ (k : Nat) v, pv[k]? = some v → Cel D h (jar h (jfr h 50 sc) k) v ∧ jkd h (jar h (jfr h 50 sc) k) = 102) ∧ (jkd h (jfr h 50 sc) = 137 ∨ jkd h (jfr h 50 sc) = 162)
theorem EnvP.rowR (k : EnvP D h sc pv) (hI : JInv D h) (tR : TabR D h t tb) (hE : E.1 = [(w, tb)]) (hr : tb.2.2[j]? = some row) : EnvR D (war h (jfr h 56 sc) 0 (jar h (jfr h 45 t) j)) sc E [some row] pv := by
  obtain ⟨k1, ⟨k2, k3⟩, ⟨k7, k8, k9, k10⟩, _⟩ := k
  have a : RwF sc h (war h (jfr h 56 sc) 0 (jar h (jfr h 45 t) j)) := RwF.put
  have k142 : jkd h (jfr h 56 sc) = 142 := hI.ref (F := 56) (by decide +kernel) k2
  have k50 : sbt (jkd h (jfr h 50 sc)) (ftg 50) = true := Or.resolve_left (hI.2.2.1 50 sc) k7
  have kk := ftg50 _ (sbt_lt k50) k50
  have s5 : same h (war h (jfr h 56 sc) 0 (jar h (jfr h 45 t) j)) (jfr h 50 sc) := a.1 _ fun e => by rw [e] at kk; exact kk.2.2.2.2.1 k142
  have jl := (List.getElem?_eq_some_iff.mp hr).1
  obtain ⟨y1, y2⟩ := tR.2.2.2.2.2 j row hr
  have w10 := tR.2.2.1.2.2.2.1
  have ru := (tR.1.2.2 j (by have := tR.2.2.2.2.1.2; omega)).resolve_left y1
  refine ⟨k1, ⟨k2, k3, (by rw [hE]; show 1 ≤ 3; omega), fun i t' ht => ?_⟩, ⟨k7, by rw [show jfr (war h (jfr h 56 sc) 0 (jar h (jfr h 45 t) j)) 50 sc = jfr h 50 sc from rfl, s5.ln]; exact k8, by rw [show jfr (war h (jfr h 56 sc) 0 (jar h (jfr h 45 t) j)) 50 sc = jfr h 50 sc from rfl, s5.ln]; exact k9, fun i v hv => ?_⟩⟩
  · rw [hE] at ht
    cases i with
    | succ i => simp at ht
    | zero =>
      simp only [List.getElem?_cons_zero, Option.some.injEq] at ht
      subst ht
      show RwE D _ (jar (war h (jfr h 56 sc) 0 (jar h (jfr h 45 t) j)) (jfr h 56 sc) 0) (some row) tb.2.1.length
      rw [jar_war, if_pos ⟨rfl, rfl⟩]
      have base : RwE D h (jar h (jfr h 45 t) j) (some row) tb.2.1.length := ⟨y1, ru.2.1, by rw [ru.2.2.1]; exact w10, by rw [ru.2.2.1]; exact Nat.le_refl _, fun c hc => ⟨y2 c hc, (ru.2.2.2 c (by omega)).2⟩⟩
      exact base.rw a hI k2
  · rw [show jfr (war h (jfr h 56 sc) 0 (jar h (jfr h 45 t) j)) 50 sc = jfr h 50 sc from rfl, s5.ar]
    obtain ⟨c1, c2⟩ := k10 i v hv
    refine ⟨c1.of (a.1 _ fun e => ?_) (fun h0 => a.1 _ fun e => ?_), c2⟩
    · rw [e] at c2; omega
    · have := (c1.1.2.2.2.2.resolve_left h0).1
      rw [e] at this; omega
/-- whether the row is picked -/
theorem w_picks {o : Option Nat} {T' : TEnv} (C : EvC A E E ρ pv []) (hf : E.2.2 = false) (hE : E.1 = [(w, tb)]) (v0 : v ≠ 0) (e0 : e ≠ 0) (hsc : jfr h 23 e = sc) (ep : EnvP D h sc pv) (hs : jfr h 130 v ≠ 0) (ht : jfr h 138 (jfr h 130 v) = t) (tR : TabR D h t tb) (hr : tb.2.2[j]? = some row) (rk : RowOk E [some row]) (tr : TreeR D h A ρ) (ow : OW h) (ol : ∀ x, o = some x → x < A.length ∧ HB A n x ∧ PlA A E h ρ x ∧ tCond A E o = .ok ()) (kr : OtR ρ (jfr h 131 v) o) (hd : 2 * n + 21 ≤ d) :
    cX36_picks D d v e (nI j) h (pI D h (fun b h' => ∃ bv, eCond A E pv [] [some row] o = .ok bv ∧ b = (if bv = true then 1 else 0) ∧ EvF D sc (EM h A ρ 0 A.length) h h' ∧ EnvR D h' sc E [some row] pv) (fun z h' => ∃ c hm, eCond A E pv [] [some row] o = .error c ∧ EvF D sc (EM h A ρ 0 A.length) h hm ∧ Flt hm h' z c)) := by
  obtain ⟨d, rfl, he⟩ := dsucc (show 1 ≤ d by omega)
  have jl := (List.getElem?_eq_some_iff.mp hr).1
  have l100 := tR.2.2.2.2.1.2
  obtain ⟨y1, y2⟩ := tR.2.2.2.2.2 j row hr
  refine JW.inv fun hI => t_X36_picks ⟨e0, by rw [hsc]; exact ep.1.1, v0, hs, ?_⟩
  rw [ht, hsc]
  refine ⟨tR.1.1.1, useR0 (w_row tR.1.1.1 tR.1.2.1 (by omega) y1 (by omega)) ?_⟩
  rintro ra h1 hI1 _ ⟨rfl, he1⟩
  have he1 := he1.symm
  subst he1
  refine ⟨ep.2.1.1, by rw [ep.2.1.2]; exact jin_nI (n := 0) (by decide) (by decide), ?_⟩
  rintro h2 rfl
  have rf : RwF sc h (war h (jfr h 56 sc) 0 (jar h (jfr h 45 t) j)) := RwF.put
  have ev2 : EvF D sc (EM h A ρ 0 A.length) h (war h (jfr h 56 sc) 0 (jar h (jfr h 45 t) j)) := rf.ev hI ep.2.1.1
  have en2 := ep.rowR (E := E) (w := w) hI tR hE hr
  have e23 : jfr (war h (jfr h 56 sc) (ixn 0) (jar h (jfr h 45 t) j)) 23 e = sc := hsc
  cases o with
  | none =>
    have kr : jfr h 131 v = 0 := kr
    refine ⟨fun _ => ⟨jbo1, endI fun _ _ => ⟨true, rfl, rfl, ev2, en2⟩⟩, fun z => absurd kr z⟩
  | some x =>
    have kr : jfr h 131 v = ρ x := kr
    obtain ⟨xl, hB, pl, tc⟩ := ol x rfl
    have nz : jfr h 131 v ≠ 0 := by rw [kr]; exact (tr x xl).1
    refine ⟨fun z => absurd z nz, fun _ => ?_⟩
    rw [e23]
    show v55_at D d (jfr h 131 v) sc _ _
    rw [kr]
    have h56 := ep.2.1.1
    have tr2 : TreeR D (war h (jfr h 56 sc) 0 (jar h (jfr h 45 t) j)) A ρ := tr.ev ow C.2.1 hI ev2 h56
    have tc : (tTree A E (x + 1) false x >>= fun t => tFits t 16) = .ok () := tc
    obtain ⟨ty, t1, t2⟩ := bnd tc
    have sub := fits_sub t2 (by decide)
    have S : EvI D A E E ρ sc pv (fun _ _ => True) [some row] (war h (jfr h 56 sc) 0 (jar h (jfr h 45 t) j)) := ⟨tr2, ev2.2.2.1 ow, en2, trivial, rk⟩
    have pl2 : PlT A E (war h (jfr h 56 sc) 0 (jar h (jfr h 45 t) j)) ρ (x + 1) x := PlT.ev tr hI ev2 (fun c hc => (tr.emW hI hc).1) h56 C.1 (x + 1) x xl (pl (x + 1))
    have evx := w_eval0 (D := D) (sc := sc) (G := fun _ _ => True) C hf (fun _ _ _ _ _ _ _ _ _ _ _ => trivial) (x + 1) x [some row] _ d n ty false (Nat.lt_succ_self _) xl hB (by omega) S pl2 t1
    refine useAt evx ?_ ?_
    · rintro va h3 hI2 hI3 ⟨wv, a1, a2, a3, a4, a5⟩
      have up := a4.up S hI2 (Nat.zero_le _) (show x + 1 ≤ A.length by omega)
      rw [ev2.em'] at up
      have vt := (snd_tree C.1 C.2.2.1 C.2.2.2.1 C.2.2.2.2.1 (x + 1) false x [some row] ty wv (by omega) rk t1 a1).sub sub
      refine ⟨a2.1.1, JW.up (n := 1) (fun dd => useI0 (k_cTrue (d := dd) a2 vt.2) ?_) (by omega)⟩
      rintro b h4 hI4 _ ⟨rfl, he4⟩
      have he4 := he4.symm
      subst he4
      have ec : eCond A E pv [] [some row] (some x) = .ok (vTrue wv) := by
        show (eTree A E pv [] (x + 1) [some row] x).map vTrue = _
        rw [a1]; rfl
      by_cases tw : vTrue wv = true
      · rw [if_pos tw]
        exact ⟨fun z => absurd z (by decide), fun _ => ⟨jbo1, endI fun _ _ => ⟨true, by rw [ec, tw], rfl, ev2.tr up, a5⟩⟩⟩
      · rw [if_neg tw]
        exact ⟨fun _ => ⟨jbo0, endI fun _ _ => ⟨false, by rw [ec, Bool.eq_false_iff.mpr tw], rfl, ev2.tr up, a5⟩⟩, fun z => absurd rfl z⟩
    · rintro z h3 hI2 hI3 ⟨c, hm, c1, c2, c3⟩
      have up := c2.up S hI2 (Nat.zero_le _) (show x + 1 ≤ A.length by omega)
      rw [ev2.em'] at up
      refine fun _ _ => ⟨c, hm, ?_, ev2.tr up, c3⟩
      show (eTree A E pv [] (x + 1) [some row] x).map vTrue = _
      rw [c1]; rfl
end
