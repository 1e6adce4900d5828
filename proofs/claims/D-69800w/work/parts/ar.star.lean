/-! the parser of the component: SELECT, NAME . * or an expression -/
section
variable {D : JD} {p s a base : Nat} {src : Str} {h h' h'' h0 h2 : JH} {σ σ' σ'' σ0 σ2 : PS} {ρ ρ' ρ'' ρ0 : Nat → Nat} {n m n' m' n1 m1 : Int} {d c r w arr N L L' : Nat}
def stS (src : Str) (σ : PS) : Except Nat ((Option Str × Nat) × PS) := pStarred true src σ >>= fun q => if q.1 = true then (pNext true src σ >>= fun a => pNext true src a.2 >>= fun b => pNext true src b.2 >>= fun c => .ok ((some (tkW (psT σ)), 0), c.2)) else (pExpr true src 31 σ >>= fun x => .ok ((none, x.1), x.2))
/-- what comes of it: hm is the heap before the item is written -/
def StP (D : JD) (p s a base : Nat) (src : Str) (h0 h : JH) (σ0 σ : PS) (ρ0 ρ : Nat → Nat) (r v : Nat) (h' : JH) : Prop :=
  ∃ y σ' ρ' hm, stS src σ = .ok (y, σ') ∧ Pd2 D p s a base src h0 hm σ0 σ' ρ0 ρ' ∧ JInv D hm ∧ lp σ + 1 ≤ lp σ' ∧ (∀ q, skd (jkd h q) = true → same h hm q) ∧ (∀ q w, StR h q w → StR hm q w) ∧ RX ρ ρ' (psA σ).length ∧ Le σ σ' ∧
    ((∃ w x, y = (some w, 0) ∧ v = 0 ∧ StR hm x w ∧ h' = wfr (wfi hm 161 r 1) 162 r x) ∨ (∃ i, y = (none, i) ∧ v = ρ' i ∧ i < (psA σ').length ∧ h' = hm))
theorem w_starX {h1 : JH} (k : POk D p s a base src h0 h1 σ0 σ ρ0 ρ n m) (hn : n ≤ 80 * (lp σ - lp σ0) + 40) (hm : m ≤ 2400 * (lp σ - lp σ0) + 1200) (ho : psO σ = 0) (sm : ∀ q, skd (jkd h q) = true → same h h1 q) (st : ∀ q w, StR h q w → StR h1 q w) (eq : stS src σ = (pExpr true src 31 σ >>= fun x => .ok ((none, x.1), x.2))) (hd : 350 ≤ d) :
    cX17_expression D d p h1 (pR D h1 55 (fun v h' => StP D p s a base src h0 h σ0 σ ρ0 ρ r v h') (fun y h' => ∃ er, stS src σ = .error er ∧ PEr2 p s src h0 h' σ0 y er)) := by
  refine JW.inv fun hI1 => useR (w_expr 31 σ ρ h1 d k.1 (by omega) (by omega)) ?_ ?_
  · rintro v3 h3 hI3 _ ⟨x3, σ3, ρ3, e3, hv3, n3, l3⟩
    refine ⟨(none, x3), σ3, ρ3, h3, by rw [eq, e3]; rfl, (k.tr n3).mono (by omega) (by omega), hI3, l3, fun q hq => (sm q hq).tr (n3.obj k.1 hI1 (by rw [(sm q hq).kd]; exact hq)), fun q w z => n3.2.1.2.2.2.2 _ _ (st q w z), n3.2.2.1, n3.2.2.2.2.1, Or.inr ⟨x3, rfl, hv3, expr_lt e3 k.1.2.2.2.2.2.1, rfl⟩⟩
  · rintro y3 h3 hI3 _ ⟨er, e3, n3⟩
    exact ⟨er, by rw [eq, e3]; rfl, k.er2 (by omega) (by omega) n3⟩
theorem w_starred (k : POk D p s a base src h0 h σ0 σ ρ0 ρ n m) (hn : n ≤ 80 * (lp σ - lp σ0) + 1) (hm : m ≤ 2400 * (lp σ - lp σ0) + 4) (hI0 : JInv D h0) (hs0 : s ≤ jsz h0) (ho : psO σ = 0) (r0 : r ≠ 0) (hd : 351 ≤ d) :
    cX17_starred D d p r h (pR D h 55 (fun v h' => StP D p s a base src h0 h σ0 σ ρ0 ρ r v h') (fun y h' => ∃ er, stS src σ = .error er ∧ PEr2 p s src h0 h' σ0 y er)) := by
  obtain ⟨e, rfl, he⟩ := dsucc hd
  refine JW.inv fun hI => t_X17_starred ⟨k.1.1.2.1, k.1.sg, ?_⟩
  rw [k.1.1.2.2.1]
  refine useI0 (w_isName k.1 (by omega)) ?_
  rintro v1 h1 hI1 _ ⟨rfl, n1, f1⟩
  have K1 := n1.1
  have k1 := k.tr n1
  have sm1 : ∀ q, skd (jkd h q) = true → same h h1 q := fun q hq => n1.obj k.1 hI hq
  have st1 := n1.2.1.2.2.2.2
  by_cases c2 : tkK (psT σ) = 2
  · rw [if_pos c2]
    refine ⟨fun _ => ⟨K1.sg, ?_⟩, fun z => absurd z (by decide)⟩
    rw [K1.1.2.2.1]
    -- back to the name, and an expression
    have s76 : ∀ h2 σ2 n2 m2, JInv D h2 → POk D p s a base src h1 h2 σ σ2 ρ ρ n2 m2 → σ2.2 = σ.2 → n2 ≤ 16 → m2 ≤ 520 → stS src σ = (pExpr true src 31 σ >>= fun x => .ok ((none, x.1), x.2)) → W_X17_starred_76 D e (pR D h 55 (fun v h' => StP D p s a base src h0 h σ0 σ ρ0 ρ r v h') (fun y h' => ∃ er, stS src σ = .error er ∧ PEr2 p s src h0 h' σ0 y er)) p (jfi h1 87 s) h2 := by
      intro h2 σ2 n2 m2 hI2 l2 q2 hn2 hm2 eq
      refine ⟨l2.1.1.2.1, l2.1.sg, ?_⟩
      rw [l2.1.1.2.2.1]
      rintro h3 rfl
      have e79 : jfr (wfi h2 85 s (jfi h1 87 s)) 79 p = s := l2.1.1.2.2.1
      rw [e79]
      refine ⟨l2.1.s15.2, useV0 (w_back k1 l2 hI2 q2 K1.2.1.2.1 (by omega)) ?_⟩
      rintro h4 hI4 _ ⟨k4, pf4⟩
      have sm4 : ∀ q, skd (jkd h q) = true → same h h4 q := fun q hq => (sm1 q hq).tr (pf4.obj hI1 K1.1.1 K1.s15.1 (by rw [(sm1 q hq).kd]; exact hq))
      have st4 : ∀ q w, StR h q w → StR h4 q w := fun q w z => pf4.2.2.2.2 _ _ (st1 q w z)
      refine useR (w_starX (h := h) (r := r) k4 (by omega) (by omega) ho sm4 st4 eq (by omega)) ?_ ?_
      · rintro v5 h5 _ _ z
        exact endR fun _ _ _ => z
      · rintro y5 h5 _ _ z
        exact endX fun _ _ => z
    refine useV (w_nextN K1 (by omega) (by omega)) ?_ ?_
    · rintro h2 hI2 _ ⟨σ2, e2, n2, n2s, l2, q2⟩
      refine ⟨n2.1.sg, ?_⟩
      rw [n2.1.1.2.2.1]
      refine useI (w_takesN n2.1 "." (by decide +kernel) (by omega)) ?_ ?_
      · rintro v3 h3 hI3 _ ⟨b, σ3, e3, rfl, n3, q3, t3, f3⟩
        cases b with
        | false =>
          obtain ⟨i3, rfl, rfl⟩ := f3 rfl
          refine ⟨fun _ => s76 h3 σ3 _ _ hI3 n2 q2 (by omega) (by omega) ?_, fun z => absurd rfl z⟩
          unfold stS pStarred
          rw [if_pos (by rw [c2]; rfl), e2]
          show (if pIs σ3 "." = true then _ else _) >>= _ = _
          rw [if_neg (by rw [i3]; simp)]; rfl
        | true =>
          obtain ⟨i3, en3, l3⟩ := t3 rfl
          have z6 : tkK (psT σ2) = 6 := ((is_sign (by decide +kernel) n2.1.2.2.2.2.2.1.1).mpr i3).1
          have n23 := (n2s z6).tr n3
          have st0 : pStarred true src σ = .ok (pIs σ3 "*", σ) := by
            unfold pStarred
            rw [if_pos (by rw [c2]; rfl), e2]
            show (if pIs σ2 "." = true then _ else _) = _
            rw [if_pos i3, en3]
          refine ⟨fun z => absurd z (by decide), fun _ => ⟨n3.1.sg, ?_⟩⟩
          rw [n3.1.1.2.2.1]
          refine useI (w_takesN n3.1 "*" (by decide +kernel) (by omega)) ?_ ?_
          · rintro v4 h4 hI4 _ ⟨b, σ4, e4, rfl, n4, q4, t4, f4⟩
            cases b with
            | false =>
              obtain ⟨i4, rfl, rfl⟩ := f4 rfl
              refine ⟨fun _ => s76 h4 σ4 _ _ hI4 n23 (q3.trans q2) (by omega) (by omega) ?_, fun z => absurd rfl z⟩
              unfold stS
              rw [st0, i4]; rfl
            | true =>
              obtain ⟨i4, en4, l4⟩ := t4 rfl
              refine ⟨fun z => absurd z (by decide), fun _ => ⟨r0, ?_⟩⟩
              rintro h5 rfl h6 rfl
              have n234 := n23.tr n4
              have k4 := k1.tr n234
              have sw : StR h4 (jfr h1 88 s) (tkW (psT σ)) := n234.2.1.2.2.2.2 _ _ K1.2.1.2.2.2.1
              refine endR fun _ _ _ => ⟨(some (tkW (psT σ)), 0), σ4, ρ, h4, ?_, k4.mono (by omega) (by omega), hI4, by omega, fun q hq => (sm1 q hq).tr (n234.obj K1 hI1 (by rw [(sm1 q hq).kd]; exact hq)), fun q w z => n234.2.1.2.2.2.2 _ _ (st1 q w z), RX.rf _ _, n234.2.2.2.2.1, Or.inl ⟨_, _, rfl, rfl, sw, rfl⟩⟩
              unfold stS
              rw [st0, ok_bind, i4]
              show (pNext true src σ >>= _) = _
              rw [e2, ok_bind, en3, ok_bind, en4]; rfl
          · rintro y4 h4 hI4 _ ⟨er, e4, n4⟩
            obtain ⟨i4, en4⟩ := takeE e4
            refine endX fun _ _ => ⟨er, ?_, (k1.tr n23).er2 (by omega) (by omega) n4⟩
            unfold stS
            rw [st0, ok_bind, i4]
            show (pNext true src σ >>= _) = _
            rw [e2, ok_bind, en3, ok_bind, en4]; rfl
      · rintro y3 h3 hI3 _ ⟨er, e3, n3⟩
        obtain ⟨i3, en3⟩ := takeE e3
        refine endX fun _ _ => ⟨er, ?_, (k1.tr n2).er2 (by omega) (by omega) n3⟩
        unfold stS pStarred
        rw [if_pos (by rw [c2]; rfl), e2]
        show (if pIs σ2 "." = true then _ else _) >>= _ = _
        rw [if_pos i3, en3]; rfl
    · rintro y2 h2 hI2 _ ⟨er, e2, n2⟩
      refine endX fun _ _ => ⟨er, ?_, k1.er2 (by omega) (by omega) n2⟩
      unfold stS pStarred
      rw [if_pos (by rw [c2]; rfl), e2]; rfl
  · rw [if_neg c2]
    refine ⟨fun z => absurd rfl z, fun _ => ?_⟩
    have eq : stS src σ = (pExpr true src 31 σ >>= fun x => .ok ((none, x.1), x.2)) := by
      unfold stS pStarred
      rw [if_neg (by simpa using c2)]; rfl
    refine useR (w_starX (h := h) (r := r) k1 (by omega) (by omega) ho sm1 st1 eq (by omega)) ?_ ?_
    · rintro v5 h5 _ _ z
      exact endR fun _ _ _ => z
    · rintro y5 h5 _ _ z
      exact endX fun _ _ => z
end
