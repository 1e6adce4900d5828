/-! the component: CREATE, DROP, BEGIN and so on are worked out -/
section
variable {D : JD} {h h' h'' h1 h2 : JH} {ρ : Nat → Nat} {q c r i v k j d e sc n B B' u : Nat} {T T' S : List Tab} {y : Stm}
/-- the tables now have changed -/
theorem EngT.bf (k : EngT D h e T S) (hI : JInv D h) (bf : BF D (jfr h 20 e) h h') (b1 : BasR D h' (jfr h 20 e) T') : EngT D h' e T' S ∧ EgF e h h' ∧ same h h' e := by
  obtain ⟨⟨k1, k2⟩, ⟨k3, k4⟩, ⟨k5, k6⟩, k7, k8, k9⟩ := k
  have ne : jfr h 21 e ≠ jfr h 20 e := fun z => k7 (by rw [z])
  have s : same h h' e := bf.1.obj hI (by omega) (by omega) (by rw [k2]; rfl)
  have c := bf.2.2.2.2.1 _ ne k6.1 k7.symm
  have en := bf.nbO hI k8 k4.1 k6.1 ne k7.symm
  refine ⟨⟨⟨k1, by rw [s.kd]; exact k2⟩, by rw [s.fr]; exact ⟨k3, b1⟩, by rw [s.fr]; exact ⟨k5, k6.of bf hI k8 k4.1 ne k7.symm⟩, ?_, bf.2.2.1 k8, bf.1.2.2.2 k9⟩, ⟨bf.1.mono engK_b, fun F => s.fr F, ?_⟩, s⟩
  · rw [s.fr, s.fr, c.1.fr, bf.2.2.2.1.1]; exact k7
  · unfold nbT
    rw [s.fr, s.fr, en]
    exact bf.2.2.2.2.2.2.mono (by omega) (by omega)
theorem w_creWk (k : EngT D h e T S) (kc : CreR D h v y) (l : T.length < 4) (hd : 2 ≤ d) : cX21_work D d v e h (pR D h 64 (fun x h' => x = jcs D 190 ∧ EngT D h' e (T ++ [(smT y, smC y, [])]) S ∧ EgF e h h' ∧ same h h' e) no) := by
  obtain ⟨d, rfl, he⟩ := dsucc hd
  have kb := k.2.1.2
  have ot := k.2.2.2.2.1
  have ec : jfi h 41 (jfr h 20 e) = nI T.length := kb.2.1.1
  have tw := kb.1.2.2 T.length l
  refine JW.inv fun hI => t_X21_work ⟨k.1.1, k.2.1.1, kb.1.2.1.1, by rw [ec, kb.1.2.1.2]; exact jin_nI l (by decide), kc.1, ?_⟩
  rw [ec, ixn_nI (by omega)]
  refine ⟨tw.1.1, useV0 (w_define hI tw (by omega)) ?_⟩
  rintro h1 hI1 _ ⟨tf, d1, d2, d3, d4, d5⟩
  obtain ⟨bf, sB, sA⟩ := tf.bf hI ot kb.1 l
  have se : same h h1 e := bf.1.obj hI (by rw [k.1.2]; decide) (by rw [k.1.2]; decide) (by rw [k.1.2]; rfl)
  have kb1 := bf.2.2.2.1.2
  rw [se.fr]
  refine ⟨k.2.1.1, ?_⟩
  rintro h2 rfl
  have ec1 : jfi h1 41 (jfr h 20 e) + 1 = nI (T.length + 1) := by rw [sB.fi, ec, nI_1]
  rw [ec1]
  have bf2 : BF D (jfr h 20 e) h1 (wfi h1 41 (jfr h 20 e) (nI (T.length + 1))) := BF.cnt hI1 kb1
  have kfc : KF (fun j => Nat.beq j 114 || Nat.beq j 115) h1 (wfi h1 41 (jfr h 20 e) (nI (T.length + 1))) := by
    refine ⟨fun q _ _ q3 _ => same_wfi fun z => ?_, Nat.le_refl _, fun _ _ => rfl, fun o => o⟩
    have q3 : (Nat.beq (jkd h1 q) 114 || Nat.beq (jkd h1 q) 115) = false := q3
    rw [z] at q3
    rcases kb1.1.2 with g | g <;> rw [g] at q3 <;> cases q3
  have ts : ∀ u, TabW D h1 u → TbS h1 (wfi h1 41 (jfr h 20 e) (nI (T.length + 1))) u := fun u uw => kfc.tbs hI1 ⟨rfl, rfl, rfl, rfl, rfl⟩ uw
  have et : ∀ j, tba (wfi h1 41 (jfr h 20 e) (nI (T.length + 1))) (jfr h 20 e) j = tba h (jfr h 20 e) j := fun j => by
    show jar h1 (jfr h1 40 (jfr h 20 e)) j = jar h (jfr h 40 (jfr h 20 e)) j
    rw [sB.fr, sA.ar]
  have bb : BasR D (wfi h1 41 (jfr h 20 e) (nI (T.length + 1))) (jfr h 20 e) (T ++ [(smT y, smC y, [])]) := by
    refine ⟨bf2.2.2.2.1.2, ⟨by rw [jfi_wfi, if_pos ⟨rfl, rfl⟩, List.length_append]; rfl, by rw [List.length_append]; exact l⟩, fun j tb ht => ?_⟩
    rw [et]
    rw [List.getElem?_append] at ht
    by_cases z : j < T.length
    · rw [if_pos z] at ht
      have t1 : TabR D h1 (tba h (jfr h 20 e) j) tb := (kb.2.2 j tb ht).of (tf.2.1 _ (tba_ne' hI ot kb.1 (by omega) (by omega)) (kb.1.2.2 j (by omega))) tf.1 hI
      exact t1.ofB (ts _ t1.1) bf2.1 hI1
    · rw [if_neg z] at ht
      have j0 : j - T.length = 0 := by
        have := (List.getElem?_eq_some_iff.mp ht).1
        simp at this
        omega
      rw [j0] at ht
      cases ht
      have jj : j = T.length := by omega
      rw [jj]
      have t1 : TabR D h1 (tba h (jfr h 20 e) T.length) (smT y, smC y, []) := ⟨tf.2.2.2.2.1 tw, by
        show StR h1 (jfr h1 42 (tba h (jfr h 20 e) T.length)) (smT y)
        rw [show jfr h1 42 (tba h (jfr h 20 e) T.length) = jfr h 96 v from d1]
        exact tf.1.str hI kc.2.2.1 ⟨rfl, rfl, rfl, rfl⟩, by
        show ColsR D h1 (jfr h1 43 (tba h (jfr h 20 e) T.length)) (smC y)
        rw [show jfr h1 43 (tba h (jfr h 20 e) T.length) = jfr h 97 v from d2]
        exact kc.2.2.2.1.kf tf.1 hI ⟨rfl, rfl⟩ ⟨rfl, rfl, rfl, rfl⟩, d3.trans kc.2.2.2.2, ⟨d4, Nat.zero_le _⟩, fun k r hr => by simp at hr⟩
      exact t1.ofB (ts _ t1.1) bf2.1 hI1
  obtain ⟨r1, r2, r3⟩ := k.bf hI (bf.tr hI ot kb.1 bf2) bb
  exact endR fun _ _ _ => ⟨rfl, r1, r2, r3⟩
theorem w_drpWk (k : EngT D h e T S) (kc : DrpR h v y) (hn : tbNeed T (smT y) = .ok j) (hd : 9 ≤ d) : cX22_work D d v e h (pR D h 64 (fun x h' => x = jcs D 196 ∧ EngT D h' e (T.eraseIdx j) S ∧ EgF e h h' ∧ same h h' e) no) := by
  obtain ⟨d, rfl, he⟩ := dsucc hd
  have kb := k.2.1.2
  refine JW.inv fun hI => t_X22_work ⟨k.1.1, kc.1, k.2.1.1, useR (w_needed kb kc.2.2 (by omega)) ?_ ?_⟩
  · rintro t h1 hI1 _ ⟨he1, i, e1, il, e2, rfl⟩
    have he1 := he1.symm
    subst he1
    rw [hn] at e1
    cases e1
    refine useV0 (w_bdrop kb k.2.2.2.2.1 il (by omega)) ?_
    rintro h2 hI2 _ ⟨bf, b1⟩
    obtain ⟨r1, r2, r3⟩ := k.bf hI bf b1
    exact endR fun _ _ _ => ⟨rfl, r1, r2, r3⟩
  · rintro z h1 hI1 _ ⟨e1, _⟩
    rw [hn] at e1
    cases e1
end
