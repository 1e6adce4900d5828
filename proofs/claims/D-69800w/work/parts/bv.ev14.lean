/-! the component: COALESCE, NULLIF -/
section
variable {D : JD} {h h' h'' hm h0 h1 h2 h3 hb : JH} {ρ : Nat → Nat} {A : List Nod} {E Ec : TEnv} {d sc r x i n f c q lo hi t : Nat} {M : Nat → Prop} {pv : List Val} {grp : List TRow} {R : TRow} {G : TRow → JH → Prop} {wi : Bool} {z : Ex Val} {w : Val}
theorem HS.ev (hh : HS h h') (hI : JInv D h) : EvF D sc M h h' := by
  have e : ∀ F q, jfr h' F q = jfr h F q := by
    rcases hh with rfl | ⟨r, s, hs, hk, rfl | ⟨rfl, hz⟩⟩ <;> exact fun _ _ => rfl
  have ek : ∀ q, jkd h' q = jkd h q := by
    rcases hh with rfl | ⟨r, s, hs, hk, rfl | ⟨rfl, hz⟩⟩ <;> exact fun _ => rfl
  have el : ∀ q, jln h' q = jln h q := by
    rcases hh with rfl | ⟨r, s, hs, hk, rfl | ⟨rfl, hz⟩⟩ <;> exact fun _ => rfl
  have es : Sp h h' 0 0 := by
    rcases hh with rfl | ⟨r, s, hs, hk, rfl | ⟨rfl, hz⟩⟩
    · exact Sp.rf _
    · exact Sp.fi
    · exact Sp.fi
  have eo : OW h → OW h' := fun o F a b hF => by rw [e, e]; exact o F a b hF
  have ea : ∀ q i, jar h' q i = jar h q i := by
    rcases hh with rfl | ⟨r, s, hs, hk, rfl | ⟨rfl, hz⟩⟩ <;> exact fun _ _ => rfl
  have eot : OT h → OT h' := fun o => ⟨fun a b i j => by rw [ek, ek, ea, ea]; exact o.1 a b i j, fun a b => by rw [e, e]; exact o.2 a b⟩
  refine ⟨fun q q1 _ _ _ q5 => hh.fr (jsz h) q q1 q5, fun c hc => ⟨Or.inl (e _ _), fun w => ?_⟩, eo, ⟨by rw [hh.sz.1]; exact Nat.le_refl _, es, eot⟩, fun F q _ _ => e F q, fun q _ => ek q, el _, fun q t k => hh.st k⟩
  have kc := w.kd
  have wl := w.lt hI
  refine w.of (hh.fr (jsz h) c wl.1 (by omega)) fun h0 => hh.fr (jsz h) _ wl.2 ?_
  have := w.2.2.2.2.resolve_left h0
  omega
theorem HS.cel {v : Val} (hh : HS h h') (hI : JInv D h) (k : Cel D h c v) : Cel D h' c v := by
  have kc := k.1.kd
  have wl := k.1.lt hI
  refine k.of (hh.fr (jsz h) c wl.1 (by omega)) fun h0 => hh.fr (jsz h) _ wl.2 ?_
  have := k.1.2.2.2.2.resolve_left h0
  omega
theorem EvS.hs (S : EvS D A E Ec ρ sc pv G R i h h1) (C : EvC A E Ec ρ pv grp) (hG : EvG D A ρ sc G) (hh : HS h1 h2) (hI : JInv D h1) : EvS D A E Ec ρ sc pv G R i h h2 := by
  have a : EvF D sc (EM h1 A ρ (ndL (nat_ A i)) (i + 1)) h1 h2 := hh.ev hI
  have ea : ∀ q j, jar h2 q j = jar h1 q j := by
    rcases hh with rfl | ⟨r, s, hs, hk, rfl | ⟨rfl, hz⟩⟩ <;> exact fun _ _ => rfl
  have en := S.2.2.2.1.ev a hI S.2.2.1 (fun c hc => S.2.1.emW hI hc) fun j => ea _ j
  have b := a
  rw [S.1.em'] at b
  exact ⟨S.1.tr b, S.2.go hI C.2.1 hG a en⟩
theorem co_stop {x : Val} (hx : x.1 ≠ 0) : ∀ (l : List Nat), l.foldlM (coF A E pv grp f R) x = .ok x
  | [] => rfl
  | p :: l => by
    rw [List.foldlM_cons]
    unfold coF
    rw [if_neg (show ¬ (x.1 == 0) = true by simpa using hx)]
    exact co_stop hx l
theorem w_eCoL {ts : List Nat} (C : EvC A E Ec ρ pv grp) (hG : EvG D A ρ sc G) (IH : EVX D A E Ec ρ sc pv grp G f) (hi : i < f + 1) (il : i < A.length) (hB : HB A (n + 1) i) (o : ndO (nat_ A i) = 3) (S : EvI D A E Ec ρ sc pv G R h) (hI : JInv D h) (hd : 2 * n + 20 ≤ d)
    (tg : ∀ (k p : Nat), (ndP (nat_ A i))[k]? = some p → ∃ u, ts[k]? = some u ∧ tTree A Ec f wi p = .ok u) :
    ∀ (m k : Nat) (h1 : JH), JInv D h1 → k + m = (ndP (nat_ A i)).length → EvS D A E Ec ρ sc pv G R i h h1 → (∀ p ∈ ndP (nat_ A i), PlT A E h1 ρ f p) → eTree A E pv grp (f + 1) R i = ((ndP (nat_ A i)).drop k).foldlM (coF A E pv grp f R) vNull →
    L_X29_at_14 D d (EQ D A E ρ sc pv i R h h (eTree A E pv grp (f + 1) R i)) (m + 1) (ρ i) sc (nI k) h1
  | m, k, h1, hI1, hkm, S1, pl, ez => by
    have nr := S1.2.1 i il
    have own := nr.2.2.1.1
    have f4 := nr.2.2.2.2.2.2.2.1 (by omega)
    have o0 : ndO (nat_ A i) ≠ 0 := by omega
    have l9 : (ndP (nat_ A i)).length ≤ 40 := by
      have := f4.2.2.2.1
      have := f4.2.2.2.2.1
      omega
    refine ⟨nr.1, fun y => ?_, fun y => ?_⟩
    · rw [f4.2.2.1] at y
      have y := (nI_leI (by omega) (by omega)).mp y
      exact ⟨own, fin_none C S1 il o0 (by rw [ez, List.drop_eq_nil_of_le (by omega)]; rfl) (by omega)⟩
    · rw [f4.2.2.1] at y
      have kl : k < (ndP (nat_ A i)).length := Nat.lt_of_not_le fun z => y ((nI_leI (by omega) (by omega)).mpr z)
      have hk : (ndP (nat_ A i))[k]? = some (ndP (nat_ A i))[k] := List.getElem?_eq_getElem kl
      generalize hp : (ndP (nat_ A i))[k] = p at hk
      obtain ⟨m', rfl⟩ : ∃ m', m = m' + 1 := ⟨m - 1, by omega⟩
      obtain ⟨g1, g2, g3, g4, g5, g6⟩ := S1.part C il (by omega) hk
      obtain ⟨v, v1, v2⟩ := tg k p hk
      have pm := List.mem_of_getElem? hk
      rw [List.drop_eq_getElem_cons kl, hp, List.foldlM_cons] at ez
      have ez : eTree A E pv grp (f + 1) R i = (eTree A E pv grp f R p >>= fun s => ((ndP (nat_ A i)).drop (k + 1)).foldlM (coF A E pv grp f R) s) := ez
      refine ⟨g1, g2, ?_⟩
      rw [g3]
      refine ⟨g4, useAt (w_evNext C hG IH hi il hB pm S hI S1 (pl p pm) v2 (by omega)) ?_ ?_⟩
      · rintro vb h2 _ hI2 ⟨yv, b1, b2, b3, b4, S2, b6, b7, -⟩
        have pl2 : ∀ p ∈ ndP (nat_ A i), PlT A E h2 ρ f p := fun p hp => b7 p (by have := (Til.lt (C.1 i il).2.1).2 p hp; omega) (pl p hp)
        rw [b1, ok_bind] at ez
        refine ⟨b2.1.1, JW.up (n := 1) (fun y => useI0 (k_cEmpty (d := y) b2) ?_) (by omega)⟩
        rintro v3 h3 hI3 _ ⟨rfl, he3⟩
        have he3 := he3.symm
        subst he3
        by_cases yz : yv.1 = 0
        · rw [if_pos yz]
          rw [b3.1.null yz] at ez
          refine ⟨fun _ => ?_, fun z => absurd z (by decide)⟩
          have := w_eCoL C hG IH hi il hB o S hI hd tg m' (k + 1) h2 hI2 (by omega) S2 pl2 ez
          rw [nI_1]
          exact this
        · rw [if_neg yz]
          rw [co_stop yz] at ez
          exact ⟨fun z => absurd rfl z, fun _ => ⟨nr.1, (S2.2.1 i il).2.2.1.1, fin_copy C S2 il o0 b2 ez (by omega)⟩⟩
      · rintro y h2 _ hI2 ⟨c, hm, c1, c2, c3⟩
        exact endX fun _ _ => ⟨c, hm, by rw [ez, c1]; rfl, c2, c3⟩
/-- NULLIF: the two values -/
theorem w_eNull {va vb u : Nat} {a b : Val} (C : EvC A E Ec ρ pv grp) (S : EvS D A E Ec ρ sc pv G R i h h1) (il : i < A.length) (o0 : ndO (nat_ A i) ≠ 0) (ka : Cel D h1 va a) (kb : Cel D h1 vb b) (ta : VT u a) (tb : VT u b) (hz : z = .ok (if vTrue (vTold 0 a b) = true then vNull else a)) (hd : 9 ≤ d) :
    W_X29_at_96 D d (EQ D A E ρ sc pv i R hb h z) (ρ i) va vb h1 := by
  have nr := S.2.1 i il
  have cpy : vTrue (vTold 0 a b) = false → W_X29_at_129 D d (EQ D A E ρ sc pv i R hb h z) (ρ i) va h1 := fun e =>
    ⟨nr.1, nr.2.2.1.1, fin_copy C S il o0 ka (by rw [hz, e]; rfl) hd⟩
  refine ⟨ka.1.1, JW.up (n := 1) (fun y => useI0 (k_cEmpty (d := y) ka) ?_) (by omega)⟩
  rintro v3 h4 hI4 _ ⟨rfl, he4⟩
  have he4 := he4.symm
  subst he4
  by_cases xz : a.1 = 0
  · rw [if_pos xz]
    exact ⟨fun _ => cpy (by rw [toldN (Or.inl xz)]; rfl), fun y => absurd y (by decide)⟩
  rw [if_neg xz]
  refine ⟨fun y => absurd rfl y, fun _ => ⟨kb.1.1, JW.up (n := 1) (fun y => useI0 (k_cEmpty (d := y) kb) ?_) (by omega)⟩⟩
  rintro v4 h5 hI5 _ ⟨rfl, he5⟩
  have he5 := he5.symm
  subst he5
  by_cases yz : b.1 = 0
  · rw [if_pos yz]
    exact ⟨fun _ => cpy (by rw [toldN (Or.inr yz)]; rfl), fun y => absurd y (by decide)⟩
  rw [if_neg yz]
  have et : a.1 = b.1 := by
    have := ta.2
    have := tb.2
    omega
  refine ⟨fun y => absurd rfl y, fun _ => JW.up (n := 2) (fun y => useI0 (k_order (d := y) ka kb xz et) ?_) (by omega)⟩
  rintro v5 h6 hI6 _ ⟨sx, he6⟩
  have he6 := he6.symm
  subst he6
  have e := told0 (x := a) (y := b) (by omega)
  refine ⟨fun y => cpy ?_, fun y => ⟨nr.1, nr.2.2.1.1, fin_none C S il o0 ?_ (by omega)⟩⟩
  · have : (vCmp a b == 0) = false := by simpa using fun z => y (sx.2.mpr z)
    rw [e, this]; rfl
  · have : (vCmp a b == 0) = true := by simpa using sx.2.mp y
    rw [hz, e, this]; rfl
end
