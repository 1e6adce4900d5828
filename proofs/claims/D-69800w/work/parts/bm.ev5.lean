/-! the component: NOT, minus -/
section
variable {D : JD} {h h' h'' hm h0 h1 h2 h3 hb : JH} {ρ : Nat → Nat} {A : List Nod} {E Ec : TEnv} {d sc r x i n f c q lo hi t : Nat} {M : Nat → Prop} {pv : List Val} {grp : List TRow} {R : TRow} {G : TRow → JH → Prop} {wi : Bool} {z : Ex Val} {w : Val}
theorem Cel.num {c : Nat} {m : Int64} (k : Cel D h c (vNum m)) : jfl h 66 c = m := by
  rcases k.2 with ⟨e, _⟩ | ⟨_, _, ⟨b, e, _⟩ | ⟨n, e, h1, _⟩ | ⟨s, e, _⟩⟩
  · exact absurd (congrArg (·.1) e) (by show ¬ (20 : Nat) = 0; decide)
  · exact absurd (congrArg (·.1) e) (by show ¬ (20 : Nat) = 16; decide)
  · have : m = n := congrArg (·.2.1) e
    rw [this]; exact h1
  · exact absurd (congrArg (·.1) e) (by show ¬ (20 : Nat) = 25; decide)
theorem ev_turn (C : EvC A E Ec ρ pv grp) (hG : EvG D A ρ sc G) (IH : EVX D A E Ec ρ sc pv grp G f) (hi : i < f + 1) (il : i < A.length) (hB : HB A (n + 1) i) (o : ndO (nat_ A i) = 12 ∨ ndO (nat_ A i) = 13) (S : EvI D A E Ec ρ sc pv G R h) (pl : PlT A E h ρ (f + 1) i) (ht : tTree A Ec (f + 1) wi i = .ok t) (hd : 2 * n + 21 ≤ d) :
    cX32_at D d (ρ i) sc h (EQ D A E ρ sc pv i R h h (eTree A E pv grp (f + 1) R i)) := by
  obtain ⟨e, rfl, he⟩ := dsucc hd
  have nr := S.1 i il
  have sh := (C.1 i il).2.2.1
  obtain ⟨p, ep⟩ := sh.par1 (Or.inr o)
  have f9 := nr.2.2.2.2.2.2.2.2.2.2.2.2 o
  have np : npt (nat_ A i) 0 = p := by unfold npt; rw [ep]; rfl
  have pm : p ∈ ndP (nat_ A i) := by rw [ep]; exact List.mem_cons_self
  have til := (Til.lt (C.1 i il).2.1).2 p pm
  rw [np] at f9
  rw [tTree_one ep (by omega)] at ht
  obtain ⟨u, hu, ht⟩ := bnd ht
  have sub : u = 0 ∨ u = (if ndO (nat_ A i) = 12 then 16 else 20) := by
    unfold tNode at ht
    rcases o with o | o
    · rw [o] at ht ⊢
      obtain ⟨x, x1, _⟩ := mpd ht
      exact all_sub [u] 16 (by decide) x1 u (by simp)
    · rw [o] at ht ⊢
      obtain ⟨x, x1, _⟩ := mpd ht
      exact all_sub [u] 20 (by decide) x1 u (by simp)
  have ee : eTree A E pv grp (f + 1) R i = (eTree A E pv grp f R p >>= fun a => if (a.1 == 0) = true then .ok a else if ndO (nat_ A i) = 12 then .ok (vBool (a.2.1 == 0)) else xNum (-a.2.1)) := by
    rcases o with o | o
    · rw [eT_12 o]; unfold evK; rw [ep, o]
      refine congrArg _ (funext fun a => ?_)
      by_cases y : (a.1 == 0) = true
      · rw [if_pos y, if_pos y]
      · rw [if_neg y, if_neg y]; rfl
    · rw [eT_13 o]; unfold evK; rw [ep, o]; rfl
  refine JW.inv fun hI => t_X32_at ⟨nr.1, ?_⟩
  rw [f9.2]
  refine ⟨(S.1 p (by omega)).1, useAt (w_evNext C hG IH hi il hB pm S hI (EvS.rf S) (pl.2 p pm) hu (by omega)) ?_ ?_⟩
  · rintro v h1 _ hI1 ⟨w, w1, w2, w3, w4, w5, -⟩
    have g9 := (w5.2.1 i il).2.2.2.2.2.2.2.2.2.2.2.2 o
    have vt := w3.sub sub
    have own := (w5.2.1 i il).2.2.1.1
    refine ⟨w2.1.1, JW.up (n := 1) (fun y => useI0 (k_cEmpty (d := y) w2) ?_) (by omega)⟩
    rintro v2 h2 hI2 hle ⟨rfl, he2⟩
    have he2 := he2.symm
    subst he2
    by_cases wz : w.1 = 0
    · rw [if_pos wz]
      have wn := w3.1.null wz
      exact ⟨fun z => absurd z (by decide), fun _ => ⟨nr.1, own, fin_none C w5 il (by omega) (by rw [ee, w1, wn]; rfl) (by omega)⟩⟩
    · rw [if_neg wz]
      refine ⟨fun _ => ⟨nr.1, ?_⟩, fun z => absurd rfl z⟩
      rw [g9.1]
      have ev : eTree A E pv grp (f + 1) R i = (if ndO (nat_ A i) = 12 then .ok (vBool (w.2.1 == 0)) else xNum (-w.2.1)) := by
        rw [ee, w1]
        show (if (w.1 == 0) = true then _ else _) = _
        rw [if_neg (by simpa using wz)]
      rcases o with o | o
      · rw [o] at vt ev ⊢
        refine ⟨fun z => absurd z (by decide), fun _ => JW.up (n := 1) (fun y => useI0 (k_cTrue (d := y) w2 vt.2) ?_) (by omega)⟩
        rintro v3 h3 hI3 hle3 ⟨rfl, he3⟩
        have he3 := he3.symm
        subst he3
        obtain ⟨b, rfl⟩ := vt.1.bool (vt.2.resolve_left wz)
        rw [if_pos rfl] at ev
        cases b with
        | true => exact ⟨fun _ => ⟨own, fin_truth C w5 il (by omega) (by rw [ev]; rfl) (by omega)⟩, fun z => absurd z (by decide)⟩
        | false => exact ⟨fun z => absurd rfl z, fun _ => ⟨own, fin_truth C w5 il (by omega) (by rw [ev]; rfl) (by omega)⟩⟩
      · rw [o] at vt ev ⊢
        refine ⟨fun _ => JW.up (n := 1) (fun y => useL0 (k_cNum (d := y) w2.1.1) ?_) (by omega), fun z => absurd rfl z⟩
        rintro v3 h3 hI3 hle3 ⟨rfl, he3⟩
        have he3 := he3.symm
        subst he3
        obtain ⟨m, rfl, _⟩ := VT.num vt wz
        rw [w2.num]
        exact ⟨own, fin_number C w5 il (by omega) (by rw [ev]; rfl) (by omega)⟩
  · rintro y h1 _ hI1 ⟨c, hm, c1, c2, c3⟩
    exact endX fun _ _ => ⟨c, hm, by rw [ee, c1]; rfl, c2, c3⟩
end
