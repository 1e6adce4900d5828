/-! the parser of the component: SELECT, reading an item -/
section
variable {D : JD} {p s a base : Nat} {src : Str} {h h' h'' h0 h2 : JH} {σ σ' σ'' σ0 σ2 : PS} {ρ ρ' ρ'' ρ0 : Nat → Nat} {n m n' m' n1 m1 : Int} {d c r q w arr N L L' l : Nat} {ds : Bool} {is : List Itm} {ss : List Src} {gs : List Nat} {wh hv : Option Nat} {os : List (Nat × Bool)} {li : Option Int64} {ox : Int64} {it : Itm}
theorem starred_id {b : Bool} (e : pStarred true src σ = .ok (b, σ')) : σ' = σ := by
  unfold pStarred at e
  split at e
  · split at e
    · cases e
    · split at e
      · split at e
        · cases e
        · cases e; rfl
      · cases e; rfl
  · cases e; rfl
def itR (src : Str) (y : Option Str × Nat) (σ : PS) : Except Nat (Itm × PS) := match y.1 with
  | some w => .ok ((true, some w, 0), σ)
  | none => pTake true src "as" σ >>= fun a => if a.1 = true then pName true src a.2 >>= fun nm => .ok ((false, some nm.1, y.2), nm.2) else .ok ((false, none, y.2), a.2)
theorem pItem_eqS : pItem true src σ = (pTake true src "*" σ >>= fun t => if t.1 = true then .ok ((true, none, 0), t.2) else stS src t.2 >>= fun y => itR src y.1 y.2) := by
  unfold pItem
  cases pTake true src "*" σ with
  | error e => rfl
  | ok t =>
    obtain ⟨b, τ⟩ := t
    cases b with
    | true => rfl
    | false =>
      show (pStarred true src τ >>= _) = (stS src τ >>= _)
      unfold stS
      cases hs : pStarred true src τ with
      | error e => rfl
      | ok t =>
        obtain ⟨b, τ'⟩ := t
        have := starred_id hs
        subst this
        cases b with
        | true =>
          show (pNext true src τ' >>= _) = ((pNext true src τ' >>= _) >>= _)
          cases pNext true src τ' with
          | error e => rfl
          | ok x =>
            show (pNext true src x.2 >>= _) = ((pNext true src x.2 >>= _) >>= _)
            cases pNext true src x.2 with
            | error e => rfl
            | ok y =>
              show (pNext true src y.2 >>= _) = ((pNext true src y.2 >>= _) >>= _)
              cases pNext true src y.2 with
              | error e => rfl
              | ok z => rfl
        | false =>
          show (pExpr true src 31 τ' >>= _) = ((pExpr true src 31 τ' >>= _) >>= _)
          cases pExpr true src 31 τ' with
          | error e => rfl
          | ok x =>
            show (pTake true src "as" x.2 >>= _) = (pTake true src "as" x.2 >>= _)
            cases pTake true src "as" x.2 with
            | error e => rfl
            | ok y =>
              obtain ⟨b, τ2⟩ := y
              cases b <;> rfl
def iS (src : Str) (l : Nat) (σ : PS) : Except Nat (Itm × PS) := if (l == 12) = true then pBroken σ else pItem true src σ
theorem sbt_node3 : ∀ k, k < 30 → 20 ≤ k → sbt k (ftg 163) = true ∧ sbt k (ftg 140) = true ∧ sbt k (ftg 146) = true ∧ sbt k (ftg 149) = true := by decide +kernel
theorem sbt_str : sbt 12 (ftg 162) = true ∧ sbt 51 (ftg 162) = true ∧ sbt 12 (ftg 136) = true ∧ sbt 51 (ftg 136) = true ∧ sbt 12 (ftg 137) = true ∧ sbt 51 (ftg 137) = true ∧ sbt 12 (ftg 164) = true ∧ sbt 51 (ftg 164) = true := by decide +kernel
theorem w_item (k : Pd2 D p s a base src h0 h σ0 σ ρ0 ρ) (hI0 : JInv D h0) (hs0 : s ≤ jsz h0) (ho : psO σ = 0) (u : SelS (jsz h0) h ρ (psA σ).length r is.length ds is ss wh gs hv os li ox) (hl : is.length ≤ 12) (hd : 352 ≤ d) :
    cX17_item D d p r h (pV D h (fun h' => ∃ it σ' ρ', iS src is.length σ = .ok (it, σ') ∧ Pd2 D p s a base src h0 h' σ0 σ' ρ0 ρ' ∧ SelS (jsz h0) h' ρ' (psA σ').length r (is.length + 1) ds (is ++ [it]) ss wh gs hv os li ox ∧ lp σ + 1 ≤ lp σ' ∧ psO σ' = 0) (fun y h' => ∃ er, iS src is.length σ = .error er ∧ PEr2 p s src h0 h' σ0 y er)) := by
  obtain ⟨e, rfl, he⟩ := dsucc hd
  have lt0 : jsz h0 ≤ jsz h := k.2.1.2.2.2.1.1
  have r0 := u.1.1.2.1
  have uc := u.2.1.2.1
  refine JW.inv fun hI => t_X17_item ⟨r0, fun z => ?_, fun z => ?_⟩
  · rw [uc] at z
    have hl' : is.length < 12 := by
      rcases Nat.lt_or_ge is.length 12 with y | y
      · exact y
      · exact absurd (by rw [show is.length = 12 by omega]; rfl) z
    have iS0 : iS src is.length σ = pItem true src σ := by unfold iS; rw [if_neg (by simp; omega)]
    rintro q h4 rfl rfl
    refine JW.up (n := 1) (fun _ => t_X41_init ⟨Nat.succ_ne_zero _, endV fun _ _ => ?_⟩) (by omega)
    have A0 := u.1.ary (x := (142, 152, 12)) (by decide)
    dsimp only at A0
    have lA : jfr h 142 r ≤ jsz h := hI.lt (by rw [A0.2.1]; decide)
    have lr : r ≤ jsz h := hI.lt (by rw [u.1.1.2.2]; decide)
    have e1 : jfi (nwo h 34 4) 143 r = nI is.length := uc
    rw [e1]
    refine ⟨A0.2.2.2.1, ?_, ?_⟩
    · rw [show jln (nwo h 34 4) (jfr (nwo h 34 4) 142 r) = jln h (jfr h 142 r) from (same_nwo lA).ln, A0.2.2.1]
      exact jin_nI (by omega) (by omega)
    rw [ixn_nI (by omega)]
    rintro h5 rfl h6 q6
    obtain ⟨u1, b1⟩ := u.add hI hl' lt0
    have q6 : h6 = wfi (war (nwo h 34 4) (jfr h 142 r) is.length (jsz h + 1)) 143 r (nI (is.length + 1)) := by
      rw [q6]
      show wfi (war (nwo h 34 4) (jfr h 142 r) is.length (jsz h + 1)) 143 r (jfi h 143 r + 1) = _
      rw [uc, nI_1]
    have hIa : JInv D (nwo h 34 4) := hI.nO (by decide)
    have ka := POk.nO (kk := 34) (N := 4) k hI hI0 hs0 rfl
    have dA : jkd (nwo h 34 4) (jfr h 142 r) = 152 := (same_nwo lA).kd.trans A0.2.1
    have dr : jkd (nwo h 34 4) r = 33 := (same_nwo lr).kd.trans u.1.1.2.2
    have dq : jkd (nwo h 34 4) (jsz h + 1) = 34 := by simp only [jkd_wfi, jln_wfi, jfi_wfi, jfl_wfi, jfr_wfi, jai_wfi, jal_wfi, jar_wfi, jsz_wfi, jus_wfi, jkd_wfl, jln_wfl, jfi_wfl, jfl_wfl, jfr_wfl, jai_wfl, jal_wfl, jar_wfl, jsz_wfl, jus_wfl, jkd_wfr, jln_wfr, jfi_wfr, jfl_wfr, jfr_wfr, jai_wfr, jal_wfr, jar_wfr, jsz_wfr, jus_wfr, jkd_wai, jln_wai, jfi_wai, jfl_wai, jfr_wai, jai_wai, jal_wai, jar_wai, jsz_wai, jus_wai, jkd_wal, jln_wal, jfi_wal, jfl_wal, jfr_wal, jai_wal, jal_wal, jar_wal, jsz_wal, jus_wal, jkd_war, jln_war, jfi_war, jfl_war, jfr_war, jai_war, jal_war, jar_war, jsz_war, jus_war, jkd_nwo, jln_nwo, jfi_nwo, jfl_nwo, jfr_nwo, jai_nwo, jal_nwo, jar_nwo, jsz_nwo, jus_nwo, jkd_nwa, jln_nwa, jfi_nwa, jfl_nwa, jfr_nwa, jai_nwa, jal_nwa, jar_nwa, jsz_nwa, jus_nwa, jkd_cpa, jln_cpa, jfi_cpa, jfl_cpa, jfr_cpa, jai_cpa, jal_cpa, jar_cpa, jsz_cpa, jus_cpa, if_true]
    have hIb : JInv D (war (nwo h 34 4) (jfr h 142 r) is.length (jsz h + 1)) := hIa.war (hIa.2.1 _ (by rw [dA]; decide)) (hIa.lt (by rw [dA]; decide)) (Or.inr (by rw [dA, dq]; decide))
    have kb := ka.sar (r := jfr h 142 r) (i := is.length) (v := jsz h + 1) hIa hI0 hs0 (by rw [dA]; decide) (u.1.2 (142, 152, 12) (by decide)).1
    have hI1 : JInv D h6 := by rw [q6]; exact hIb.wfi (hIb.2.1 _ (by show wrt (jkd (nwo h 34 4) r) = true; rw [dr]; decide)) (by show r ≤ jsz h + 1; omega)
    have k1 : POk D p s a base src h0 h6 σ0 σ ρ0 ρ (80 * (lp σ - lp σ0) + 1) (2400 * (lp σ - lp σ0) + 4) := by rw [q6]; exact kb.sfi hIb hI0 hs0 (by show skd (jkd (nwo h 34 4) r) = true; rw [dr]; decide) u.1.1.1
    have zi : jfi h6 161 (jsz h + 1) = 0 := by
      rw [q6, jfi_wfi, if_neg fun z => absurd z.1 (by decide)]
      exact hI.zi (Nat.lt_succ_self _) 161
    have zr : ∀ F, jfr h6 F (jsz h + 1) = 0 := fun F => by
      rw [q6]; exact hI.zr (Nat.lt_succ_self _) F
    rw [← q6] at u1 b1
    clear q6 hIa ka dA dr dq hIb kb e1
    generalize jsz h + 1 = q at u1 b1 zi zr ⊢
    refine ⟨k1.1.1.2.1, k1.1.sg, ?_⟩
    rw [k1.1.1.2.2.1]
    have go : ∀ h2 σ2 ρ2 n2 m2, POk D p s a base src h6 h2 σ σ2 ρ ρ2 n2 m2 → SelS (jsz h0) h2 ρ2 (psA σ2).length r (is.length + 1) ds is ss wh gs hv os li ox ∧ ItB (jsz h0) h2 r q is.length ∧ same h6 h2 q := fun h2 σ2 ρ2 n2 m2 n2' => by
      have s2 : same h6 h2 q := n2'.obj k1.1 hI1 (by rw [b1.1.2.2]; decide)
      exact ⟨n2'.selS k1.1 hI1 u1, b1.of (n2'.obj k1.1 hI1 (by rw [u1.1.1.2.2]; decide)) (n2'.obj k1.1 hI1 (u1.1.ary (x := (142, 152, 12)) (by decide)).1) s2.kd, s2⟩
    refine useI (w_takes k1.1 "*" (by decide +kernel) (by omega)) ?_ ?_
    · rintro v2 h2 hI2 _ ⟨b, σ2, e2, rfl, n2, q2, t2, f2⟩
      cases b with
      | true =>
        obtain ⟨i2, en, l2⟩ := t2 rfl
        obtain ⟨u2, b2, s2⟩ := go _ _ _ _ _ n2
        refine ⟨fun z => absurd z (by decide), fun _ => ?_⟩
        rintro h3 rfl
        obtain ⟨u3, b3, st3⟩ := u2.at (h' := wfi h2 161 q 1) b2 (fun z hz => same_wfi hz) rfl
        have k3 := (k1.tr n2).sfi (F := 161) (r := q) (v := 1) hI2 hI0 hs0 (by rw [b2.1.2.2]; decide) b2.1.1
        refine endV fun _ _ => ⟨(true, none, 0), σ2, ρ, by rw [iS0, pItem_eqS, e2]; rfl, k3.mono (by omega) (by omega), u3.fin b3 ⟨b3.1.2.1, b3.1.2.2, by rw [jfi_wfi, if_pos ⟨rfl, rfl⟩]; rfl, fun _ => (s2.fr 162).trans (zr 162), fun z => by cases z⟩ (fun z => by cases z), l2, by rw [← ho]; unfold psO; rw [q2]⟩
      | false =>
        obtain ⟨i2, rfl, rfl⟩ := f2 rfl
        have eqI : iS src is.length σ2 = (stS src σ2 >>= fun y => itR src y.1 y.2) := by rw [iS0, pItem_eqS, e2]; rfl
        refine ⟨fun _ => useR (w_starred k1 (by omega) (by omega) hI0 hs0 ho b1.1.2.1 (by omega)) ?_ ?_, fun z => absurd rfl z⟩
        · rintro v3 h3 hI3 _ ⟨y, σ3, ρ3, hm, e3, k3, hIm, l3, sm3, st3, rx3, le3, hc⟩
          have u3 := u1.of (h' := hm) sm3 st3 rx3 le3.len
          have s3 : same h2 hm q := sm3 q (by rw [b1.1.2.2]; decide)
          have b3 : ItB (jsz h0) hm r q is.length := b1.of (sm3 r (by rw [u1.1.1.2.2]; decide)) (sm3 _ (u1.1.ary (x := (142, 152, 12)) (by decide)).1) s3.kd
          have bq : jbs D < q := hIm.2.1 _ (by rw [b3.1.2.2]; decide)
          have lq : q ≤ jsz hm := hIm.lt (by rw [b3.1.2.2]; decide)
          have o3 : psO σ3 = 0 := by rw [← ho]; exact le3.1
          rcases hc with ⟨w, x, rfl, rfl, sw, rfl⟩ | ⟨i, rfl, rfl, hi, rfl⟩
          · rintro h4 rfl
            have sx : jkd hm x = 12 ∨ jkd hm x = 51 := sw.2.1
            refine ⟨fun z => absurd z ?_, fun _ => ?_⟩
            · rw [jfi_wfr, jfi_wfr, jfi_wfi, if_pos ⟨rfl, rfl⟩]; decide
            have k4 := POk.sfi (F := 161) (r := q) (v := 1) k3 hIm hI0 hs0 (by rw [b3.1.2.2]; decide) b3.1.1
            have hI4 : JInv D (wfi hm 161 q 1) := hIm.wfi bq lq
            have k5 := k4.sfr (F := 162) (r := q) (v := x) hI4 hI0 hs0 (by show skd (jkd hm q) = true; rw [b3.1.2.2]; decide) b3.1.1
            have hI5 : JInv D (wfr (wfi hm 161 q 1) 162 q x) := hI4.wfr bq lq (Or.inr (by
              show sbt (jkd hm x) _ = true
              rcases sx with y | y <;> rw [y]
              · exact sbt_str.1
              · exact sbt_str.2.1))
            have k6 := k5.sfr (F := 163) (r := q) (v := 0) hI5 hI0 hs0 (by show skd (jkd hm q) = true; rw [b3.1.2.2]; decide) b3.1.1
            obtain ⟨u4, b4, st4⟩ := u3.at (h' := wfr (wfr (wfi hm 161 q 1) 162 q x) 163 q 0) b3 (fun z hz => ((same_wfi hz).tr (same_wfr hz)).tr (same_wfr hz)) rfl
            refine endV fun _ _ => ⟨(true, some w, 0), σ3, ρ3, by rw [eqI, e3]; rfl, k6, u4.fin b4 ⟨b4.1.2.1, b4.1.2.2, ?_, fun _ => ?_, fun z => by cases z⟩ (fun z => by cases z), l3, o3⟩
            · rw [jfi_wfr, jfi_wfr, jfi_wfi, if_pos ⟨rfl, rfl⟩]; rfl
            · rw [jfr_wfr, if_neg fun z => absurd z.1 (by decide), jfr_wfr, if_pos ⟨rfl, rfl⟩]
              exact st4 _ _ sw
          · rintro h4 q4
            have nk := k3.1.nk hi
            have k4 : Pd2 D p s a base src h0 h4 σ0 σ3 ρ0 ρ3 := by rw [q4]; exact POk.sfr k3 hI3 hI0 hs0 (by rw [b3.1.2.2]; decide) b3.1.1
            have hI4 : JInv D h4 := by rw [q4]; exact hI3.wfr bq lq (Or.inr (sbt_node3 _ nk.2 nk.1).1)
            obtain ⟨u4, b4, st4⟩ := u3.at (h' := h4) b3 (fun z hz => by rw [q4]; exact same_wfr hz) (by rw [q4]; rfl)
            have g1 : jfi h4 161 q = 0 := by rw [q4]; exact (s3.fi 161).trans zi
            have g2 : jfr h4 163 q = ρ3 i := by rw [q4, jfr_wfr, if_pos ⟨rfl, rfl⟩]
            have g3 : jfr h4 164 q = 0 := by rw [q4, jfr_wfr, if_neg fun z => absurd z.1 (by decide)]; exact (s3.fr 164).trans (zr 164)
            refine ⟨fun _ => ⟨k4.1.sg, ?_⟩, fun z => absurd g1 z⟩
            rw [k4.1.1.2.2.1]
            have eqJ : iS src is.length σ2 = itR src (none, i) σ3 := by rw [eqI, e3]; rfl
            have go4 : ∀ h5 σ5 ρ5 n5 m5, POk D p s a base src h4 h5 σ3 σ5 ρ3 ρ5 n5 m5 → SelS (jsz h0) h5 ρ5 (psA σ5).length r (is.length + 1) ds is ss wh gs hv os li ox ∧ ItB (jsz h0) h5 r q is.length ∧ same h4 h5 q := fun h5 σ5 ρ5 n5 m5 n5' => by
              have s5 : same h4 h5 q := n5'.obj k4.1 hI4 (by rw [b4.1.2.2]; decide)
              exact ⟨n5'.selS k4.1 hI4 u4, b4.of (n5'.obj k4.1 hI4 (by rw [u4.1.1.2.2]; decide)) (n5'.obj k4.1 hI4 (u4.1.ary (x := (142, 152, 12)) (by decide)).1) s5.kd, s5⟩
            refine useI (w_takesWord k4.1 "as" (by decide +kernel) (by omega)) ?_ ?_
            · rintro v5 h5 hI5 _ ⟨b, σ5, e5, rfl, n5, q5, t5, f5⟩
              cases b with
              | false =>
                obtain ⟨i5, rfl, rfl⟩ := f5 rfl
                refine ⟨fun _ => endV fun _ _ => ⟨(false, none, i), σ5, ρ3, by rw [eqJ]; unfold itR; show (pTake true src "as" σ5 >>= _) = _; rw [e5]; rfl, k4, u4.fin b4 ⟨b4.1.2.1, b4.1.2.2, g1, fun z => (by cases z), fun _ => ⟨g2, g3⟩⟩ (fun _ => hi), l3, o3⟩, fun z => absurd rfl z⟩
              | true =>
                obtain ⟨i5, en5, l5⟩ := t5 rfl
                refine ⟨fun z => absurd z (by decide), fun _ => ⟨n5.1.sg, ?_⟩⟩
                rw [n5.1.1.2.2.1]
                have k5 : Pd2 D p s a base src h0 h5 σ0 σ5 ρ0 ρ3 := Pd2.tr k4 n5 (by omega) (by omega)
                refine useR (w_name n5.1 (by omega)) ?_ ?_
                · rintro v6 h6 hI6 _ ⟨nm, σ6, e6, s6, n6, l6, q6⟩
                  rintro h7 q7
                  have n56 := n5.pok.tr n6
                  obtain ⟨u6, b6, s46⟩ := go4 _ _ _ _ _ n56
                  obtain ⟨u7, b7, st7⟩ := u6.at (h' := h7) b6 (fun z hz => by rw [q7]; exact same_wfr hz) (by rw [q7]; rfl)
                  have k6 : Pd2 D p s a base src h0 h6 σ0 σ6 ρ0 ρ3 := Pd2.tr k5 n6 (by omega) (by omega)
                  have k7 : Pd2 D p s a base src h0 h7 σ0 σ6 ρ0 ρ3 := by rw [q7]; exact POk.sfr k6 hI6 hI0 hs0 (by rw [b6.1.2.2]; decide) b6.1.1
                  have len6 : (psA σ6) = psA σ3 := by unfold psA; rw [q6, q5]
                  refine endV fun _ _ => ⟨(false, some nm, i), σ6, ρ3, by rw [eqJ]; unfold itR; show (pTake true src "as" σ3 >>= _) = _; rw [e5, ok_bind]; show (pName true src σ5 >>= _) = _; rw [e6]; rfl, k7, u7.fin b7 ⟨b7.1.2.1, b7.1.2.2, ?_, fun z => (by cases z), fun _ => ⟨?_, ?_⟩⟩ (fun _ => by rw [len6]; exact hi), by omega, by rw [← o3]; unfold psO; rw [q6, q5]⟩
                  · rw [q7]; exact (s46.fi 161).trans g1
                  · rw [q7, jfr_wfr, if_neg fun z => absurd z.1 (by decide)]; exact (s46.fr 163).trans g2
                  · show OsR h7 (jfr h7 164 q) (some nm)
                    rw [show jfr h7 164 q = v6 by rw [q7, jfr_wfr, if_pos ⟨rfl, rfl⟩]]
                    exact st7 _ _ s6
                · rintro y6 h6 hI6 _ ⟨er, e6, n6⟩
                  exact fun _ _ => ⟨er, by rw [eqJ]; unfold itR; show (pTake true src "as" σ3 >>= _) = _; rw [e5, ok_bind]; show (pName true src σ5 >>= _) = _; rw [e6]; rfl, k5.err n6 (Or.inl rfl)⟩
            · rintro y5 h5 hI5 _ ⟨er, e5, n5⟩
              exact fun _ _ => ⟨er, by rw [eqJ]; unfold itR; show (pTake true src "as" σ3 >>= _) = _; rw [e5]; rfl, k4.err n5 (Or.inl rfl)⟩
        · rintro y3 h3 hI3 _ ⟨er, e3, n3⟩
          exact fun _ _ => ⟨er, by rw [eqI, e3]; rfl, n3⟩
    · rintro y2 h2 hI2 _ ⟨er, e2, n2⟩
      exact fun _ _ => ⟨er, by rw [iS0, pItem_eqS, e2]; rfl, k1.er2 (by omega) (by omega) n2⟩
  · rw [uc] at z
    have e12 : is.length = 12 := (nI_eq (b := 12) (by omega) (by omega)).mp z
    refine ⟨k.1.1.2.1, useR0 (w_broken k.1 (by omega)) ?_⟩
    rintro y1 h1 hI1 _ n1
    refine ⟨n1.1.1, fun _ _ => ⟨tkF (psT σ) + 1, ?_, k.err n1 (Or.inl rfl)⟩⟩
    unfold iS
    rw [if_pos (by rw [e12]; rfl)]; rfl
end
