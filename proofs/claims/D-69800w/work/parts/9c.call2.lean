/-! expressions of the component: the parts of functions, CASE -/
section
variable {D : JD} {p s a base : Nat} {src : Str} {h h' h'' h0 : JH} {σ σ' σ'' σ0 : PS} {ρ ρ' ρ'' ρ0 : Nat → Nat} {n m n' m' : Int} {d c r : Nat}
def lsS (rec : PS → Except Nat (Nat × PS)) (src : Str) (lo : Nat) (nm : Str) (f : Nat) (l : List Nat) (σ : PS) : Except Nat (Nat × PS) := pList rec true src 8 f l σ >>= fun q => fnS src lo nm 0 q.1 q.2
theorem w_callL {N lo arr nr : Nat} {nm : Str} {rec : PS → Except Nat (Nat × PS)} (hr : CXr D p s a base src rec N) (hI0 : JInv D h0) (hs0 : s ≤ jsz h0) (ha : jsz h0 < arr) : ∀ f l σ ρ h d (Q : JO → JH → Prop), Pd D p s a base src h0 h σ0 σ ρ0 ρ → JInv D h → StR h nr nm → ArR h ρ arr l → ArU h arr → jln h arr = 8 → (∀ x ∈ l, x < (psA σ).length) → 9 ≤ f + l.length → l.length ≤ 8 → N ≤ psO σ → 11 * (30 - psO σ) + 20 ≤ d →
    (∀ i σ', lsS rec src lo nm f l σ = .ok (i, σ') → Gd src σ') → (∀ σ x σ', rec σ = .ok (x, σ') → Gd src σ → x < (psA σ').length) →
    (∀ v h', JInv D h' → (∃ i σ' ρ', lsS rec src lo nm f l σ = .ok (i, σ') ∧ v = ρ' i ∧ Pd D p s a base src h0 h' σ0 σ' ρ0 ρ' ∧ lp σ + 1 ≤ lp σ') → Q (.inl (some (vR 55 v))) h') → (∀ y h', JInv D h' → XE p s src h0 σ0 (lsS rec src lo nm f l σ) y h' → Q (.inr y) h') → L_X17_call_37 D d Q f p nr arr (nI l.length) 0 h
  | 0, l, σ, ρ, h, d, Q, k, _, _, _, _, _, _, hf, hl, _, _, _, _, _, _ => by exfalso; omega
  | f + 1, l, σ, ρ, h, d, Q, k, hI, hn, ar, u, hln, hlt, hf, hl, hN, hd, hG, hR, hQ, hE => by
    by_cases e8 : l.length = 8
    · refine ⟨fun z => absurd (by rw [e8]; rfl) z, fun _ => ⟨k.1.1.2.1, useR0 (w_broken k.1 (by omega)) ?_⟩⟩
      rintro y h1 hI1 _ n1
      refine ⟨n1.1.1, hE y h1 hI1 ⟨tkF (psT σ) + 1, ?_, k.err n1⟩⟩
      unfold lsS pList
      rw [if_pos (by simpa using e8)]; rfl
    · have eq0 : lsS rec src lo nm (f + 1) l σ = (rec σ >>= fun q => pTake true src "," q.2 >>= fun r => if r.1 = true then lsS rec src lo nm f (l ++ [q.1]) r.2 else fnS src lo nm 0 (l ++ [q.1]) r.2) := by
        unfold lsS
        conv => lhs; unfold pList
        rw [if_neg (by simpa using e8)]
        cases rec σ with
        | error e => rfl
        | ok q =>
          show (pTake true src "," q.2 >>= _) >>= _ = (pTake true src "," q.2 >>= _)
          cases pTake true src "," q.2 with
          | error e => rfl
          | ok r =>
            obtain ⟨b, τ⟩ := r
            cases b <;> rfl
      refine ⟨fun _ => ⟨k.1.1.2.1, useR (hr σ ρ h d k.1 hN hd) ?_ ?_⟩, fun z => absurd ((nI_eq (b := 8) (by omega) (by omega)).mp z) e8⟩
      · rintro v1 h1 hI1 _ ⟨x, σ1, ρ1, e1, hv1, n1, l1⟩
        have kd1 : Pd D p s a base src h0 h1 σ0 σ1 ρ0 ρ1 := k.tr n1 (Int.le_refl _) (Int.le_refl _)
        obtain ⟨ar1, u1⟩ := n1.arr k.1 hI ar u hlt
        have hn1 := n1.2.1.2.2.2.2 _ _ hn
        have ln1 : jln h1 arr = 8 := by rw [(n1.2.1.arS hI k.1.1.1 k.1.s15.1 ar.1 u).ln, hln]
        refine ⟨ar.1, by rw [ln1]; exact jin_nI (by omega) (by omega), ?_⟩
        rintro h2 rfl
        rw [ixn_nI (by omega)]
        have kd2 := POk.sto (i := l.length) (v := v1) kd1 hI1 hI0 hs0 u1 ha
        have ar2 : ArR (war h1 arr l.length v1) ρ1 arr (l ++ [x]) := ar1.put hv1 (by rw [ln1]; omega)
        have u2 := u1.put (i := l.length) (v := v1)
        have hxl := hR σ x σ1 e1 k.1.2.2.2.2.2.1
        have hI2 : JInv D (war h1 arr l.length v1) := inv_sto hI1 u1 n1.1 hxl hv1
        have hn2 : StR (war h1 arr l.length v1) nr nm := by
          have z1 := hn1.2.1
          have z2 := hn1.2.2.2.2.1
          have u12 := u1.2.1
          exact hn1.of (same_war fun e => by rw [e] at z1; omega) (same_war fun e => by rw [e] at z2; omega)
        refine ⟨kd2.1.sg, ?_⟩
        rw [kd2.1.1.2.2.1]
        refine useI (w_takes kd2.1 "," (by decide +kernel) (by omega)) ?_ ?_
        · rintro v3 h3 hI3 _ ⟨b, σ3, e3, rfl, n3, q3, t3, f3⟩
          have l3 := n3.2.2.2.2.2
          have kd3 : Pd D p s a base src h0 h3 σ0 σ3 ρ0 ρ1 := Pd.tr kd2 n3 (by omega) (by omega)
          have lt2 : ∀ z ∈ l ++ [x], z < (psA σ1).length := fun z hz => by
            rcases List.mem_append.mp hz with e | e
            · exact Nat.lt_of_lt_of_le (hlt z e) n1.2.2.2.2.1.len
            · rw [List.mem_singleton.mp e]; exact hxl
          obtain ⟨ar3, u3⟩ := n3.arr kd2.1 hI2 ar2 u2 lt2
          have hn3 := n3.2.1.2.2.2.2 _ _ hn2
          have ln3 : jln h3 arr = 8 := by rw [(n3.2.1.arS hI2 kd2.1.1.1 kd2.1.s15.1 ar.1 u2).ln]; exact ln1
          have o1 : psO σ1 = psO σ := n1.2.2.2.2.1.1
          have o3 : psO σ3 = psO σ1 := n3.2.2.2.2.1.1
          have A3 : psA σ3 = psA σ1 := by unfold psA; rw [q3]
          cases b with
          | true =>
            refine ⟨fun _ => ?_, fun z => absurd z (by decide)⟩
            rw [nI_1]
            have := w_callL hr hI0 hs0 ha f (l ++ [x]) σ3 ρ1 h3 d Q kd3 hI3 hn3 ar3 u3 ln3 (by rw [A3]; exact lt2) (by simp; omega) (by simp; omega) (by omega) (by omega) (fun i σ' e => hG i σ' (by rw [eq0, e1, ok_bind, e3, ok_bind]; exact e)) hR ?_ ?_
            · rwa [List.length_append] at this
            · rintro v4 h4 hI4 ⟨i, σ4, ρ4, e4, hv4, n4, l4⟩
              exact hQ v4 h4 hI4 ⟨i, σ4, ρ4, by rw [eq0, e1, ok_bind, e3, ok_bind]; exact e4, hv4, n4, by omega⟩
            · rintro y4 h4 hI4 ⟨er, e4, n4⟩
              exact hE y4 h4 hI4 ⟨er, by rw [eq0, e1, ok_bind, e3, ok_bind]; exact e4, n4⟩
          | false =>
            refine ⟨fun z => absurd rfl z, fun _ => ?_⟩
            have := w_call70 (d := d) (lo := lo) false Q kd3 hI3 hI0 hs0 ha hn3 ar3 u3 (by rw [A3]; exact lt2) (by omega) (fun i σ' e => hG i σ' (by rw [eq0, e1, ok_bind, e3, ok_bind]; exact e)) ?_ ?_
            · rw [List.length_append] at this
              rw [nI_1]; exact this
            · rintro v4 h4 hI4 ⟨i, σ4, ρ4, e4, hv4, n4, l4⟩
              exact hQ v4 h4 hI4 ⟨i, σ4, ρ4, by rw [eq0, e1, ok_bind, e3, ok_bind]; exact e4, hv4, n4, by omega⟩
            · rintro y4 h4 hI4 ⟨er, e4, n4⟩
              exact hE y4 h4 hI4 ⟨er, by rw [eq0, e1, ok_bind, e3, ok_bind]; exact e4, n4⟩
        · rintro y3 h3 hI3 _ ⟨er, e3, n3⟩
          exact hE y3 h3 hI3 ⟨er, by rw [eq0, e1, ok_bind, e3]; rfl, Pd.err kd2 n3⟩
      · rintro y1 h1 hI1 _ ⟨er, e1, n1⟩
        exact hE y1 h1 hI1 ⟨er, by rw [eq0, e1]; rfl, k.err n1⟩
/-- what comes behind the bracket that opens a function -/
def clS (rec : PS → Except Nat (Nat × PS)) (src : Str) (lo : Nat) (nm : Str) (σ : PS) : Except Nat (Nat × PS) :=
  pTake true src "*" σ >>= fun q => if (q.1 || pIs q.2 ")") = true then fnS src lo nm (if q.1 = true then 1 else 0) [] q.2 else lsS rec src lo nm 9 [] q.2
theorem POk.nA8 {N : Nat} (k : POk D p s a base src h0 h σ0 σ ρ0 ρ n m) (hI : JInv D h) (hI0 : JInv D h0) (hs : s ≤ jsz h0) : POk D p s a base src h0 (nwa h 222 N) σ0 σ ρ0 ρ (n + 1) (m + N) := k.nA hI hI0 hs (by decide)
/-- the array of parts is charged to the sign that comes next: a function's bracket -/
theorem w_call {N lo nr : Nat} {nm : Str} {rec : PS → Except Nat (Nat × PS)} (hx : ∀ σ, Xz src (3 * (30 - psO σ)) σ (rec σ)) (hr : CXr D p s a base src rec N) (kd : Pd D p s a base src h0 h σ0 σ ρ0 ρ) (sl : Sp h0 h (40 * (lp σ - lp σ0) - 5) (1200 * (lp σ - lp σ0) - 100)) (hI0 : JInv D h0) (hs0 : s ≤ jsz h0) (hn : StR h nr nm) (hN : N ≤ psO σ) (hd : 11 * (30 - psO σ) + 21 ≤ d) (hG : ∀ i σ', clS rec src lo nm σ = .ok (i, σ') → Gd src σ') :
    cX17_call D d p nr h (pR D h 55 (fun v h' => ∃ i σ' ρ', clS rec src lo nm σ = .ok (i, σ') ∧ v = ρ' i ∧ Pd D p s a base src h0 h' σ0 σ' ρ0 ρ' ∧ lp σ + 1 ≤ lp σ') (XE p s src h0 σ0 (clS rec src lo nm σ))) := by
  obtain ⟨e, rfl, he⟩ := dsucc hd
  refine JW.inv fun hI => t_X17_call ?_
  rintro r1 h1 rfl rfl
  have kd1 : Pd D p s a base src h0 (nwa h 222 8) σ0 σ ρ0 ρ := by
    have ok := POk.nA8 (N := 8) kd hI hI0 hs0
    exact ⟨ok.1, ok.2.1, ok.2.2.1, (sl.tr (Sp.nA (by decide))).mono (by omega) (by omega), ok.2.2.2.2⟩
  have hI1 : JInv D (nwa h 222 8) := hI.nA (by decide)
  have u1 : ArU (nwa h 222 8) (jsz h + 1) := ArU.new hI
  have ar1 : ArR (nwa h 222 8) ρ (jsz h + 1) [] := ArR.new (by decide)
  have ln1 : jln (nwa h 222 8) (jsz h + 1) = 8 := by simp only [jkd_wfi, jln_wfi, jfi_wfi, jfl_wfi, jfr_wfi, jai_wfi, jal_wfi, jar_wfi, jsz_wfi, jus_wfi, jkd_wfl, jln_wfl, jfi_wfl, jfl_wfl, jfr_wfl, jai_wfl, jal_wfl, jar_wfl, jsz_wfl, jus_wfl, jkd_wfr, jln_wfr, jfi_wfr, jfl_wfr, jfr_wfr, jai_wfr, jal_wfr, jar_wfr, jsz_wfr, jus_wfr, jkd_wai, jln_wai, jfi_wai, jfl_wai, jfr_wai, jai_wai, jal_wai, jar_wai, jsz_wai, jus_wai, jkd_wal, jln_wal, jfi_wal, jfl_wal, jfr_wal, jai_wal, jal_wal, jar_wal, jsz_wal, jus_wal, jkd_war, jln_war, jfi_war, jfl_war, jfr_war, jai_war, jal_war, jar_war, jsz_war, jus_war, jkd_nwo, jln_nwo, jfi_nwo, jfl_nwo, jfr_nwo, jai_nwo, jal_nwo, jar_nwo, jsz_nwo, jus_nwo, jkd_nwa, jln_nwa, jfi_nwa, jfl_nwa, jfr_nwa, jai_nwa, jal_nwa, jar_nwa, jsz_nwa, jus_nwa, jkd_cpa, jln_cpa, jfi_cpa, jfl_cpa, jfr_cpa, jai_cpa, jal_cpa, jar_cpa, jsz_cpa, jus_cpa, if_true]
  have lt0 : jsz h0 ≤ jsz h := kd.2.1.2.2.2.1.1
  have hn1 : StR (nwa h 222 8) nr nm := hn.of (same_nwa (hn.lt hI).1) (same_nwa (hn.lt hI).2)
  refine ⟨kd1.1.1.2.1, kd1.1.sg, ?_⟩
  rw [kd1.1.1.2.2.1]
  refine useI (w_takes kd1.1 "*" (by decide +kernel) (by omega)) ?_ ?_
  · rintro v2 h2 hI2 _ ⟨b, σ2, e2, rfl, n2, q2, t2, f2⟩
    have l2 := n2.2.2.2.2.2
    have kd2 : Pd D p s a base src h0 h2 σ0 σ2 ρ0 ρ := Pd.tr kd1 n2 (by omega) (by omega)
    obtain ⟨ar2, u2⟩ := n2.arr kd1.1 hI1 ar1 u1 (fun x hx => by cases hx)
    have hn2 := n2.2.1.2.2.2.2 _ _ hn1
    have ln2 : jln h2 (jsz h + 1) = 8 := by rw [(n2.2.1.arS hI1 kd1.1.1.1 kd1.1.s15.1 ar1.1 u1).ln, ln1]
    have o2 : psO σ2 = psO σ := n2.2.2.2.2.1.1
    have fin : ∀ (x4 : Int32), x4 = (if b = true then 1 else 0) → (b || pIs σ2 ")") = true → W_X17_call_70 D e (pR D h 55 (fun v h' => ∃ i σ' ρ', clS rec src lo nm σ = .ok (i, σ') ∧ v = ρ' i ∧ Pd D p s a base src h0 h' σ0 σ' ρ0 ρ' ∧ lp σ + 1 ≤ lp σ') (XE p s src h0 σ0 (clS rec src lo nm σ))) p nr (jsz h + 1) 0 x4 h2 := by
      rintro x4 rfl hb
      have eq0 : clS rec src lo nm σ = fnS src lo nm (if b = true then 1 else 0) [] σ2 := by
        unfold clS
        rw [e2, ok_bind, if_pos hb]
      rw [eq0] at hG
      rw [eq0]
      refine w_call70 (d := e) (lo := lo) (l := []) b _ kd2 hI2 hI0 hs0 (by omega) hn2 ar2 u2 (fun x hx => by cases hx) (by omega) hG ?_ ?_
      · rintro v4 h4 hI4 ⟨i, σ4, ρ4, e4, hv4, n4, l4⟩
        exact endR fun _ _ _ => ⟨i, σ4, ρ4, e4, hv4, n4, by omega⟩
      · rintro y4 h4 hI4 x
        exact endX fun _ _ => x
    cases b with
    | true => exact ⟨fun _ => fin _ rfl rfl, fun z => absurd z (by decide)⟩
    | false =>
      refine ⟨fun z => absurd rfl z, fun _ => ⟨kd2.1.sg, ?_⟩⟩
      rw [kd2.1.1.2.2.1]
      refine useI0 (w_is kd2.1 ")" (by decide +kernel) (by omega)) ?_
      rintro v3 h3 _ _ ⟨rfl, rfl⟩
      by_cases ib : pIs σ2 ")" = true
      · rw [if_pos ib]
        exact ⟨fun _ => fin _ rfl (by rw [ib]; rfl), fun z => absurd z (by decide)⟩
      · rw [if_neg ib]
        refine ⟨fun z => absurd rfl z, fun _ => ⟨9, ?_⟩⟩
        have eq0 : clS rec src lo nm σ = lsS rec src lo nm 9 [] σ2 := by
          unfold clS
          rw [e2, ok_bind, if_neg (by simpa using ib)]
        rw [eq0] at hG
        rw [eq0]
        refine w_callL hr hI0 hs0 (arr := jsz h + 1) (by omega) 9 [] σ2 ρ h3 e _ kd2 hI2 hn2 ar2 u2 ln2 (fun x hx => by cases hx) (by decide) (by decide) (by omega) (by omega) hG (xr_lt hx) ?_ ?_
        · rintro v4 h4 hI4 ⟨i, σ4, ρ4, e4, hv4, n4, l4⟩
          exact endR fun _ _ _ => ⟨i, σ4, ρ4, e4, hv4, n4, by omega⟩
        · rintro y4 h4 hI4 x
          exact endX fun _ _ => x
  · rintro y2 h2 hI2 _ ⟨er, e2, n2⟩
    exact endX fun _ _ => ⟨er, by unfold clS; rw [e2]; rfl, kd1.err n2⟩
end
