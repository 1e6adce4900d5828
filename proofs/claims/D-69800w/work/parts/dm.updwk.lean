/-! the component: the rows of UPDATE are worked out -/
section
variable {D : JD} {h h' h'' h0 h1 h2 : JH} {ρ : Nat → Nat} {A : List Nod} {E : TEnv} {K K' : Nat → Bool} {q c t u B e sc b i j k v n d xn r : Nat} {M : Nat → Prop} {tb tb' : Tab} {T T' S : List Tab} {pv : List Val} {pt : List Nat} {ra rb : Int} {y : Stm} {x : Val} {f : Nat → Option (List Val)} {R : TRow} {ps xs : List Nat} {acc : List (List Val)} {vals row : List Val}
/-- the truths of an array -/
def BtR (h : JH) (b nb : Nat) (bits : Nat → Int32) : Prop := jkd h b = 71 ∧ jln h b = nb ∧ ∀ i, jai h b i = bits i
theorem BtR.ks {nb : Nat} {bits : Nat → Int32} (k : BtR h b nb bits) (a : KS K h h') (hI : JInv D h) (hK : K 71 = false) : BtR h' b nb bits := by
  have s : same h h' b := a.obj hI (by rw [k.1]; decide) (by rw [k.1]; decide) (by rw [k.1]; exact hK)
  exact ⟨s.kd.trans k.1, s.ln.trans k.2.1, fun i => (s.ai i).trans (k.2.2 i)⟩
theorem EnvR.ks (k : EnvR D h sc E R pv) (a : KS K h h') (hI : JInv D h) (kk : K 6 = false ∧ K 142 = false ∧ K 224 = false ∧ K 96 = false ∧ K 144 = false ∧ K 102 = false) (k11 : jkd h (jfr h 50 sc) = 137 ∨ jkd h (jfr h 50 sc) = 162) (hp : K 137 = false ∧ K 162 = false) : EnvR D h' sc E R pv := by
  obtain ⟨⟨k1, k2⟩, ⟨k3, k4, k5, k6⟩, ⟨k7, k8, k9, k10⟩⟩ := k
  have k142 : jkd h (jfr h 56 sc) = 142 := hI.ref (F := 56) (by decide +kernel) k3
  have s : same h h' sc := a.obj hI (by rw [k2]; decide) (by rw [k2]; decide) (by rw [k2]; exact kk.1)
  have s56 : same h h' (jfr h 56 sc) := a.obj hI (by rw [k142]; decide) (by rw [k142]; decide) (by rw [k142]; exact kk.2.1)
  have k50 : sbt (jkd h (jfr h 50 sc)) (ftg 50) = true := Or.resolve_left (hI.2.2.1 50 sc) k7
  have k5' := ftg50 _ (sbt_lt k50) k50
  have s5 : same h h' (jfr h 50 sc) := a.obj hI k5'.1 ⟨k5'.2.2.2.1, k5'.2.2.2.2.2⟩ (by rcases k11 with z | z <;> rw [z]; exact hp.1; exact hp.2)
  refine ⟨⟨k1, by rw [s.kd]; exact k2⟩, ⟨by rw [s.fr]; exact k3, by rw [s.fr, s56.ln]; exact k4, k5, fun j t ht => ?_⟩, ⟨by rw [s.fr]; exact k7, by rw [s.fr, s5.ln]; exact k8, by rw [s.fr, s5.ln]; exact k9, fun j v hv => ?_⟩⟩
  · rw [s.fr, s56.ar]
    have := k6 j t ht
    revert this
    cases (R[j]?).join with
    | none => exact fun z => z
    | some rw' =>
      rintro ⟨a1, a2, a3, a4, a5⟩
      have sr : same h h' (jar h (jfr h 56 sc) j) := a.obj hI (by rw [a2]; decide) (by rw [a2]; decide) (by rw [a2]; exact kk.2.2.1)
      refine ⟨a1, by rw [sr.kd]; exact a2, by rw [sr.ln]; exact a3, by rw [sr.ln]; exact a4, fun c hc => ?_⟩
      rw [sr.ar]
      obtain ⟨c1, c96⟩ := a5 c hc
      obtain ⟨t1, t2⟩ := a.cel0 hI c1.1 (by rw [c96]; exact kk.2.2.2.1) kk.2.2.2.2.1
      exact ⟨c1.of t1 t2, by rw [t1.kd]; exact c96⟩
  · rw [s.fr, s5.ar]
    obtain ⟨c1, c2⟩ := k10 j v hv
    obtain ⟨t1, t2⟩ := a.cel0 hI c1.1 (by rw [c2]; exact kk.2.2.2.2.2) kk.2.2.2.2.1
    exact ⟨c1.of t1 t2, by rw [t1.kd]; exact c2⟩
/-- the row is copied -/
theorem w_upd71 {Q : JO → JH → Prop} {K21 : Nat → Nat → Nat → Int32 → Nat → Int32 → JH → Prop} {x3 : Int32} {X : List Nat} {nb : Nat} {bits : Nat → Int32} (hA : NOK A) (hj : j < 100) (etb : T[k]? = some tb) (hrow : tb.2.2[j]? = some row) (hl : row.length = tb.2.1.length) (hd : 9 ≤ d)
    (hQ : ∀ h1, JInv D h1 → WkS D A ρ e sc T S pv ra rb h h1 → ScR D h1 e (upF f j row) → EnvR D h1 sc E [some row] pv → BtR h1 b nb bits → (∀ x ∈ X, x < A.length ∧ PlA A E h1 ρ x) → ∃ m, L_X37_work_103 D d Q K21 m v e (tba h (jfr h 20 e) k) x3 b (nI j) (jar h1 (jfr h1 31 e) j) 0 h1) :
    ∀ (m k' : Nat) (h1 : JH), k' + m = tb.2.1.length → JInv D h1 → WkS D A ρ e sc T S pv ra rb h h1 → ScR D h1 e (upF f j (row.take k')) → EnvR D h1 sc E [some row] pv → BtR h1 b nb bits → (∀ x ∈ X, x < A.length ∧ PlA A E h1 ρ x) → L_X37_work_71 D d Q K21 (m + 1) v e (tba h (jfr h 20 e) k) x3 b (nI j) (jar h1 (jfr h1 31 e) j) (jar h1 (jfr h1 45 (tba h (jfr h 20 e) k)) j) (nI k') h1
  | m, k', h1, hm, hI1, W, sr, er, bt, pl => by
    have w4 := W.2.2.2.1
    have w8 := W.2.2.2.2.2.2.2.1
    have tR : TabR D h1 (tba h (jfr h 20 e) k) tb := by
      rw [← w8 k]
      exact w4.2.1.2.2.2 k tb etb
    have w10 := tR.2.2.1.2.2.2.1
    refine ⟨tR.1.1.1, fun g => ?_, fun g => ?_⟩
    · rw [tR.2.2.2.1] at g
      have := (nI_leI (by omega) (by omega)).mp g
      rw [List.take_of_length_le (by omega)] at sr
      exact hQ h1 hI1 W sr er bt pl
    · rw [tR.2.2.2.1] at g
      have kk : k' < tb.2.1.length := Nat.lt_of_not_le fun z => g ((nI_leI (by omega) (by omega)).mpr z)
      obtain ⟨m', rfl⟩ : ∃ m', m = m' + 1 := ⟨m - 1, by omega⟩
      have ek := W.2.2.2.2.2.2.2.2.2
      have ow := w4.2.2.2.2.2
      obtain ⟨k1, k2, k3, k4⟩ := sr j _ upd_eq
      have ru := (ek.2.2.2.2 j hj).resolve_left k2
      have cu := (ru.2.2.2 k' (by omega)).1
      obtain ⟨r1, r2⟩ := tR.2.2.2.2.2 j row hrow
      have rt := (tR.1.2.2 j hj).resolve_left r1
      have ix : ixn (nI k') = k' := ixn_nI (by omega)
      have lk : (row.take k').length = k' := by rw [List.length_take]; omega
      rw [ix]
      refine ⟨k2, by rw [ru.2.2.1]; exact jin_nI (by omega) (by decide), r1, by rw [rt.2.2.1]; exact jin_nI (by omega) (by decide), cu.1, JW.up (n := 9) (fun dd => useR0 (k_cCopy (d := dd) cu (r2 k' kk) ow.tx) ?_) hd⟩
      rintro v9 h2 hI2 hle2 ⟨_, c1, c2⟩
      obtain ⟨W2, e31, ea, kf, sn⟩ := W.put hA hI1 hI2 hle2 hj (show k' < 10 by omega) k2 c2 c1
      have ks : KS wK h1 h2 := kf.ks hI1 ⟨rfl, rfl, rfl, rfl⟩
      have er2 := er.ks ks hI1 ⟨rfl, rfl, rfl, rfl, rfl, rfl⟩ W.2.2.2.2.1.2.2.2 ⟨rfl, rfl⟩
      have tk : row.take (k' + 1) = row.take k' ++ [row.getD k' vNull] := by
        rw [List.take_succ_eq_append_getElem (by omega), List.getD_eq_getElem?_getD, List.getElem?_eq_getElem (by omega)]
        rfl
      have sr2 := sn f (row.take (k' + 1)) sr.oth (by rw [List.length_take]; omega) (fun i2 hi2 hne => ?_) (fun hil => ?_)
      · obtain ⟨s1, s2, _⟩ := kf.tbs hI1 ktb_w.1 tR.1
        rw [nI_1]
        have IH := w_upd71 hA hj etb hrow hl hd hQ m' (k' + 1) h2 (by omega) hI2 W2 sr2 er2 (bt.ks ks hI1 rfl) (fun x hx => ⟨(pl x hx).1, (pl x hx).2.kf W.2.2.1 kf hI1 hA (pl x hx).1 wK_n⟩)
        rw [e31, ea, s1.fr, s2.ar] at IH
        exact IH
      · rw [List.length_take] at hi2
        have hi3 : i2 < (row.take k').length := by rw [lk]; omega
        have := k4 i2 hi3
        rw [tk, getD_snoc i2 hi3]
        exact this
      · rw [tk]
        have := getD_last (r := row.take k') (x := row.getD k' vNull)
        rw [lk] at this
        exact this
end
