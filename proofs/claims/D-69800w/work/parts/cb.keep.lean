/-! the component: rows that stay -/
section
variable {D : JD} {h h' h'' h0 h1 h2 : JH} {d ka kc nn RA k j q c t u r w : Nat} {tb : Tab}
theorem nz_iff (e : ∀ k, k < nn → (jar h' q k = 0 ↔ jar h q k = 0)) : nz h' q nn = nz h q nn := by
  unfold nz
  exact congrArg _ (List.filter_congr fun k hk => decide_eq_decide.mpr (e k (List.mem_range.mp hk)))
/-- the rows that have been gone through stand otherwise -/
def KpI (h : JH) (RA : Nat) (st : Nat → Bool) (k n : Nat) (h1 : JH) : Prop :=
  (∀ q, q ≠ RA → same h h1 q) ∧ (jkd h1 RA = jkd h RA ∧ jln h1 RA = jln h RA) ∧ (jsz h1 = jsz h ∧ Sp h h1 0 0) ∧ (∀ F q, jfr h1 F q = jfr h F q) ∧ n = ((List.range k).filter st).length ∧
  ∃ p : Nat → Nat, (∀ i, jar h1 RA i = jar h RA (p i)) ∧ (∀ i j, p i = p j → i = j) ∧ (∀ i, k ≤ i → p i = i) ∧ (∀ i, i < k → p i < k) ∧ ∀ (i x : Nat), ((List.range k).filter st)[i]? = some x → p i = x
theorem KpI.skip {st : Nat → Bool} {n : Nat} (K : KpI h RA st k n h1) (hs : st k = false) : KpI h RA st (k + 1) n h1 := by
  obtain ⟨a1, a2, a3, a4, a5, p, b1, b2, b3, b4, b5⟩ := K
  have e : (List.range (k + 1)).filter st = (List.range k).filter st := by rw [List.range_succ, List.filter_append, List.filter_cons, if_neg (by rw [hs]; decide)]; simp
  refine ⟨a1, a2, a3, a4, by rw [e]; exact a5, p, b1, b2, fun i hi => b3 i (by omega), fun i hi => ?_, by rw [e]; exact b5⟩
  by_cases z : i < k
  · have := b4 i z; omega
  · have := b3 i (by omega); omega
theorem KpI.swap {st : Nat → Bool} {n : Nat} (K : KpI h RA st k n h1) (hs : st k = true) : KpI h RA st (k + 1) (n + 1) (war (war h1 RA k (jar h1 RA n)) RA n (jar h1 RA k)) := by
  obtain ⟨a1, ⟨a2, a2'⟩, ⟨a3, a3'⟩, a4, a5, p, b1, b2, b3, b4, b5⟩ := K
  have e : (List.range (k + 1)).filter st = (List.range k).filter st ++ [k] := by rw [List.range_succ, List.filter_append, List.filter_cons, if_pos hs]; rfl
  have nk : n ≤ k := by
    have := List.length_filter_le st (List.range k)
    rw [List.length_range] at this
    omega
  refine ⟨fun q hq => (a1 q hq).tr ((same_war hq).tr (same_war hq)), ⟨a2, a2'⟩, ⟨a3, (a3'.tr ((Sp.ar (r := RA) (i := k) (v := jar h1 RA n)).tr (Sp.ar (r := RA) (i := n) (v := jar h1 RA k)))).mono (by omega) (by omega)⟩, a4, by rw [e, List.length_append, ← a5]; rfl, fun i => if i = n then k else if i = k then p n else p i, fun i => ?_, fun i j hij => ?_, fun i hi => ?_, fun i hi => ?_, fun i x hx => ?_⟩
  · show _ = jar h RA (if i = n then k else if i = k then p n else p i)
    rw [jar_war]
    by_cases c1 : i = n
    · rw [if_pos ⟨rfl, c1⟩, if_pos c1, b1, b3 k (by omega)]
    · rw [if_neg (fun z => c1 z.2), if_neg c1, jar_war]
      by_cases c2 : i = k
      · rw [if_pos ⟨rfl, c2⟩, if_pos c2, b1]
      · rw [if_neg (fun z => c2 z.2), if_neg c2, b1]
  · have pk : p k = k := b3 k (by omega)
    have inj : ∀ {a b : Nat}, p a = p b → a = b := fun {a b} => b2 a b
    dsimp only at hij
    by_cases c1 : i = n
    · by_cases d1 : j = n
      · omega
      · rw [if_pos c1, if_neg d1] at hij
        by_cases d2 : j = k
        · rw [if_pos d2] at hij
          have := inj (pk.trans hij)
          omega
        · rw [if_neg d2] at hij
          have := inj (pk.trans hij)
          omega
    · by_cases d1 : j = n
      · rw [if_neg c1, if_pos d1] at hij
        by_cases c2 : i = k
        · rw [if_pos c2] at hij
          have := inj (hij.trans pk.symm)
          omega
        · rw [if_neg c2] at hij
          have := inj (hij.trans pk.symm)
          omega
      · rw [if_neg c1, if_neg d1] at hij
        by_cases c2 : i = k
        · by_cases d2 : j = k
          · omega
          · rw [if_pos c2, if_neg d2] at hij
            have := inj hij
            omega
        · by_cases d2 : j = k
          · rw [if_neg c2, if_pos d2] at hij
            have := inj hij
            omega
          · rw [if_neg c2, if_neg d2] at hij
            exact inj hij
  · show (if i = n then k else if i = k then p n else p i) = i
    rw [if_neg (by omega), if_neg (by omega)]
    exact b3 i (by omega)
  · show (if i = n then k else if i = k then p n else p i) < k + 1
    have pn : p n < k + 1 := by
      by_cases z : n < k
      · have := b4 n z; omega
      · have := b3 n (by omega); omega
    by_cases c1 : i = n
    · rw [if_pos c1]; omega
    · rw [if_neg c1]
      by_cases c2 : i = k
      · rw [if_pos c2]; exact pn
      · rw [if_neg c2]
        have := b4 i (by omega); omega
  · show (if i = n then k else if i = k then p n else p i) = x
    rw [e, List.getElem?_append] at hx
    by_cases c1 : i < ((List.range k).filter st).length
    · rw [if_pos c1] at hx
      rw [if_neg (by omega), if_neg (by omega)]
      exact b5 i x hx
    · rw [if_neg c1] at hx
      have : i - ((List.range k).filter st).length = 0 := by
        have := (List.getElem?_eq_some_iff.mp hx).1
        simp at this
        omega
      rw [this] at hx
      cases hx
      rw [if_pos (by omega)]
/-- which rows stay -/
def stB (h : JH) (b : Nat) (k : Nat) : Bool := decide (jai h b k ≠ 0)
theorem w_keepL {b : Nat} {Q : JO → JH → Prop} (hI : JInv D h) (kt : TabR D h t tb) (b0 : b ≠ 0) (bk : jkd h b = 71) (bl : tb.2.2.length ≤ jln h b ∧ jln h b ≤ 100) (hQ : ∀ n h1, KpI h (jfr h 45 t) (stB h b) tb.2.2.length n h1 → Q (.inl none) (wfi h1 46 t (nI n))) :
    ∀ (m k n : Nat) (h1 : JH), k + m = tb.2.2.length → KpI h (jfr h 45 t) (stB h b) k n h1 → L_X5_keep_4 D d Q (m + 1) t b (nI n) (nI k) h1
  | m, k, n, h1, hkm, K => by
    have l100 := kt.2.2.2.2.1.2
    have k140 : jkd h (jfr h 45 t) = 140 := hI.ref (F := 45) (by decide +kernel) kt.1.2.1.1
    have s0 : same h h1 t := K.1 t fun e => by have := kt.1.1.2; rw [e] at this; omega
    have sb : same h h1 b := K.1 b fun e => by rw [e] at bk; omega
    have nk : n ≤ k := by
      have := List.length_filter_le (stB h b) (List.range k)
      rw [List.length_range, ← K.2.2.2.2.1] at this
      exact this
    refine ⟨kt.1.1.1, fun y => ?_, fun y => ⟨b0, ?_⟩⟩
    · rw [s0.fi, kt.2.2.2.2.1.1] at y
      have y := (nI_leI (by omega) (by omega)).mp y
      have : k = tb.2.2.length := by omega
      subst this
      rintro h2 rfl
      exact hQ n h1 K
    · rw [s0.fi, kt.2.2.2.2.1.1] at y
      have kl : k < tb.2.2.length := Nat.lt_of_not_le fun z => y ((nI_leI (by omega) (by omega)).mpr z)
      obtain ⟨m', rfl⟩ : ∃ m', m = m' + 1 := ⟨m - 1, by omega⟩
      have ixk : ixn (nI k) = k := ixn_nI (by omega)
      have ixn' : ixn (nI n) = n := ixn_nI (by omega)
      rw [sb.ln, ixk, sb.ai]
      refine ⟨jin_nI (by omega) (by omega), fun g => ?_, fun g => ?_⟩
      · have e5 : jfr h1 45 t = jfr h 45 t := K.2.2.2.1 45 t
        have jk : jin (nI k) (jln h1 (jfr h1 45 t)) := by rw [e5, K.2.1.2, kt.1.2.1.2]; exact jin_nI (by omega) (by decide)
        have jn : jin (nI n) (jln h1 (jfr h1 45 t)) := by rw [e5, K.2.1.2, kt.1.2.1.2]; exact jin_nI (by omega) (by decide)
        refine ⟨by rw [e5]; exact kt.1.2.1.1, jk, jn, jk, ?_⟩
        rintro h2 rfl
        refine ⟨by show jfr h1 45 t ≠ 0; rw [e5]; exact kt.1.2.1.1, jn, ?_⟩
        rintro h3 rfl
        rw [ixn']
        unfold W_X5_keep_52
        rw [nI_1, nI_1]
        have K2 := K.swap (show stB h b k = true by unfold stB; exact decide_eq_true g)
        have K3 := w_keepL hI kt b0 bk bl hQ m' (k + 1) (n + 1) _ (by omega) K2
        rw [← e5] at K3
        exact K3
      · have K2 := K.skip (show stB h b k = false by unfold stB; exact decide_eq_false (by simpa using g))
        unfold W_X5_keep_52
        rw [nI_1]
        exact w_keepL hI kt b0 bk bl hQ m' (k + 1) n h1 (by omega) K2
/-- the rows that stay, in their order -/
def stR (st : Nat → Bool) (rows : List (List Val)) : List (List Val) := ((List.range rows.length).filter st).filterMap fun k => rows[k]?
theorem stR_get {st : Nat → Bool} {rows : List (List Val)} {i : Nat} {r : List Val} (h : (stR st rows)[i]? = some r) : ∃ x, ((List.range rows.length).filter st)[i]? = some x ∧ rows[x]? = some r ∧ x < rows.length := by
  unfold stR at h
  have key : ∀ (l : List Nat) (i : Nat), (∀ x ∈ l, x < rows.length) → (l.filterMap fun k => rows[k]?)[i]? = some r → ∃ x, l[i]? = some x ∧ rows[x]? = some r ∧ x < rows.length := by
    intro l
    induction l with
    | nil => intro i _ h; simp at h
    | cons a l ih =>
      intro i hl h
      have al := hl a List.mem_cons_self
      rw [List.filterMap_cons, List.getElem?_eq_getElem al] at h
      cases i with
      | zero =>
        refine ⟨a, rfl, ?_, al⟩
        rw [List.getElem?_eq_getElem al]
        exact h
      | succ i => exact ih i (fun x hx => hl x (List.mem_cons_of_mem _ hx)) h
  exact key _ i (fun x hx => List.mem_range.mp (List.mem_filter.mp hx).1) h
theorem stR_len {st : Nat → Bool} {rows : List (List Val)} : (stR st rows).length = ((List.range rows.length).filter st).length := by
  unfold stR
  have key : ∀ (l : List Nat), (∀ x ∈ l, x < rows.length) → (l.filterMap fun k => rows[k]?).length = l.length := by
    intro l
    induction l with
    | nil => intro _; rfl
    | cons a l ih =>
      intro hl
      rw [List.filterMap_cons, List.getElem?_eq_getElem (hl a List.mem_cons_self), List.length_cons]
      show _ + 1 = _
      rw [ih fun x hx => hl x (List.mem_cons_of_mem _ hx), List.length_cons]
  exact key _ fun x hx => List.mem_range.mp (List.mem_filter.mp hx).1
theorem w_keep {b : Nat} (kt : TabR D h t tb) (ot : OT h) (b0 : b ≠ 0) (bk : jkd h b = 71) (bl : tb.2.2.length ≤ jln h b ∧ jln h b ≤ 100) (hd : 1 ≤ d) : cX5_keep D d t b h (pV D h (fun h' => TF D t h h' ∧ TabR D h' t (tb.1, tb.2.1, stR (stB h b) tb.2.2)) no) := by
  obtain ⟨e, rfl, he⟩ := dsucc hd
  have l100 := kt.2.2.2.2.1.2
  refine JW.inv fun hI => t_X5_keep ⟨tb.2.2.length + 1, w_keepL hI kt b0 bk bl ?_ _ 0 0 h (by omega) ⟨fun _ _ => same.rf _ _, ⟨rfl, rfl⟩, ⟨rfl, Sp.rf _⟩, fun _ _ => rfl, rfl, fun i => i, fun _ => rfl, fun _ _ z => z, fun _ _ => rfl, fun i hi => absurd hi (Nat.not_lt_zero _), fun i x hx => by simp at hx⟩⟩
  rintro n h1 ⟨a1, ⟨a2, a2'⟩, ⟨a3, a3'⟩, a4, a5, p, b1, b2, b3, b4, b5⟩
  have k140 : jkd h (jfr h 45 t) = 140 := hI.ref (F := 45) (by decide +kernel) kt.1.2.1.1
  have kd : ∀ q, jkd h1 q = jkd h q := fun q => by
    by_cases e : q = jfr h 45 t
    · rw [e]; exact a2
    · exact (a1 q e).kd
  have nk : ∀ q, jkd h q ≠ 140 → same h h1 q := fun q q2 => a1 q fun z => q2 (by rw [z]; exact k140)
  have rn : ∀ i, i < tb.2.2.length → jar h (jfr h 45 t) i ≠ 0 := fun i hi => (kt.2.2.2.2.2 i _ (List.getElem?_eq_getElem hi)).1
  have zi : ∀ i, i < 100 → (jar h1 (jfr h 45 t) i = 0 ↔ jar h (jfr h 45 t) i = 0) := fun i _ => by
    rw [b1]
    by_cases z : i < tb.2.2.length
    · exact ⟨fun y => absurd y (rn _ (b4 i z)), fun y => absurd y (rn i z)⟩
    · rw [b3 i (by omega)]
  have p100 : ∀ i, i < 100 → p i < 100 := fun i hi => by
    by_cases z : i < tb.2.2.length
    · have := b4 i z; omega
    · rw [b3 i (by omega)]; exact hi
  have tf1 : TF D t h h1 := by
    refine ⟨⟨fun q _ _ q3 _ => nk q fun z => ?_, by omega, fun q _ => kd q, fun o F a b hF => by rw [a4, a4]; exact o F a b hF⟩, fun u hu uw => ?_, a4 45 t, fun o => ⟨fun a b i j ha hb e hn => ?_, fun a b => by rw [a4, a4]; exact o.2 a b⟩, fun tw => ?_, ?_⟩
    · rw [z] at q3; cases q3
    · refine ⟨nk u (by rw [uw.1.2]; decide), a1 _ fun z => ?_, fun k' hk' hr' => ?_⟩
      · exact hu (ot.2 u t z uw.2.1.1)
      · have ru := (uw.2.2 k' hk').resolve_left hr'
        refine ⟨nk _ (by rw [ru.2.1]; decide), fun j' hj' => ?_⟩
        have cu := ru.2.2.2 j' hj'
        exact ⟨nk _ (by rw [cu.2]; decide), fun z => nk _ (by rw [(cu.1.2.2.2.2.resolve_left z).1]; decide)⟩
    · rw [kd] at ha hb
      by_cases za : a = jfr h 45 t
      · by_cases zb : b = jfr h 45 t
        · rw [za, zb, b1, b1] at e
          rw [za, b1] at hn
          have := o.1 _ _ _ _ (by rw [k140]; rfl) (by rw [k140]; rfl) e hn
          exact ⟨za.trans zb.symm, b2 i j this.2⟩
        · rw [za, b1, (a1 b zb).ar] at e
          rw [za, b1] at hn
          have := o.1 _ _ _ _ (by rw [k140]; rfl) hb e hn
          exact absurd this.1.symm zb
      · by_cases zb : b = jfr h 45 t
        · rw [zb, b1, (a1 a za).ar] at e
          rw [(a1 a za).ar] at hn
          have := o.1 _ _ _ _ ha (by rw [k140]; rfl) e hn
          exact absurd this.1 za
        · rw [(a1 a za).ar, (a1 b zb).ar] at e
          rw [(a1 a za).ar] at hn
          exact o.1 _ _ _ _ ha hb e hn
    · refine ⟨⟨tw.1.1, by rw [kd]; exact tw.1.2⟩, by rw [a4, a2']; exact tw.2.1, fun k' hk' => ?_⟩
      rw [a4, b1]
      rcases tw.2.2 (p k') (p100 k' hk') with z | ru
      · exact Or.inl z
      · refine Or.inr (ru.of (nk _ (by rw [ru.2.1]; decide)) fun j' hj' => ?_)
        have cu := ru.2.2.2 j' hj'
        exact ⟨nk _ (by rw [cu.2]; decide), fun z => nk _ (by rw [(cu.1.2.2.2.2.resolve_left z).1]; decide)⟩
    · rw [nz_iff zi]
      exact a3'.mono (by omega) (by omega)
  have s0 : same h h1 t := nk t (by rw [kt.1.1.2]; decide)
  have tf2 : TF D t h1 (wfi h1 46 t (nI n)) := TF.own (fun u z => by rw [a4] at z ⊢; rw [kd]; exact hI.k140 u z) (by rw [kd]; exact kt.1.1.2) (fun q hq => same_wfi hq) rfl (fun _ _ _ => rfl) (fun _ _ => rfl) rfl Sp.fi
  have tf := tf1.tr tf2
  have nk2 : ∀ q, jkd h q ≠ 140 → jkd h q ≠ 5 → same h (wfi h1 46 t (nI n)) q := fun q q1 q2 => (nk q q1).tr (same_wfi fun z => q2 (by rw [z]; exact kt.1.1.2))
  have nl : n ≤ 100 := by
    have := List.length_filter_le (stB h b) (List.range tb.2.2.length)
    rw [List.length_range, ← a5] at this
    omega
  refine endV fun hI3 _ => ⟨tf, tf.2.2.2.2.1 kt.1, ?_, ?_, ?_, ⟨?_, ?_⟩, fun i r hr => ?_⟩
  · show StR _ (jfr h1 42 t) tb.1
    rw [a4]
    exact tf.1.str hI kt.2.1 ⟨rfl, rfl, rfl, rfl⟩
  · show ColsR D _ (jfr h1 43 t) tb.2.1
    rw [a4]
    exact kt.2.2.1.kf tf.1 hI ⟨rfl, rfl⟩ ⟨rfl, rfl, rfl, rfl⟩
  · rw [jfi_wfi, if_neg (by omega), s0.fi]
    exact kt.2.2.2.1
  · rw [jfi_wfi, if_pos ⟨rfl, rfl⟩]
    show nI n = nI (stR (stB h b) tb.2.2).length
    rw [stR_len, ← a5]
  · show (stR (stB h b) tb.2.2).length ≤ 100
    rw [stR_len, ← a5]
    exact nl
  · obtain ⟨x, x1, x2, x3⟩ := stR_get hr
    obtain ⟨y1, y2⟩ := kt.2.2.2.2.2 x r x2
    have px := b5 i x x1
    have er : jar (wfi h1 46 t (nI n)) (jfr (wfi h1 46 t (nI n)) 45 t) i = jar h (jfr h 45 t) x := by
      show jar h1 (jfr h1 45 t) i = _
      rw [a4, b1, px]
    refine ⟨by rw [er]; exact y1, fun c hc => ?_⟩
    have ru := (kt.1.2.2 x (by omega)).resolve_left y1
    have w10 := kt.2.2.1.2.2.2.1
    have hc : c < tb.2.1.length := hc
    have cu := ru.2.2.2 c (by omega)
    have et : tce (wfi h1 46 t (nI n)) t i c = tce h t x c := by
      unfold tce
      rw [er, (nk2 _ (by rw [ru.2.1]; decide) (by rw [ru.2.1]; decide)).ar]
    rw [et]
    exact (y2 c hc).of (nk2 _ (by rw [show jkd h (tce h t x c) = 96 from cu.2]; decide) (by rw [show jkd h (tce h t x c) = 96 from cu.2]; decide)) fun z => nk2 _ (by rw [((y2 c hc).1.2.2.2.2.resolve_left z).1]; decide) (by rw [((y2 c hc).1.2.2.2.2.resolve_left z).1]; decide)
end
