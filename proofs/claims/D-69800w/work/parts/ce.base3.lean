/-! the component: a table is dropped -/
section
variable {D : JD} {h h' h'' h0 h1 h2 : JH} {d ka kc nn RA k j q c t u r w B B' s n : Nat} {tb : Tab} {T T' : List Tab} {nm : Str}
/-- where each table comes from when the table k of n is dropped -/
def dpP (k n j : Nat) : Nat := if k ≤ j ∧ j + 1 < n then j + 1 else if j + 1 = n then k else j
theorem dpP_inj {a b : Nat} (hk : k < n) (e : dpP k n a = dpP k n b) : a = b := by
  unfold dpP at e
  split at e <;> split at e <;> (try split at e) <;> (try split at e) <;> omega
theorem dpP_lt (hk : k < n) (hn : n ≤ 4) (hj : j < 4) : dpP k n j < 4 := by
  unfold dpP
  split
  · omega
  · split <;> omega
theorem dp_sum (f : Nat → Nat) (hk : k < n) (hn : n ≤ 4) : f (dpP k n 0) + f (dpP k n 1) + f (dpP k n 2) + f (dpP k n 3) = f 0 + f 1 + f 2 + f 3 := by
  unfold dpP
  rcases (show n = 1 ∨ n = 2 ∨ n = 3 ∨ n = 4 by omega) with e | e | e | e
  · have : k = 0 := by omega
    subst e this
    simp
  · rcases (show k = 0 ∨ k = 1 by omega) with z | z <;> subst e z <;> simp <;> omega
  · rcases (show k = 0 ∨ k = 1 ∨ k = 2 by omega) with z | z | z <;> subst e z <;> simp <;> omega
  · rcases (show k = 0 ∨ k = 1 ∨ k = 2 ∨ k = 3 by omega) with z | z | z | z <;> subst e z <;> simp <;> omega
/-- the tables of the base stand otherwise -/
theorem BF.perm (hI : JInv D h) (kb : BasW D h B) (ot : OT h) (hk : k < n) (hn : n ≤ 4) (s : ∀ q, q ≠ B → q ≠ jfr h 40 B → same h h' q) (ef : ∀ F q, jfr h' F q = jfr h F q) (ek : ∀ q, jkd h' q = jkd h q) (el : jln h' (jfr h 40 B) = jln h (jfr h 40 B)) (ez : jsz h' = jsz h) (sp : Sp h h' 0 0) (ea : ∀ j, jar h' (jfr h 40 B) j = jar h (jfr h 40 B) (dpP k n j)) (eb : ∀ i, jar h' B i = jar h B i) : BF D B h h' ∧ (∀ u, TabW D h u → TbS h h' u) ∧ ∀ j, tba h' B j = tba h B (dpP k n j) := by
  have kB := kb.1.2
  have a39 : jkd h (jfr h 40 B) = 139 := hI.ref (F := 40) (by decide +kernel) kb.2.1.1
  have nB : B ≠ jfr h 40 B := fun e => by rw [← e] at a39; omega
  have et : ∀ j, tba h' B j = tba h B (dpP k n j) := fun j => by unfold tba; rw [ef, ea]
  have nk : ∀ q, jkd h q ≠ 114 → jkd h q ≠ 115 → jkd h q ≠ 139 → same h h' q := fun q q1 q2 q3 => s q (fun z => by rw [z] at q1 q2; omega) (fun z => by rw [z] at q3; exact q3 a39)
  have tw : ∀ u, TabW D h u → TbS h h' u := fun u uw => by
    have k140 := hI.k140 u uw.2.1.1
    refine ⟨nk u (by rw [uw.1.2]; decide) (by rw [uw.1.2]; decide) (by rw [uw.1.2]; decide), nk _ (by rw [k140]; decide) (by rw [k140]; decide) (by rw [k140]; decide), fun k' hk' hr' => ?_⟩
    have ru := (uw.2.2 k' hk').resolve_left hr'
    refine ⟨nk _ (by rw [ru.2.1]; decide) (by rw [ru.2.1]; decide) (by rw [ru.2.1]; decide), fun j' hj' => ?_⟩
    have cu := ru.2.2.2 j' hj'
    exact ⟨nk _ (by rw [cu.2]; decide) (by rw [cu.2]; decide) (by rw [cu.2]; decide), fun z => by
      have := (cu.1.2.2.2.2.resolve_left z).1
      exact nk _ (by rw [this]; decide) (by rw [this]; decide) (by rw [this]; decide)⟩
  have ar : ∀ a i, okd (jkd h a) = true → a ≠ jfr h 40 B → jar h' a i = jar h a i := fun a i ha hn => (s a (fun z => by rw [z] at ha; have := okd_cases ha; omega) hn).ar i
  have eo : OT h' := by
    refine ⟨fun a b i j ha hb e hn => ?_, fun a b => by rw [ef, ef]; exact ot.2 a b⟩
    rw [ek] at ha hb
    by_cases za : a = jfr h 40 B
    · by_cases zb : b = jfr h 40 B
      · rw [za, zb, ea, ea] at e
        rw [za, ea] at hn
        have := ot.1 _ _ _ _ (by rw [a39]; rfl) (by rw [a39]; rfl) e hn
        exact ⟨za.trans zb.symm, dpP_inj hk this.2⟩
      · rw [za, ea, ar b j hb zb] at e
        rw [za, ea] at hn
        exact absurd (ot.1 _ _ _ _ (by rw [a39]; rfl) hb e hn).1.symm zb
    · by_cases zb : b = jfr h 40 B
      · rw [zb, ea, ar a i ha za] at e
        rw [ar a i ha za] at hn
        exact absurd (ot.1 _ _ _ _ ha (by rw [a39]; rfl) e hn).1 za
      · rw [ar a i ha za, ar b j hb zb] at e
        rw [ar a i ha za] at hn
        exact ot.1 _ _ _ _ ha hb e hn
  have en : nb h' B = nb h B := by
    have e1 : ∀ j, j < 4 → nbk h' B j = nbk h B (dpP k n j) := fun j hj => by
      unfold nbk
      rw [et, ef]
      have o := tw _ (kb.2.2 (dpP k n j) (dpP_lt hk hn hj))
      exact nz_same fun i _ => o.2.1.ar i
    unfold nb
    rw [e1 0 (by omega), e1 1 (by omega), e1 2 (by omega), e1 3 (by omega)]
    exact dp_sum (nbk h B) hk hn
  refine ⟨⟨⟨fun q _ _ q3 _ => ?_, by omega, fun q _ => ek q, fun o F a b hF => by rw [ef, ef]; exact o F a b hF⟩, fun u _ uw => tw u uw, fun _ => eo, ⟨ef 40 B, ⟨⟨kb.1.1, by rw [ek]; exact kb.1.2⟩, by rw [ef, el]; exact kb.2.1, fun j hj => ?_⟩⟩, fun B' hB bw na => ⟨s B' hB fun z => ?_, s _ (fun z => ?_) na⟩, fun j hj => ⟨_, dpP_lt hk hn hj, et j⟩, ?_⟩, tw, et⟩
  · refine nk q (fun z => ?_) (fun z => ?_) fun z => ?_
    · rw [z] at q3; cases q3
    · rw [z] at q3; cases q3
    · rw [z] at q3; cases q3
  · rw [et]
    have := kb.2.2 _ (dpP_lt hk hn hj)
    exact this.of (tw _ this)
  · have := bw.1.2
    rw [z] at this; omega
  · have a39' : jkd h (jfr h 40 B') = 139 := hI.ref (F := 40) (by decide +kernel) bw.2.1.1
    rw [z] at a39'; omega
  · rw [en]
    exact sp.mono (by omega) (by omega)
/-- the tables behind k up to i have moved -/
def DpI (h : JH) (B k i : Nat) (h1 : JH) : Prop := (∀ q, q ≠ jfr h 40 B → same h h1 q) ∧ (∀ F q, jfr h1 F q = jfr h F q) ∧ (∀ q, jkd h1 q = jkd h q ∧ jln h1 q = jln h q) ∧ jsz h1 = jsz h ∧ Sp h h1 0 0 ∧ ∀ j, jar h1 (jfr h 40 B) j = if k ≤ j ∧ j < i then jar h (jfr h 40 B) (j + 1) else jar h (jfr h 40 B) j
theorem w_dropL {Q : JO → JH → Prop} (hI : JInv D h) (kb : BasR D h B T) (hk : k < T.length) (hQ : ∀ h1, DpI h B k (T.length - 1) h1 → Q (.inl none) (war (wfi h1 41 B (nI (T.length - 1))) (jfr h 40 B) (T.length - 1) (tba h B k))) :
    ∀ (m i : Nat) (h1 : JH), i + m + 1 = T.length → k ≤ i → DpI h B k i h1 → L_X4_drop_18 D d Q (m + 1) B (tba h B k) (nI i) h1
  | m, i, h1, him, ki, K => by
    have l4 := kb.2.1.2
    have a39 : jkd h (jfr h 40 B) = 139 := hI.ref (F := 40) (by decide +kernel) kb.1.2.1.1
    have kB := kb.1.1.2
    have sB : same h h1 B := K.1 B fun e => by rw [← e] at a39; omega
    have e4 : jfr h1 40 B = jfr h 40 B := K.2.1 40 B
    have ln : jln h1 (jfr h 40 B) = 4 := by rw [(K.2.2.1 _).2]; exact kb.1.2.1.2
    refine ⟨kb.1.1.1, fun y => ?_, fun y => ?_⟩
    · rw [sB.fi, kb.2.1.1, nI_1] at y
      have y := (nI_leI (by omega) (by omega)).mp y
      have ei : i = T.length - 1 := by omega
      rintro h2 rfl
      have ec : jfi h1 41 B - 1 = nI (T.length - 1) := by
        rw [sB.fi, kb.2.1.1, show T.length = (T.length - 1) + 1 by omega]
        exact nI_pred _
      rw [ec]
      have ef : jfi (wfi h1 41 B (nI (T.length - 1))) 41 B = nI (T.length - 1) := by rw [jfi_wfi, if_pos ⟨rfl, rfl⟩]
      rw [ef]
      refine ⟨by show jfr h1 40 B ≠ 0; rw [e4]; exact kb.1.2.1.1, ?_, ?_⟩
      · show jin _ (jln h1 (jfr h1 40 B))
        rw [e4, ln]
        exact jin_nI (by omega) (by decide)
      · rintro h3 rfl
        show Q _ (war _ (jfr h1 40 B) _ _)
        rw [e4, ixn_nI (by omega)]
        rw [ei] at K
        exact hQ h1 K
    · rw [sB.fi, kb.2.1.1, nI_1] at y
      have il : i + 1 < T.length := Nat.lt_of_not_le fun z => y ((nI_leI (by omega) (by omega)).mpr z)
      obtain ⟨m', rfl⟩ : ∃ m', m = m' + 1 := ⟨m - 1, by omega⟩
      rw [e4, ln, nI_1, ixn_nI (by omega), ixn_nI (by omega)]
      refine ⟨kb.1.2.1.1, jin_nI (by omega) (by decide), jin_nI (by omega) (by decide), ?_⟩
      rintro h2 rfl
      refine w_dropL hI kb hk hQ m' (i + 1) _ (by omega) (by omega) ?_
      obtain ⟨b1, b2, b3, b4, b5, b6⟩ := K
      refine ⟨fun q hq => (b1 q hq).tr (same_war hq), b2, b3, b4, (b5.tr Sp.ar).mono (by omega) (by omega), fun j => ?_⟩
      rw [jar_war]
      by_cases z : j = i
      · rw [if_pos ⟨rfl, z⟩, if_pos (by omega), z, b6, if_neg (by omega)]
      · rw [if_neg (fun y => z y.2), b6]
        by_cases y : k ≤ j ∧ j < i
        · rw [if_pos y, if_pos (by omega)]
        · rw [if_neg y, if_neg (by omega)]
theorem w_bdrop (kb : BasR D h B T) (ot : OT h) (hk : k < T.length) (hd : 1 ≤ d) : cX4_drop D d B (tba h B k) h (pV D h (fun h' => BF D B h h' ∧ BasR D h' B (T.eraseIdx k)) no) := by
  obtain ⟨e, rfl, he⟩ := dsucc hd
  have l4 := kb.2.1.2
  refine JW.inv fun hI => t_X4_drop ⟨k + 1, ?_⟩
  have a39 : jkd h (jfr h 40 B) = 139 := hI.ref (F := 40) (by decide +kernel) kb.1.2.1.1
  have kB := kb.1.1.2
  have go : ∀ (m i : Nat), i + m = k → L_X4_drop_2 D e (pV D h (fun h' => BF D B h h' ∧ BasR D h' B (T.eraseIdx k)) no) (m + 1) B (tba h B k) (nI i) h := by
    intro m
    induction m with
    | zero =>
      intro i hi
      have ei : i = k := by omega
      subst ei
      refine ⟨kb.1.1.1, kb.1.2.1.1, by rw [kb.1.2.1.2]; exact jin_nI (by omega) (by decide), ?_⟩
      rw [ixn_nI (by omega)]
      refine ⟨fun _ => ⟨T.length - 1 - i + 1, w_dropL hI kb hk (fun h1 K => ?_) _ i h (by omega) (Nat.le_refl _) ⟨fun _ _ => same.rf _ _, fun _ _ => rfl, fun _ => ⟨rfl, rfl⟩, rfl, Sp.rf _, fun j => by rw [if_neg (by omega)]⟩⟩, fun z => absurd rfl z⟩
      obtain ⟨b1, b2, b3, b4, b5, b6⟩ := K
      have ne : B ≠ jfr h 40 B := fun z => by rw [← z] at a39; omega
      obtain ⟨bf, tw, et⟩ := BF.perm (h' := war (wfi h1 41 B (nI (T.length - 1))) (jfr h 40 B) (T.length - 1) (tba h B i)) hI kb.1 ot hk l4 (fun q q1 q2 => (b1 q q2).tr ((same_wfi q1).tr (same_war q2))) b2 (fun q => (b3 q).1) (b3 _).2 b4 ((b5.tr (Sp.fi.tr Sp.ar)).mono (by omega) (by omega)) (fun j => by
        rw [jar_war]
        unfold dpP
        by_cases z : j = T.length - 1
        · rw [if_pos ⟨rfl, z⟩, if_neg (by omega), if_pos (by omega)]
          rfl
        · rw [if_neg (fun y => z y.2)]
          show jar h1 (jfr h 40 B) j = _
          rw [b6]
          by_cases y : i ≤ j ∧ j < T.length - 1
          · rw [if_pos y, if_pos (by omega)]
          · rw [if_neg y, if_neg (by omega), if_neg (by omega)]) (fun j => by
        rw [jar_war, if_neg (fun y => ne y.1)]
        exact (b1 B ne).ar j)
      refine endV fun _ _ => ⟨bf, bf.2.2.2.1.2, ⟨?_, ?_⟩, fun j tb ht => ?_⟩
      · show jfi (wfi h1 41 B (nI (T.length - 1))) 41 B = _
        rw [jfi_wfi, if_pos ⟨rfl, rfl⟩, List.length_eraseIdx_of_lt hk]
      · rw [List.length_eraseIdx_of_lt hk]; omega
      · rw [et]
        rw [List.getElem?_eraseIdx] at ht
        have fin : ∀ x, T[x]? = some tb → TabR D _ (tba h B x) tb := fun x hx => (kb.2.2 x tb hx).ofB (tw _ (kb.1.2.2 x (by have := (List.getElem?_eq_some_iff.mp hx).1; omega))) bf.1 hI
        unfold dpP
        by_cases z : j < i
        · rw [if_pos z] at ht
          rw [if_neg (by omega), if_neg (by omega)]
          exact fin j ht
        · rw [if_neg z] at ht
          have := (List.getElem?_eq_some_iff.mp ht).1
          rw [if_pos (by omega)]
          exact fin (j + 1) ht
    | succ m ih =>
      intro i hi
      refine ⟨kb.1.1.1, kb.1.2.1.1, by rw [kb.1.2.1.2]; exact jin_nI (by omega) (by decide), ?_⟩
      rw [ixn_nI (by omega)]
      refine ⟨fun z => absurd z (tba_ne' hI ot kb.1 (by omega) (by omega)), fun _ => ?_⟩
      rw [nI_1]
      exact ih (i + 1) (by omega)
  exact go k 0 (by omega)
end
