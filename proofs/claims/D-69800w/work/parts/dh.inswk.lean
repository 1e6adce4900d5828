/-! the component: the new rows of INSERT are worked out -/
section
variable {D : JD} {h h' h'' h0 h1 h2 : JH} {ρ : Nat → Nat} {A : List Nod} {E : TEnv} {K K' : Nat → Bool} {q c t u r B e sc b i j k v n d xn : Nat} {M : Nat → Prop} {tb tb' : Tab} {T T' S : List Tab} {pv : List Val} {pt : List Nat} {ra rb : Int} {y : Stm} {x : Val} {f : Nat → Option (List Val)} {R : TRow}
/-- a tree is worked out while a statement is -/
theorem w_evT (W : WkS D A ρ e sc T S pv ra rb h h1) (C : EvC A E E ρ pv []) (hf : E.2.2 = false) (hI1 : JInv D h1) (er : EnvR D h1 sc E R pv) (rk : RowOk E R) (xl : xn < A.length) (hB : HB A n xn) (pl : PlA A E h1 ρ xn) {ty : Nat} (t1 : tType A E xn = .ok ty) (hd : 2 * n + 20 ≤ d) :
    v55_at D d (ρ xn) sc h1 (pR D h1 8 (fun va h' => ∃ wv, eVal A E pv [] R xn = .ok wv ∧ VT ty wv ∧ Cel D h' va wv ∧ EvF D sc (EM h1 A ρ 0 A.length) h1 h' ∧ EnvR D h' sc E R pv ∧ WkS D A ρ e sc T S pv ra rb h h') (fun z h' => ∃ c hm, eVal A E pv [] R xn = .error c ∧ EvF D sc (EM h1 A ρ 0 A.length) h1 hm ∧ WkS D A ρ e sc T S pv ra rb h hm ∧ FlX hm h' z c)) := by
  have tr := W.2.2.1
  have ow : OW h1 := W.2.2.2.1.2.2.2.2.2
  have SS : EvI D A E E ρ sc pv (fun _ _ => True) R h1 := ⟨tr, ow, er, trivial, rk⟩
  refine useAt (w_eval0 (D := D) (sc := sc) (G := fun _ _ => True) C hf (fun _ _ _ _ _ _ _ _ _ _ _ => trivial) (xn + 1) xn R h1 d n ty false (Nat.lt_succ_self _) xl hB hd SS (pl (xn + 1)) t1) ?_ ?_
  · rintro va h3 _ hI3 ⟨wv, a1, a2, a3, a4, a5⟩
    have up := a4.up SS hI1 (Nat.zero_le _) (show xn + 1 ≤ A.length by omega)
    exact ⟨wv, a1, snd_tree C.1 C.2.2.1 C.2.2.2.1 C.2.2.2.2.1 (xn + 1) false xn R ty wv (by omega) rk t1 a1, a2, up, a5, W.ev C.1 hI1 up⟩
  · rintro z h3 _ hI3 ⟨c, hm, c1, c2, c3⟩
    have up := c2.up SS hI1 (Nat.zero_le _) (show xn + 1 ≤ A.length by omega)
    exact ⟨c, hm, c1, up, W.ev C.1 hI1 up, c3.fx (nb_val c c1)⟩
/-- cells of a row become NULL -/
theorem w_ins19 {Q : JO → JH → Prop} {K2 : Nat → Nat → Int32 → JH → Prop} {X : List Nat} (hA : NOK A) (hj : j < 100) (v0 : v ≠ 0) (et : jfr h 107 v = t) (vk : jkd h v = 19) (wl : n ≤ 10)
    (hn : ∀ h1, WkS D A ρ e sc T S pv ra rb h h1 → TabW D h1 t ∧ jfi h1 44 t = nI n)
    (hQ : ∀ h1, JInv D h1 → WkS D A ρ e sc T S pv ra rb h h1 → jfr h1 107 v = t → ScR D h1 e (upF f j (List.replicate n vNull)) → (∀ x ∈ X, x < A.length ∧ PlA A E h1 ρ x) → ∃ m, L_X23_work_48 D d Q K2 m v e (nI j) (jar h1 (jfr h1 31 e) j) 0 h1) (hd : 1 ≤ d) :
    ∀ (m k : Nat) (h1 : JH), k + m = n → JInv D h1 → WkS D A ρ e sc T S pv ra rb h h1 → jfr h1 107 v = t → ScR D h1 e (upF f j (List.replicate k vNull)) → (∀ x ∈ X, x < A.length ∧ PlA A E h1 ρ x) → L_X23_work_19 D d Q K2 (m + 1) v e (nI j) (jar h1 (jfr h1 31 e) j) (nI k) h1
  | m, k, h1, hm, hI1, W, e7, sr, pl => by
    obtain ⟨tw, e44⟩ := hn h1 W
    refine ⟨v0, ?_⟩
    rw [e7, e44]
    refine ⟨tw.1.1, fun g => ?_, fun g => ?_⟩
    · have := (nI_leI (by omega) (by omega)).mp g
      have : k = n := by omega
      subst this
      exact hQ h1 hI1 W e7 sr pl
    · have kl : k < n := Nat.lt_of_not_le fun z => g ((nI_leI (by omega) (by omega)).mpr z)
      obtain ⟨m', rfl⟩ : ∃ m', m = m' + 1 := ⟨m - 1, by omega⟩
      have ek := W.2.2.2.2.2.2.2.2.2
      obtain ⟨k1, k2, k3, k4⟩ := sr j _ upd_eq
      have ru := (ek.2.2.2.2 j hj).resolve_left k2
      have cu := (ru.2.2.2 k (by omega)).1
      have ix : ixn (nI k) = k := ixn_nI (by omega)
      rw [ix]
      refine ⟨k2, by rw [ru.2.2.1]; exact jin_nI (by omega) (by decide), cu.1, JW.up (n := 1) (fun dd => useR0 (k_cNone (d := dd) cu) ?_) hd⟩
      rintro v9 h2 hI2 hle2 ⟨_, c1, c2⟩
      obtain ⟨W2, e31, ea, kf, sn⟩ := W.put hA hI1 hI2 hle2 hj (show k < 10 by omega) k2 c2 c1
      have sr2 := sn f (List.replicate (k + 1) vNull) sr.oth (by rw [List.length_replicate]; omega) (fun i2 hi2 hne => ?_) (fun hil => ?_)
      · have e72 : jfr h2 107 v = t := by
          have vk1 : jkd h1 v = 19 := (W.1.2.2.1 v (by rw [vk]; decide)).trans vk
          rw [(kf.obj hI1 (by rw [vk1]; decide) (by rw [vk1]; decide) (by rw [vk1]; rfl)).fr]
          exact e7
        rw [nI_1]
        have IH := w_ins19 hA hj v0 et vk wl hn hQ hd m' (k + 1) h2 (by omega) hI2 W2 e72 sr2 (fun x hx => ⟨(pl x hx).1, (pl x hx).2.kf W.2.2.1 kf hI1 hA (pl x hx).1 wK_n⟩)
        rw [e31, ea] at IH
        exact IH
      · rw [List.length_replicate] at hi2
        have := k4 i2 (by rw [List.length_replicate]; omega)
        rw [List.getD_eq_getElem?_getD, List.getElem?_replicate, if_pos (by omega)] at this ⊢
        exact this
      · rw [List.length_replicate] at hil
        rw [List.getD_eq_getElem?_getD, List.getElem?_replicate, if_pos hil]
        rfl
theorem rSet_snoc : ∀ (ps : List Nat) (vs row : List Val) (p : Nat) (x : Val), ps.length = vs.length → rSet row (ps ++ [p]) (vs ++ [x]) = (rSet row ps vs).set p x
  | [], [], row, p, x, _ => rfl
  | [], _ :: _, _, _, _, h => by cases h
  | _ :: _, [], _, _, _, h => by cases h
  | a :: ps, b :: vs, row, p, x, h => by
    show rSet (row.set a b) (ps ++ [p]) (vs ++ [x]) = (rSet (row.set a b) ps vs).set p x
    exact rSet_snoc ps vs (row.set a b) p x (Nat.succ.inj h)
theorem rSet_len : ∀ (ps : List Nat) (vs row : List Val), (rSet row ps vs).length = row.length
  | [], _, _ => by unfold rSet; rfl
  | _ :: _, [], _ => by unfold rSet; rfl
  | a :: ps, b :: vs, row => by
    show (rSet (row.set a b) ps vs).length = _
    rw [rSet_len ps vs, List.length_set]
theorem sVals_eq {ev : Nat → Ex Val} {xs : List Nat} {l : List Val} {a : Nat} : sVals ev (a :: xs) l = (ev a >>= fun v => sVals ev xs (l ++ [v])) := by
  rw [sVals]
end
