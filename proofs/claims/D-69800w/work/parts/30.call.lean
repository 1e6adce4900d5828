/-! calls -/
def jent : List JV → List (Option JV)
  | [] => []
  | .inr (.inl x) :: l => some (.inr (.inl x)) :: none :: jent l
  | v :: l => some v :: jent l
def jpad (l : List (Option JV)) (n : Nat) : List (Option JV) := l ++ List.replicate (n - l.length) none
theorem jent_mem {l : List JV} {n k : Nat} {v : JV} (h : (jent l)[k]? = some (some v)) : (n + k, vv v) ∈ lv_args n (l.map vv) ∧ v ∈ l := by
  induction l generalizing n k with
  | nil => simp [jent] at h
  | cons a l ih =>
    rcases a with x | x | ⟨t, r⟩
    · simp only [jent] at h
      simp only [List.map_cons, lv_args]
      cases k with
      | zero => simp at h; subst h; exact ⟨by simp, by simp⟩
      | succ k =>
        have hz := ih (n := n + 1) (by simpa using h)
        refine ⟨List.mem_cons_of_mem _ ?_, List.mem_cons_of_mem _ hz.2⟩
        rw [show n + (k + 1) = n + 1 + k by omega]
        exact hz.1
    · simp only [jent] at h
      simp only [List.map_cons, lv_args]
      cases k with
      | zero => simp at h; subst h; exact ⟨by simp, by simp⟩
      | succ k =>
        cases k with
        | zero => simp at h
        | succ k =>
          have hz := ih (n := n + 2) (by simpa using h)
          refine ⟨List.mem_cons_of_mem _ ?_, List.mem_cons_of_mem _ hz.2⟩
          rw [show n + (k + 1 + 1) = n + 2 + k by omega]
          exact hz.1
    · simp only [jent] at h
      have hc : (vv (.inr (.inr (t, r)))).category = 1 := vv_cat _
      simp only [List.map_cons, lv_args]
      cases k with
      | zero => simp at h; subst h; exact ⟨by simp, by simp⟩
      | succ k =>
        have hz := ih (n := n + 1) (by simpa using h)
        refine ⟨List.mem_cons_of_mem _ ?_, List.mem_cons_of_mem _ hz.2⟩
        rw [show n + (k + 1) = n + 1 + k by omega, hc]
        exact hz.1
theorem jpad_at {l : List (Option JV)} {n k : Nat} {v : JV} (h : (jpad l n)[k]? = some (some v)) : l[k]? = some (some v) := by
  unfold jpad at h
  by_cases hk : k < l.length
  · rwa [List.getElem?_append_left hk] at h
  · rw [List.getElem?_append_right (by omega), List.getElem?_replicate] at h
    split at h <;> simp at h
theorem jlg_len (l : List JV) : (lg_sl (l.map vv)).length = (l.map jct).sum := by
  induction l with
  | nil => rfl
  | cons a l ih =>
    rw [List.map_cons, List.map_cons, List.sum_cons, ← ih]
    unfold lg_sl
    rw [List.flatMap_cons, List.length_append]
    congr 1
    rw [vv_cat]
    rcases a with x | x | ⟨t, r⟩ <;> rfl
theorem jent_has {l : List JV} {n : Nat} (hn : (l.map jct).sum ≤ n) : lv_has ((lg_sl (l.map vv) ++ List.replicate (n - (lg_sl (l.map vv)).length) Slot.unset).toArray) n (jasc 0 (jpad (jent l) n)) := by
  have h := lv_entry (l.map vv) (n := n) (by rw [jlg_len]; exact hn)
  refine ⟨h.1, h.2.1, fun q hq => h.2.2 q ?_⟩
  obtain ⟨k, v, h1, h2, h3⟩ := mem_jasc.mp hq
  have := (jent_mem (n := 0) (jpad_at h2)).1
  rw [show q = (0 + k, vv v) from Prod.ext h1 h3]
  exact this
/-- the arguments, with the tags of the parameters -/
def jret : List Nat → List JV → List JV
  | t :: ts, .inr (.inr q) :: l => .inr (.inr (t, q.2)) :: jret ts l
  | _ :: ts, v :: l => v :: jret ts l
  | _, l => l
def jchkT : List Nat → List JV → Bool
  | t :: ts, .inr (.inr q) :: l => sbt q.1 t && jchkT ts l
  | _ :: ts, _ :: l => jchkT ts l
  | [], [] => true
  | _, _ => false
theorem jchkT_len (ts : List Nat) (l : List JV) (h : jchkT ts l = true) : l.length = ts.length := by
  induction l generalizing ts with
  | nil => cases ts with
    | nil => rfl
    | cons t ts => simp [jchkT] at h
  | cons a l ih =>
    cases ts with
    | nil => rcases a with x | x | ⟨u, r⟩ <;> simp [jchkT] at h
    | cons t ts => rcases a with x | x | ⟨u, r⟩ <;> simp [jchkT] at h <;> simp [ih ts (by first | exact h | exact h.2)]
theorem jret_vv (ts : List Nat) (l : List JV) : (jret ts l).map vv = l.map vv := by
  induction l generalizing ts with
  | nil => cases ts <;> rfl
  | cons a l ih =>
    cases ts with
    | nil => rfl
    | cons t ts => rcases a with x | x | ⟨u, r⟩ <;> simp only [jret, List.map_cons, ih] <;> rfl
theorem jret_ok {h : JH} (ts : List Nat) (l : List JV) (hc : jchkT ts l = true) (hl : ∀ v ∈ l, jok h v) : ∀ v ∈ jret ts l, jok h v := by
  induction l generalizing ts with
  | nil => cases ts <;> (intro v hv; simp [jret] at hv)
  | cons a l ih =>
    cases ts with
    | nil => rcases a with x | x | ⟨u, r⟩ <;> simp [jchkT] at hc
    | cons t ts =>
      intro v hv
      rcases a with x | x | ⟨u, r⟩
      · simp only [jret, List.mem_cons] at hv
        rcases hv with e | e
        · rw [e]; trivial
        · exact ih ts hc (fun w hw => hl w (List.mem_cons_of_mem _ hw)) v e
      · simp only [jret, List.mem_cons] at hv
        rcases hv with e | e
        · rw [e]; trivial
        · exact ih ts hc (fun w hw => hl w (List.mem_cons_of_mem _ hw)) v e
      · simp only [jchkT, Bool.and_eq_true] at hc
        simp only [jret, List.mem_cons] at hv
        rcases hv with e | e
        · rw [e]
          rcases hl _ List.mem_cons_self with z | z
          · exact Or.inl z
          · exact Or.inr (sbt_trans z hc.1)
        · exact ih ts hc.2 (fun w hw => hl w (List.mem_cons_of_mem _ hw)) v e
theorem jsteps_in {tb : Tables} {e : Env} {f : Frame} {below : List Frame} {a b : State} (h : Steps tb e (f :: below) a b) : Steps tb e below a b := by
  obtain ⟨n, h1, h2⟩ := h
  exact ⟨n, h1, fun k hk => Within.weaken (mid := [f]) (h2 k hk)⟩
section JCl
variable {D : JD} {d : Nat} {M M' : JM} {pc pc' : Nat} {ls ls' : List (Option JV)} {st st' : List JV} {h h1 : JH} {Q : JO → JH → Prop}
/-- the method in the tables -/
def jmeth (M' : JM) (U : State) (mk : MethodId) (methk : Method) (ck : Code) : Prop :=
  U.methodNamed? (jmY M') = some mk ∧ U.vm.method? mk = some methk ∧ methk.code = some ck ∧ ck.code = jmC M' ∧ ck.maxLocals = jmL M' ∧ methk.sig.returnType = jmR M' ∧ methk.locks = false ∧ ck.exceptionTable.toList.map (fun h => (h.startPc, h.endPc, h.handlerPc, h.catchType)) = jmH M' ∧ parseMethodDescriptor (jmY M').desc = some methk.sig
theorem JFr.meth {p : Program} {l : Launch} {s : State} {m : MethodId} {meth : Method} {c : Code} (hF : JFr D M l p s m meth c) (hM : JMok M') : ∃ mk methk ck, jmeth M' s mk methk ck := by
  rcases hM.2.1 with ⟨e, hw⟩ | hw
  · have hw := hF.word hw #[]
    obtain ⟨mk, hn⟩ := Cond.code_named hw
    obtain ⟨methk, ck, h1, h2, h3, h4, h5, h6, h7, h8⟩ := Cond.code_spec hn hw
    refine ⟨mk, methk, ck, hn, h1, h2, h3, h4, h5, h6, ?_, h8⟩
    rw [e]
    simpa using h7
  · have hw := hF.word hw #[]
    obtain ⟨mk, methk, ck, hn, h1, h2, h3, h4, h5, h6, h7, h8⟩ := Cond.codeWith_spec hw
    exact ⟨mk, methk, ck, hn, h1, h2, h3, h4, h6, h7, h5, h8⟩
theorem jcall_run {p : Program} {l : Launch} {e : Env} {R : Room} {s : State} {m : MethodId} {args : Array Value} {below : List Frame} {meth : Method} {c : Code} {U : State} {locs : List Loc} {cells slots : Nat} {mk : MethodId} {methk : Method} {ck : Code} {g : JFrame} {ig : Instr} {len : Nat} {as : List JV} {r : JO} {K : Nat → Prop}
    (X : Stand p l e R s m args below meth c U locs cells slots) (hF : JFr D M l p s m meth c) (hM : JMok M') (hm : jmeth M' s mk methk ck) (hg : g.method = m) (hsize : g.locals.size = c.maxLocals) (hdg : decode c.code g.pc = .ok (ig, len))
    (hn : (as.map jct).sum ≤ jmL M') (hx : JX D d M' 0 (jpad (jent as) (jmL M')) [] h r h1) (hI : JInv D h) (hok : ∀ v ∈ as, jok h v) (hR : JRl D h U.heap) (hfr : d + 1 ≤ R.frames) (hlo : 2 * g.monitorRoom + (g.stack.map fun v => v.category).sum + (jmL M' + 11) + 46 * d ≤ R.locals)
    (hce : cells + (jsz h1 - jsz h) ≤ R.cells) (hsl : slots + (jus h1 - jus h) ≤ R.slots) (hK : JKp K s h U.heap) :
    ∃ (T' : State) (L : List Loc), Stand p l e R s m args below meth c T' (locs ++ L) (cells + (jsz h1 - jsz h)) (slots + (jus h1 - jus h)) ∧ (∀ q ∈ L, jbs D ≤ q.base) ∧ JRl D h1 T'.heap ∧ JKp K s h1 T'.heap ∧
      match r with
      | .inl v => ∀ tg, Steps p.tables e below (T'.setTop { g with pc := g.pc + len, stack := (v.map vv).toList ++ g.stack }) tg → ∀ acts, Steps p.tables e below (doInvoke e (U.setTop g) acts mk (as.map vv).toArray).1 tg
      | .inr x => ∃ a, x = a + 1 ∧ ∀ tg, Steps p.tables e below ((T'.setTop g).pushFrame (.throwing a)) tg → ∀ acts, Steps p.tables e below (doInvoke e (U.setTop g) acts mk (as.map vv).toArray).1 tg := by
  obtain ⟨m1, m2, m3, m4, m5, m6, m7, m8, m9⟩ := hm
  have hplain : U.plainMethod mk := by
    have hp := State.plainMethod.of_named hM.2.2.1 m1 m2
    intro k hk
    obtain ⟨k₀, hk₀, he⟩ := X.warmed.alike.symm.2.2 _ _ hk
    have := hp k₀ hk₀
    rw [he] at this
    exact this
  obtain ⟨Y, hin⟩ := X.into hg hsize hdg (as.map vv).toArray (R' := { frames := d, cells := jsz h1 - jsz h, slots := jus h1 - jus h, locals := 46 * d }) (X.warmed.methodAt m2) m3 m7 hplain hfr (by rw [m5]; exact hlo) hce hsl
  have hsv : (U.calling g mk (as.map vv).toArray).vm = U.vm := rfl
  have hsh : (U.calling g mk (as.map vv).toArray).heap = U.heap := rfl
  have hW0 : (jd0 D).WarmedH (U.calling g mk (as.map vv).toArray).vm := State.WarmedH.trans hF.2.2.1 X.warmed
  have hFk : JFr D M' l p (U.calling g mk (as.map vv).toArray) mk methk ck := by
    refine ⟨hF.1, hF.2.1, hW0, hM, m4, m5, m6, m7, (name_of_methodNamed m1 m2).1, ?_, m8, hF.2.2.2.2.2.2.2.2.2.2.2⟩
    show U.vm.findClass _ = _
    rw [X.warmed.alike.findClass]
    exact findClass_of_methodNamed m1
  obtain ⟨⟨b1, b2, b3⟩, b⟩ := hx hI (fun v hv => by
    obtain ⟨k, hk⟩ := List.getElem?_of_mem hv
    exact hok v (jent_mem (n := 0) (jpad_at hk)).2) (fun v hv => by cases hv)
  have w := b p l e { frames := d, cells := jsz h1 - jsz h, slots := jus h1 - jus h, locals := 46 * d } (U.calling g mk (as.map vv).toArray) mk (as.map vv).toArray (.java g :: below) methk ck U.heap [] (jsz h) (jus h) (fun q => K q ∧ q < s.heap.size) _ hFk hR (jent_has hn) (Nat.le_refl _) (Nat.le_refl _) (Nat.le_refl _) (Nat.le_refl _) (Nat.le_refl _) (Nat.le_refl _) (fun q hq => by cases hq) (fun q hq _ => ⟨(hK q hq.1 hq.2).1, rfl⟩)
  rw [Nat.sub_self, Nat.sub_self] at w
  obtain ⟨t, t1, o, o1, o2, o3, o4, o5, o6, L, o7, o8⟩ := w _ (by rfl) Y
  have hst : ∀ tg, Steps p.tables e below t tg → ∀ acts, Steps p.tables e below (doInvoke e (U.setTop g) acts mk (as.map vv).toArray).1 tg := by
    intro tg htg acts
    rw [hin acts]
    refine (jsteps_in (f := .java g) ?_).trans htg
    have e1 : F0 mk 0 ((lg_sl (as.map vv) ++ List.replicate (jmL M' - (lg_sl (as.map vv)).length) Slot.unset).toArray) (List.map vv []) = entryFrame mk (as.map vv).toArray ck.maxLocals := by rw [lg_entry_eq, m5]; rfl
    rw [e1] at t1
    exact t1
  have hKK : ∀ T' : State, T'.heap = t.heap → JKp K s h1 T'.heap := fun T' e q q1 q2 => by
    obtain ⟨z1, z2⟩ := hK q q1 q2
    have hlt : q < U.heap.size := by
      have : U.heap[q]? = some s.heap[q] := by rw [z2]; exact Array.getElem?_eq_getElem q2
      exact (Array.getElem?_eq_some_iff.mp this).1
    obtain ⟨y1, y2⟩ := o6 q ⟨q1, q2⟩ hlt
    exact ⟨y1, by rw [e, y2]; exact z2⟩
  cases r with
  | inl v =>
    have o3 : o = .returned (v.map vv) := o3
    subst o3
    obtain ⟨T', y1, y2, y3, y4⟩ := X.outOf hg hdg o2 o4 o8
    have hh : T'.heap = t.heap := by rw [y4]; rfl
    exact ⟨T', L, y1, o7, by rw [hh]; exact o5, hKK T' hh, fun tg htg => hst tg (by rw [y4]; exact htg)⟩
  | inr x =>
    obtain ⟨a, ex, eo⟩ := o3
    subst eo
    obtain ⟨T', y1, y2, y3, y4⟩ := X.outOfThrown hg o2 o4 o8
    have hh : T'.heap = t.heap := by rw [y4]; rfl
    exact ⟨T', L, y1, o7, by rw [hh]; exact o5, hKK T' hh, a, ex, fun tg htg => hst tg (by rw [y4]; exact htg)⟩
def jstp (D : JD) (M M' : JM) (pc : Nat) (st0 st : List JV) (as : List JV) (h : JH) : Prop :=
  ∀ (p : Program) (l : Launch) (e : Env) (R : Room) (s : State) (m : MethodId) (args : Array Value) (below : List Frame) (meth : Method) (c : Code) (T : State) (locs : List Loc) (cells slots : Nat) (lsA : Array Slot) (mk : MethodId) (methk : Method) (ck : Code),
    JFr D M l p s m meth c → jmeth M' s mk methk ck → JInv D h → (∀ v ∈ st0, jok h v) → JRl D h T.heap → Stand p l e R s m args below meth c T locs cells slots →
    ∃ vm', Stand p l e R s m args below meth c (T.setVm vm') locs cells slots ∧ (∃ ig, decode c.code pc = .ok (ig, 3)) ∧
      ∀ target, (∀ acts, Steps p.tables e below (doInvoke e ((T.setVm vm').setTop (F0 m pc lsA (st.map vv))) acts mk (as.map vv).toArray).1 target) → Steps p.tables e below (T.setTop (F0 m pc lsA (st0.map vv))) target
theorem jcat_sum (l : List JV) : ((l.map vv).map fun v => v.category).sum = (l.map jct).sum := by
  induction l with
  | nil => rfl
  | cons a l ih => simp only [List.map_cons, List.sum_cons, ih, vv_cat]
theorem jw_call {st0 sa as : List JV} {P : JO → JH → Prop} (hM : JMok M') (hst : st0 = sa.reverse ++ st) (hc : jchkT (jmP M') sa = true) (has : jret (jmP M') sa = as) (hn : Nat.ble (as.map jct).sum (jmL M') = true) (hcat : Nat.ble ((st.map jct).sum + jmL M') 35 = true) (hno : jnoh M pc = true)
    (hstp : jstp D M M' pc st0 st as h) (callee : JW D d M' 0 (jpad (jent as) (jmL M')) [] h P)
    (k : ∀ r h1, P r h1 → JInv D h1 → jle h h1 → jokO h1 r → match r with | .inl v => JW D (d + 1) M (pc + 3) ls (v.toList ++ st) h1 Q | .inr x => Q (.inr x) h1) : JW D (d + 1) M pc ls st0 h Q := by
  intro hI hl hs
  have hn := Nat.ble_eq.mp hn
  have hcat := Nat.ble_eq.mp hcat
  have hsa : ∀ v ∈ sa, jok h v := fun v hv => hs v (by rw [hst]; simp [hv])
  have hs2 : ∀ v ∈ st, jok h v := fun v hv => hs v (by rw [hst]; simp [hv])
  have hao : ∀ v ∈ as, jok h v := by rw [← has]; exact jret_ok _ _ hc hsa
  obtain ⟨r, h1, hx, hp⟩ := callee hI (fun v hv => by
    obtain ⟨k, hk⟩ := List.getElem?_of_mem hv
    exact hao v (jent_mem (n := 0) (jpad_at hk)).2) (fun v hv => by cases hv)
  obtain ⟨⟨b1, b2, b3⟩, -⟩ := hx hI (fun v hv => by
    obtain ⟨k, hk⟩ := List.getElem?_of_mem hv
    exact hao v (jent_mem (n := 0) (jpad_at hk)).2) (fun v hv => by cases hv)
  have hk := k r h1 hp b1 b3 b2
  cases r with
  | inl v =>
    have hk : JW D (d + 1) M (pc + 3) ls (v.toList ++ st) h1 Q := hk
    have hl1 : ∀ v, some v ∈ ls → jok h1 v := fun v hv => (hl v hv).le b3
    have hs1 : ∀ w ∈ v.toList ++ st, jok h1 w := fun w hw => by
      rcases List.mem_append.mp hw with q | q
      · cases v with
        | none => cases q
        | some z => simp at q; rw [q]; exact b2
      · exact (hs2 w q).le b3
    obtain ⟨r', h', hx', hq⟩ := hk b1 hl1 hs1
    refine ⟨r', h', fun _ _ _ => ?_, hq⟩
    obtain ⟨⟨c1, c2, c3⟩, cc⟩ := hx' b1 hl1 hs1
    refine ⟨⟨c1, c2, b3.tr c3⟩, fun p l e R s m args below meth c H locs c0 u0 K lsA hF hR hL g1 g2 g3 g4 g5 g6 g7 g8 => ?_⟩
    intro T hT X
    subst hT
    obtain ⟨mk, methk, ck, hm⟩ := hF.meth hM
    obtain ⟨vm', X1, ⟨ig, hdg⟩, hstep⟩ := hstp p l e R s m args below meth c T locs _ _ lsA mk methk ck hF hm hI hs hR X
    have y1 := b3.1; have y2 := b3.2.1; have y3 := c3.1; have y4 := c3.2.1
    obtain ⟨T', L, z1, z2, z3, z4, z5⟩ := jcall_run (d := d) (as := as) (K := K) X1 hF hM hm (g := F0 m pc lsA (st.map vv)) rfl (hL.1.trans hF.2.2.2.2.2.1.symm) hdg hn hx hI hao hR g1 (by
      rw [jcat_sum]
      show 2 * 0 + _ + _ + _ ≤ _
      omega) (by omega) (by omega) g8
    have w := cc p l e R s m args below meth c T'.heap (locs ++ L) c0 u0 K lsA hF z3 hL g1 g2 g3 g4 (Nat.le_trans g5 y1) (Nat.le_trans g6 y2) (fun q hq => by
      rcases List.mem_append.mp hq with e | e
      · exact g7 q e
      · exact z2 q e) z4
    rw [show jsz h - c0 + (jsz h1 - jsz h) = jsz h1 - c0 by omega, show jus h - u0 + (jus h1 - jus h) = jus h1 - u0 by omega] at z1
    obtain ⟨t, t1, t2⟩ := w T' rfl z1
    refine ⟨t, hstep t (z5 t ?_), t2⟩
    have e : (v.toList ++ st).map vv = (v.map vv).toList ++ st.map vv := by cases v <;> simp
    rw [e] at t1
    exact t1
  | inr x =>
    have hk : Q (.inr x) h1 := hk
    refine ⟨.inr x, h1, fun _ _ _ => ⟨⟨b1, b2, b3⟩, fun p l e R s m args below meth c H locs c0 u0 K lsA hF hR hL g1 g2 g3 g4 g5 g6 g7 g8 => ?_⟩, hk⟩
    intro T hT X
    subst hT
    obtain ⟨mk, methk, ck, hm⟩ := hF.meth hM
    obtain ⟨vm', X1, ⟨ig, hdg⟩, hstep⟩ := hstp p l e R s m args below meth c T locs _ _ lsA mk methk ck hF hm hI hs hR X
    have y1 := b3.1; have y2 := b3.2.1
    obtain ⟨T', L, z1, z2, z3, z4, a, ha, z5⟩ := jcall_run (d := d) (as := as) (K := K) X1 hF hM hm (g := F0 m pc lsA (st.map vv)) rfl (hL.1.trans hF.2.2.2.2.2.1.symm) hdg hn hx hI hao hR g1 (by
      rw [jcat_sum]
      show 2 * 0 + _ + _ + _ ≤ _
      omega) (by omega) (by omega) g8
    rw [show jsz h - c0 + (jsz h1 - jsz h) = jsz h1 - c0 by omega, show jus h - u0 + (jus h1 - jus h) = jus h1 - u0 by omega] at z1
    obtain ⟨x1, x2, x3, x4, x5⟩ := z1.leaveThrown a (g := F0 m pc lsA (st.map vv)) rfl rfl rfl (jnoh_out hno hF.2.2.2.2.2.2.2.2.2.2.1) (hlocks := hF.2.2.2.2.2.2.2.1)
    exact ⟨_, hstep _ (z5 _ x1), .threw a, x2, x3, ⟨a, ha, rfl⟩, x4, z3, z4, locs ++ L, fun q hq => by
      rcases List.mem_append.mp hq with e | e
      · exact g7 q e
      · exact z2 q e, x5⟩
end JCl
