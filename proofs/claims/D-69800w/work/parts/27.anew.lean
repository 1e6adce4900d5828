/-! arrays of references -/
theorem jao_arr {t : FieldType} {u U : State} (hvm : u.vm.Alike U.vm) {A B : Array Value} (h : (Cond.arrayOver (.array t)).before A u = true) : (Cond.arrayOver (.array t)).before B U = true := by
  obtain ⟨comp, c, k, h1, h2, h3, h4, h5⟩ := arrayOverA_spec h
  obtain ⟨k', hk', he⟩ := hvm.2.2 _ _ h3
  have hi : (U.vm.classes.findIdx? fun (x : Class) => match x.kind with | .array component _ => component == comp | _ => false) = some c := by
    have e1 := va_idx_bare U.vm comp
    have e2 := va_idx_bare u.vm comp
    have e3 : U.vm.bare = u.vm.bare := by first | exact hvm.bare_eq | exact hvm.bare_eq.symm
    rw [e3] at e1
    exact e1.symm.trans (e2.trans h2)
  have hkind : k'.kind = .array comp (.array t) := by rw [he]; exact h4
  have f1 : U.vm.findClass (FieldType.array t).toString = some comp := by rw [hvm.findClass]; exact h1
  have f2 : U.vm.findClass ("[" ++ (FieldType.array t).toString) = some c := by rw [hvm.findClass]; exact h5
  unfold Cond.before Cond.holds
  simp only [Cond.value]
  rw [f1, Option.bind_some]
  refine (congrArg (fun o : Option Nat => (o.bind (fun c => (U.vm.classes[c]?).map fun (k : Class) => match k.kind with | .array _ ty => decide (ty = FieldType.array t) && decide (U.vm.findClass ("[" ++ (FieldType.array t).toString) = some c) | _ => false) == some true)) hi).trans ?_
  simp [hk', hkind, f2]
section JNa
variable {D : JD} {d : Nat} {M : JM} {pc pc' : Nat} {ls ls' : List (Option JV)} {st st' : List JV} {h h1 : JH} {Q : JO → JH → Prop}
theorem jw_anew {idx ke k n : Nat} {x : Int32} {C : String} (hd : jmT M pc = some (.anewarray idx, 3)) (hk : jmK M idx = some ke) (hC : jcn ke = C) (hty : aty k = some (.object C)) (htk : atk k = 2) (hw : wrt k = true) (hlt : Nat.ble k 225 = true) (hao : Cond.arrayOver (.object C) ∈ lw_tbl) (hx : jix x n) (hbytes : Nat.ble n 134217728 = true)
    (kk : JW D d M pc' ls (vR k (jsz h + 1) :: st) (nwa h k n) Q) (hp : pc + 3 = pc' := by rfl) : JW D d M pc ls (vI x :: st) h Q := by
  subst hp hC
  refine jw_newarr hty hw hlt (fun p l e R s m args below meth c H locs cells slots Z lsA hF hc hs kk => ?_) kk
  have e := hx.2
  subst e
  obtain ⟨b, hb, -⟩ := hF.2.1.1
  have hcl := hF.2.2.2.1.2.2.2.2.2.2.1 idx ke hk
  refine W.anew hF.1 hF.2.2.2.2.1 hF.2.2.2.2.2.2.2.2.2.1 (hF.word hcl args) (va_AO.use (va_AO.moved hF.alike (va_AO.of (hb _ hao)))) rfl (hF.2.2.2.1.1 _ _ hd) rfl hx.1 (by have := Nat.ble_eq.mp hbytes; omega) hc hs fun cA kA comp h1 h2 h3 h4 => ?_
  exact kk cA _ (by
    obtain ⟨y, -⟩ := hF.arr k _ hty
    exact Option.some.inj (h1.symm.trans y)) (by rw [htk]; rfl)
theorem jw_anewA {idx ke k n : Nat} {x : Int32} {t : FieldType} (hd : jmT M pc = some (.anewarray idx, 3)) (hk : jmK M idx = some ke) (hC : jcn ke = (FieldType.array t).toString) (hty : aty k = some (.array t)) (htk : atk k = 2) (hw : wrt k = true) (hlt : Nat.ble k 225 = true) (hao : Cond.arrayOver (.array t) ∈ lw_tbl) (hx : jix x n) (hbytes : Nat.ble n 134217728 = true)
    (kk : JW D d M pc' ls (vR k (jsz h + 1) :: st) (nwa h k n) Q) (hp : pc + 3 = pc' := by rfl) : JW D d M pc ls (vI x :: st) h Q := by
  subst hp
  refine jw_newarr hty hw hlt (fun p l e R s m args below meth c H locs cells slots Z lsA hF hc hs kk => ?_) kk
  have e := hx.2
  subst e
  obtain ⟨b, hb, -⟩ := hF.2.1.1
  have hcl := hF.2.2.2.1.2.2.2.2.2.2.1 idx ke hk
  rw [hC] at hcl
  refine W.anewA hF.1 hF.2.2.2.2.1 hF.2.2.2.2.2.2.2.2.2.1 (hF.word hcl args) (jao_arr hF.alike (hb _ hao)) rfl (hF.2.2.2.1.1 _ _ hd) rfl hx.1 (by have := Nat.ble_eq.mp hbytes; omega) hc hs fun cA kA comp h1 h2 h3 h4 => ?_
  exact kk cA _ (by
    obtain ⟨y, -⟩ := hF.arr k _ hty
    exact Option.some.inj (h1.symm.trans y)) (by rw [htk]; rfl)
/-! constants -/
theorem jw_ldcI {idx : Nat} {v : Int32} (hd : jmT M pc = some (.ldc idx, 2)) (hv : jmI M idx = some v) (hs : ((jmY M).cls, idx, v) ∉ jsin) (k : JW D d M pc' ls (vI v :: st) h Q) (hp : pc + 2 = pc' := by rfl) : JW D d M pc ls st h Q := by
  subst hp
  refine jw_sil (fun w hw => ?_) (fun p l e R s m args below meth c H locs cells slots Z lsA hF hL kk => ?_) k
  · rcases hw with q | q
    · rcases List.mem_cons.mp q with e | e
      · exact Or.inr (Or.inr (by rw [e]; trivial))
      · exact Or.inl e
    · exact Or.inr (Or.inl q)
  · rcases hF.2.2.2.1.2.2.2.2.2.2.2.2.1 idx v hv with z | z
    · exact lv_ldc hF.1 hF.2.2.2.2.1 hF.2.2.2.2.2.2.2.2.2.1 (hF.word z args) (hF.2.2.2.1.1 _ _ hd) (kk lsA hL)
    · exact absurd z hs
theorem jw_ldcwI {idx : Nat} {v : Int32} (hd : jmT M pc = some (.ldc_w idx, 3)) (hv : jmI M idx = some v) (hs : ((jmY M).cls, idx, v) ∉ jsin) (k : JW D d M pc' ls (vI v :: st) h Q) (hp : pc + 3 = pc' := by rfl) : JW D d M pc ls st h Q := by
  subst hp
  refine jw_sil (fun w hw => ?_) (fun p l e R s m args below meth c H locs cells slots Z lsA hF hL kk => ?_) k
  · rcases hw with q | q
    · rcases List.mem_cons.mp q with e | e
      · exact Or.inr (Or.inr (by rw [e]; trivial))
      · exact Or.inl e
    · exact Or.inr (Or.inl q)
  · rcases hF.2.2.2.1.2.2.2.2.2.2.2.2.1 idx v hv with z | z
    · exact lv_ldcw hF.1 hF.2.2.2.2.1 hF.2.2.2.2.2.2.2.2.2.1 (hF.word z args) (hF.2.2.2.1.1 _ _ hd) (kk lsA hL)
    · exact absurd z hs
theorem jw_ldc2 {idx : Nat} {v : Int64} (hd : jmT M pc = some (.ldc2_w idx, 3)) (hv : jmJ M idx = some v) (k : JW D d M pc' ls (vL v :: st) h Q) (hp : pc + 3 = pc' := by rfl) : JW D d M pc ls st h Q := by
  subst hp
  refine jw_sil (fun w hw => ?_) (fun p l e R s m args below meth c H locs cells slots Z lsA hF hL kk => ?_) k
  · rcases hw with q | q
    · rcases List.mem_cons.mp q with e | e
      · exact Or.inr (Or.inr (by rw [e]; trivial))
      · exact Or.inl e
    · exact Or.inr (Or.inl q)
  · exact lv_ldc2 hF.1 hF.2.2.2.2.1 hF.2.2.2.2.2.2.2.2.2.1 (hF.word (hF.2.2.2.1.2.2.2.2.2.2.2.2.2.1 idx v hv) args) (hF.2.2.2.1.1 _ _ hd) (kk lsA hL)
/-- a String constant by ldc_w (as Stand.ldcString) -/
theorem jX_ldcw {p : Program} {l : Launch} {e : Env} {R : Room} {s : State} {m : MethodId} {args : Array Value} {below : List Frame} {meth : Method} {c : Code} {T : State} {locs : List Loc} {cells slots : Nat}
    (X : Stand p l e R s m args below meth c T locs cells slots) (hexec : p.tables.exec = Jvm.exec) {own text : String} {index : Nat} {a : Addr} (hown : s.vm.findClass own = some m.cls)
    (hconst : (Cond.stringRef own index text).before args s = true) (hev : (Term.string own index).eval args s none [] s = some (.ref a)) {g : JFrame} (hg : g.method = m) (hdg : decode c.code g.pc = .ok (.ldc_w index, 3)) :
    ∀ target, Steps p.tables e below (T.setTop { g with pc := g.pc + 3, stack := .ref a :: g.stack }) target → Steps p.tables e below (T.setTop g) target := by
  obtain ⟨k, cf, i, a', hk, hcf, hcp, -, hr, hev'⟩ := Cond.stringRef_spec hown hconst
  cases hev.symm.trans hev'
  obtain ⟨k', hk', he⟩ := X.warmed.alike.2.2 _ _ hk
  have hr' : k'.resolved[index]? = some (some (.string a)) := by
    rcases X.warmed.entry hk hk' index with h | ⟨h, -⟩
    · rw [h]; exact hr
    · rw [h] at hr; cases hr
  intro target hrest
  subst hg
  jvm_step X.here [hexec, hdg, ldc_w.wp_string (s := T) (f := g) X.here.top hk' (by rw [he]; exact hcf) hcp hr']
  exact hrest
end JNa
