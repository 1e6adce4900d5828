/-! the rows of instructions that leave the heap alone (printed by tools/gen_sil.py) -/
section JSi
variable {D : JD} {d : Nat} {M : JM} {pc pc' : Nat} {ls : List (Option JV)} {st : List JV} {h : JH} {Q : JO → JH → Prop}
theorem jw_iconst {n : Int} {x : Int32} (hd : jmT M pc = some (.iconst n, 1)) (hv : Int32.ofInt n = x) (k : JW D d M pc' ls (vI x :: st) h Q) (hp : pc + 1 = pc' := by rfl) : JW D d M pc ls (st) h Q := by
  subst hp
  refine jw_op (fun v hv => ?_) (fun _ _ _ _ _ _ _ _ _ _ _ _ _ _ _ _ hx hb hdec hL kk => lv_iconst hx hb (hdec _ _ hd) hv kk) k
  simp only [List.mem_cons] at hv
  rcases hv with e | e
  · exact Or.inr (Or.inr (by rw [e]; trivial))
  · exact Or.inl (by simp [e])
theorem jw_bipush {n : Int} {x : Int32} (hd : jmT M pc = some (.bipush n, 2)) (hv : (Int8.ofInt n).toInt32 = x) (k : JW D d M pc' ls (vI x :: st) h Q) (hp : pc + 2 = pc' := by rfl) : JW D d M pc ls (st) h Q := by
  subst hp
  refine jw_op (fun v hv => ?_) (fun _ _ _ _ _ _ _ _ _ _ _ _ _ _ _ _ hx hb hdec hL kk => lv_bipush hx hb (hdec _ _ hd) hv kk) k
  simp only [List.mem_cons] at hv
  rcases hv with e | e
  · exact Or.inr (Or.inr (by rw [e]; trivial))
  · exact Or.inl (by simp [e])
theorem jw_sipush {n : Int} {x : Int32} (hd : jmT M pc = some (.sipush n, 3)) (hv : (Int16.ofInt n).toInt32 = x) (k : JW D d M pc' ls (vI x :: st) h Q) (hp : pc + 3 = pc' := by rfl) : JW D d M pc ls (st) h Q := by
  subst hp
  refine jw_op (fun v hv => ?_) (fun _ _ _ _ _ _ _ _ _ _ _ _ _ _ _ _ hx hb hdec hL kk => lv_sipush hx hb (hdec _ _ hd) hv kk) k
  simp only [List.mem_cons] at hv
  rcases hv with e | e
  · exact Or.inr (Or.inr (by rw [e]; trivial))
  · exact Or.inl (by simp [e])
theorem jw_lconst {n : Fin 2} {x : Int64} (hd : jmT M pc = some (.lconst n, 1)) (hv : Int64.ofNat (n : Nat) = x) (k : JW D d M pc' ls (vL x :: st) h Q) (hp : pc + 1 = pc' := by rfl) : JW D d M pc ls (st) h Q := by
  subst hp
  refine jw_op (fun v hv => ?_) (fun _ _ _ _ _ _ _ _ _ _ _ _ _ _ _ _ hx hb hdec hL kk => lv_lconst hx hb (hdec _ _ hd) hv kk) k
  simp only [List.mem_cons] at hv
  rcases hv with e | e
  · exact Or.inr (Or.inr (by rw [e]; trivial))
  · exact Or.inl (by simp [e])
theorem jw_iload_n {n : Fin 4} {x : Int32} (hd : jmT M pc = some (.iload_n n, 1)) (hl : ls[(n : Nat)]? = some (some (vI x))) (k : JW D d M pc' ls (vI x :: st) h Q) (hp : pc + 1 = pc' := by rfl) : JW D d M pc ls (st) h Q := by
  subst hp
  refine jw_op (fun v hv => ?_) (fun _ _ _ _ _ _ _ _ _ _ _ _ _ _ _ _ hx hb hdec hL kk => lv_iload_n hx hb (hdec _ _ hd) rfl (jasc_at hL hl) kk) k
  simp only [List.mem_cons] at hv
  rcases hv with e | e
  · exact Or.inr (Or.inr (by rw [e]; trivial))
  · exact Or.inl (by simp [e])
theorem jw_iload {n : Nat} {x : Int32} (hd : jmT M pc = some (.iload n, 2)) (hl : ls[n]? = some (some (vI x))) (k : JW D d M pc' ls (vI x :: st) h Q) (hp : pc + 2 = pc' := by rfl) : JW D d M pc ls (st) h Q := by
  subst hp
  refine jw_op (fun v hv => ?_) (fun _ _ _ _ _ _ _ _ _ _ _ _ _ _ _ _ hx hb hdec hL kk => lv_iload hx hb (hdec _ _ hd) (jasc_at hL hl) kk) k
  simp only [List.mem_cons] at hv
  rcases hv with e | e
  · exact Or.inr (Or.inr (by rw [e]; trivial))
  · exact Or.inl (by simp [e])
theorem jw_lload_n {n : Fin 4} {x : Int64} (hd : jmT M pc = some (.lload_n n, 1)) (hl : ls[(n : Nat)]? = some (some (vL x))) (k : JW D d M pc' ls (vL x :: st) h Q) (hp : pc + 1 = pc' := by rfl) : JW D d M pc ls (st) h Q := by
  subst hp
  refine jw_op (fun v hv => ?_) (fun _ _ _ _ _ _ _ _ _ _ _ _ _ _ _ _ hx hb hdec hL kk => lv_lload_n hx hb (hdec _ _ hd) rfl (jasc_at hL hl) kk) k
  simp only [List.mem_cons] at hv
  rcases hv with e | e
  · exact Or.inr (Or.inr (by rw [e]; trivial))
  · exact Or.inl (by simp [e])
theorem jw_lload {n : Nat} {x : Int64} (hd : jmT M pc = some (.lload n, 2)) (hl : ls[n]? = some (some (vL x))) (k : JW D d M pc' ls (vL x :: st) h Q) (hp : pc + 2 = pc' := by rfl) : JW D d M pc ls (st) h Q := by
  subst hp
  refine jw_op (fun v hv => ?_) (fun _ _ _ _ _ _ _ _ _ _ _ _ _ _ _ _ hx hb hdec hL kk => lv_lload hx hb (hdec _ _ hd) (jasc_at hL hl) kk) k
  simp only [List.mem_cons] at hv
  rcases hv with e | e
  · exact Or.inr (Or.inr (by rw [e]; trivial))
  · exact Or.inl (by simp [e])
theorem jw_aload_n {n : Fin 4} {t r : Nat} (hd : jmT M pc = some (.aload_n n, 1)) (hl : ls[(n : Nat)]? = some (some (vR t r))) (k : JW D d M pc' ls (vR t r :: st) h Q) (hp : pc + 1 = pc' := by rfl) : JW D d M pc ls (st) h Q := by
  subst hp
  refine jw_op (fun v hv => ?_) (fun _ _ _ _ _ _ _ _ _ _ _ _ _ _ _ _ hx hb hdec hL kk => by cases r with | zero => exact lv_aload_nN hx hb (hdec _ _ hd) rfl (jasc_at hL hl) kk | succ a => exact lv_aload_n hx hb (hdec _ _ hd) rfl (jasc_at hL hl) kk) k
  simp only [List.mem_cons] at hv
  rcases hv with e | e
  · exact Or.inr (Or.inl (by rw [e]; exact List.mem_of_getElem? hl))
  · exact Or.inl (by simp [e])
theorem jw_aload {n : Nat} {t r : Nat} (hd : jmT M pc = some (.aload n, 2)) (hl : ls[n]? = some (some (vR t r))) (k : JW D d M pc' ls (vR t r :: st) h Q) (hp : pc + 2 = pc' := by rfl) : JW D d M pc ls (st) h Q := by
  subst hp
  refine jw_op (fun v hv => ?_) (fun _ _ _ _ _ _ _ _ _ _ _ _ _ _ _ _ hx hb hdec hL kk => by cases r with | zero => exact lv_aloadN hx hb (hdec _ _ hd) (jasc_at hL hl) kk | succ a => exact lv_aload hx hb (hdec _ _ hd) (jasc_at hL hl) kk) k
  simp only [List.mem_cons] at hv
  rcases hv with e | e
  · exact Or.inr (Or.inl (by rw [e]; exact List.mem_of_getElem? hl))
  · exact Or.inl (by simp [e])
theorem jw_null {t : Nat} (hd : jmT M pc = some (.aconst_null, 1))  (k : JW D d M pc' ls (vR t 0 :: st) h Q) (hp : pc + 1 = pc' := by rfl) : JW D d M pc ls (st) h Q := by
  subst hp
  refine jw_op (fun v hv => ?_) (fun _ _ _ _ _ _ _ _ _ _ _ _ _ _ _ _ hx hb hdec hL kk => lv_null hx hb (hdec _ _ hd) kk) k
  simp only [List.mem_cons] at hv
  rcases hv with e | e
  · exact Or.inr (Or.inr (by rw [e]; exact Or.inl rfl))
  · exact Or.inl (by simp [e])
theorem jw_iadd {x y : Int32} (hd : jmT M pc = some (.iadd, 1))  (k : JW D d M pc' ls (vI (x + y) :: st) h Q) (hp : pc + 1 = pc' := by rfl) : JW D d M pc ls (vI y :: vI x :: st) h Q := by
  subst hp
  refine jw_op (fun v hv => ?_) (fun _ _ _ _ _ _ _ _ _ _ _ _ _ _ _ _ hx hb hdec hL kk => lv_iadd hx hb (hdec _ _ hd) kk) k
  simp only [List.mem_cons] at hv
  rcases hv with e | e
  · exact Or.inr (Or.inr (by rw [e]; trivial))
  · exact Or.inl (by simp [e])
theorem jw_isub {x y : Int32} (hd : jmT M pc = some (.isub, 1))  (k : JW D d M pc' ls (vI (x - y) :: st) h Q) (hp : pc + 1 = pc' := by rfl) : JW D d M pc ls (vI y :: vI x :: st) h Q := by
  subst hp
  refine jw_op (fun v hv => ?_) (fun _ _ _ _ _ _ _ _ _ _ _ _ _ _ _ _ hx hb hdec hL kk => lv_isub hx hb (hdec _ _ hd) kk) k
  simp only [List.mem_cons] at hv
  rcases hv with e | e
  · exact Or.inr (Or.inr (by rw [e]; trivial))
  · exact Or.inl (by simp [e])
theorem jw_imul {x y : Int32} (hd : jmT M pc = some (.imul, 1))  (k : JW D d M pc' ls (vI (x * y) :: st) h Q) (hp : pc + 1 = pc' := by rfl) : JW D d M pc ls (vI y :: vI x :: st) h Q := by
  subst hp
  refine jw_op (fun v hv => ?_) (fun _ _ _ _ _ _ _ _ _ _ _ _ _ _ _ _ hx hb hdec hL kk => lv_imul hx hb (hdec _ _ hd) kk) k
  simp only [List.mem_cons] at hv
  rcases hv with e | e
  · exact Or.inr (Or.inr (by rw [e]; trivial))
  · exact Or.inl (by simp [e])
theorem jw_iand {x y : Int32} (hd : jmT M pc = some (.iand, 1))  (k : JW D d M pc' ls (vI (x &&& y) :: st) h Q) (hp : pc + 1 = pc' := by rfl) : JW D d M pc ls (vI y :: vI x :: st) h Q := by
  subst hp
  refine jw_op (fun v hv => ?_) (fun _ _ _ _ _ _ _ _ _ _ _ _ _ _ _ _ hx hb hdec hL kk => lv_iand hx hb (hdec _ _ hd) kk) k
  simp only [List.mem_cons] at hv
  rcases hv with e | e
  · exact Or.inr (Or.inr (by rw [e]; trivial))
  · exact Or.inl (by simp [e])
theorem jw_ior {x y : Int32} (hd : jmT M pc = some (.ior, 1))  (k : JW D d M pc' ls (vI (x ||| y) :: st) h Q) (hp : pc + 1 = pc' := by rfl) : JW D d M pc ls (vI y :: vI x :: st) h Q := by
  subst hp
  refine jw_op (fun v hv => ?_) (fun _ _ _ _ _ _ _ _ _ _ _ _ _ _ _ _ hx hb hdec hL kk => lv_ior hx hb (hdec _ _ hd) kk) k
  simp only [List.mem_cons] at hv
  rcases hv with e | e
  · exact Or.inr (Or.inr (by rw [e]; trivial))
  · exact Or.inl (by simp [e])
theorem jw_ixor {x y : Int32} (hd : jmT M pc = some (.ixor, 1))  (k : JW D d M pc' ls (vI (x ^^^ y) :: st) h Q) (hp : pc + 1 = pc' := by rfl) : JW D d M pc ls (vI y :: vI x :: st) h Q := by
  subst hp
  refine jw_op (fun v hv => ?_) (fun _ _ _ _ _ _ _ _ _ _ _ _ _ _ _ _ hx hb hdec hL kk => lv_ixor hx hb (hdec _ _ hd) kk) k
  simp only [List.mem_cons] at hv
  rcases hv with e | e
  · exact Or.inr (Or.inr (by rw [e]; trivial))
  · exact Or.inl (by simp [e])
theorem jw_ishl {x y : Int32} (hd : jmT M pc = some (.ishl, 1))  (k : JW D d M pc' ls (vI (x <<< (y &&& 31)) :: st) h Q) (hp : pc + 1 = pc' := by rfl) : JW D d M pc ls (vI y :: vI x :: st) h Q := by
  subst hp
  refine jw_op (fun v hv => ?_) (fun _ _ _ _ _ _ _ _ _ _ _ _ _ _ _ _ hx hb hdec hL kk => lv_ishl hx hb (hdec _ _ hd) kk) k
  simp only [List.mem_cons] at hv
  rcases hv with e | e
  · exact Or.inr (Or.inr (by rw [e]; trivial))
  · exact Or.inl (by simp [e])
theorem jw_ishr {x y : Int32} (hd : jmT M pc = some (.ishr, 1))  (k : JW D d M pc' ls (vI (x >>> (y &&& 31)) :: st) h Q) (hp : pc + 1 = pc' := by rfl) : JW D d M pc ls (vI y :: vI x :: st) h Q := by
  subst hp
  refine jw_op (fun v hv => ?_) (fun _ _ _ _ _ _ _ _ _ _ _ _ _ _ _ _ hx hb hdec hL kk => lv_ishr hx hb (hdec _ _ hd) kk) k
  simp only [List.mem_cons] at hv
  rcases hv with e | e
  · exact Or.inr (Or.inr (by rw [e]; trivial))
  · exact Or.inl (by simp [e])
theorem jw_idiv {x y : Int32} (hd : jmT M pc = some (.idiv, 1)) (hn : ¬ y = 0) (k : JW D d M pc' ls (vI (x / y) :: st) h Q) (hp : pc + 1 = pc' := by rfl) : JW D d M pc ls (vI y :: vI x :: st) h Q := by
  subst hp
  refine jw_op (fun v hv => ?_) (fun _ _ _ _ _ _ _ _ _ _ _ _ _ _ _ _ hx hb hdec hL kk => lv_idiv hx hb (hdec _ _ hd) hn kk) k
  simp only [List.mem_cons] at hv
  rcases hv with e | e
  · exact Or.inr (Or.inr (by rw [e]; trivial))
  · exact Or.inl (by simp [e])
theorem jw_irem {x y : Int32} (hd : jmT M pc = some (.irem, 1)) (hn : ¬ y = 0) (k : JW D d M pc' ls (vI (x - x / y * y) :: st) h Q) (hp : pc + 1 = pc' := by rfl) : JW D d M pc ls (vI y :: vI x :: st) h Q := by
  subst hp
  refine jw_op (fun v hv => ?_) (fun _ _ _ _ _ _ _ _ _ _ _ _ _ _ _ _ hx hb hdec hL kk => lv_irem hx hb (hdec _ _ hd) hn kk) k
  simp only [List.mem_cons] at hv
  rcases hv with e | e
  · exact Or.inr (Or.inr (by rw [e]; trivial))
  · exact Or.inl (by simp [e])
theorem jw_ineg {x : Int32} (hd : jmT M pc = some (.ineg, 1))  (k : JW D d M pc' ls (vI (-x) :: st) h Q) (hp : pc + 1 = pc' := by rfl) : JW D d M pc ls (vI x :: st) h Q := by
  subst hp
  refine jw_op (fun v hv => ?_) (fun _ _ _ _ _ _ _ _ _ _ _ _ _ _ _ _ hx hb hdec hL kk => lv_ineg hx hb (hdec _ _ hd) kk) k
  simp only [List.mem_cons] at hv
  rcases hv with e | e
  · exact Or.inr (Or.inr (by rw [e]; trivial))
  · exact Or.inl (by simp [e])
theorem jw_ladd {x y : Int64} (hd : jmT M pc = some (.ladd, 1))  (k : JW D d M pc' ls (vL (x + y) :: st) h Q) (hp : pc + 1 = pc' := by rfl) : JW D d M pc ls (vL y :: vL x :: st) h Q := by
  subst hp
  refine jw_op (fun v hv => ?_) (fun _ _ _ _ _ _ _ _ _ _ _ _ _ _ _ _ hx hb hdec hL kk => lv_ladd hx hb (hdec _ _ hd) kk) k
  simp only [List.mem_cons] at hv
  rcases hv with e | e
  · exact Or.inr (Or.inr (by rw [e]; trivial))
  · exact Or.inl (by simp [e])
theorem jw_lsub {x y : Int64} (hd : jmT M pc = some (.lsub, 1))  (k : JW D d M pc' ls (vL (x - y) :: st) h Q) (hp : pc + 1 = pc' := by rfl) : JW D d M pc ls (vL y :: vL x :: st) h Q := by
  subst hp
  refine jw_op (fun v hv => ?_) (fun _ _ _ _ _ _ _ _ _ _ _ _ _ _ _ _ hx hb hdec hL kk => lv_lsub hx hb (hdec _ _ hd) kk) k
  simp only [List.mem_cons] at hv
  rcases hv with e | e
  · exact Or.inr (Or.inr (by rw [e]; trivial))
  · exact Or.inl (by simp [e])
theorem jw_lmul {x y : Int64} (hd : jmT M pc = some (.lmul, 1))  (k : JW D d M pc' ls (vL (x * y) :: st) h Q) (hp : pc + 1 = pc' := by rfl) : JW D d M pc ls (vL y :: vL x :: st) h Q := by
  subst hp
  refine jw_op (fun v hv => ?_) (fun _ _ _ _ _ _ _ _ _ _ _ _ _ _ _ _ hx hb hdec hL kk => lv_lmul hx hb (hdec _ _ hd) kk) k
  simp only [List.mem_cons] at hv
  rcases hv with e | e
  · exact Or.inr (Or.inr (by rw [e]; trivial))
  · exact Or.inl (by simp [e])
theorem jw_land {x y : Int64} (hd : jmT M pc = some (.land, 1))  (k : JW D d M pc' ls (vL (x &&& y) :: st) h Q) (hp : pc + 1 = pc' := by rfl) : JW D d M pc ls (vL y :: vL x :: st) h Q := by
  subst hp
  refine jw_op (fun v hv => ?_) (fun _ _ _ _ _ _ _ _ _ _ _ _ _ _ _ _ hx hb hdec hL kk => lv_land hx hb (hdec _ _ hd) kk) k
  simp only [List.mem_cons] at hv
  rcases hv with e | e
  · exact Or.inr (Or.inr (by rw [e]; trivial))
  · exact Or.inl (by simp [e])
theorem jw_lor {x y : Int64} (hd : jmT M pc = some (.lor, 1))  (k : JW D d M pc' ls (vL (x ||| y) :: st) h Q) (hp : pc + 1 = pc' := by rfl) : JW D d M pc ls (vL y :: vL x :: st) h Q := by
  subst hp
  refine jw_op (fun v hv => ?_) (fun _ _ _ _ _ _ _ _ _ _ _ _ _ _ _ _ hx hb hdec hL kk => lv_lor hx hb (hdec _ _ hd) kk) k
  simp only [List.mem_cons] at hv
  rcases hv with e | e
  · exact Or.inr (Or.inr (by rw [e]; trivial))
  · exact Or.inl (by simp [e])
theorem jw_lxor {x y : Int64} (hd : jmT M pc = some (.lxor, 1))  (k : JW D d M pc' ls (vL (x ^^^ y) :: st) h Q) (hp : pc + 1 = pc' := by rfl) : JW D d M pc ls (vL y :: vL x :: st) h Q := by
  subst hp
  refine jw_op (fun v hv => ?_) (fun _ _ _ _ _ _ _ _ _ _ _ _ _ _ _ _ hx hb hdec hL kk => lv_lxor hx hb (hdec _ _ hd) kk) k
  simp only [List.mem_cons] at hv
  rcases hv with e | e
  · exact Or.inr (Or.inr (by rw [e]; trivial))
  · exact Or.inl (by simp [e])
theorem jw_ldiv {x y : Int64} (hd : jmT M pc = some (.ldiv, 1)) (hn : ¬ y = 0) (k : JW D d M pc' ls (vL (x / y) :: st) h Q) (hp : pc + 1 = pc' := by rfl) : JW D d M pc ls (vL y :: vL x :: st) h Q := by
  subst hp
  refine jw_op (fun v hv => ?_) (fun _ _ _ _ _ _ _ _ _ _ _ _ _ _ _ _ hx hb hdec hL kk => lv_ldiv hx hb (hdec _ _ hd) hn kk) k
  simp only [List.mem_cons] at hv
  rcases hv with e | e
  · exact Or.inr (Or.inr (by rw [e]; trivial))
  · exact Or.inl (by simp [e])
theorem jw_lrem {x y : Int64} (hd : jmT M pc = some (.lrem, 1)) (hn : ¬ y = 0) (k : JW D d M pc' ls (vL (x - x / y * y) :: st) h Q) (hp : pc + 1 = pc' := by rfl) : JW D d M pc ls (vL y :: vL x :: st) h Q := by
  subst hp
  refine jw_op (fun v hv => ?_) (fun _ _ _ _ _ _ _ _ _ _ _ _ _ _ _ _ hx hb hdec hL kk => lv_lrem hx hb (hdec _ _ hd) hn kk) k
  simp only [List.mem_cons] at hv
  rcases hv with e | e
  · exact Or.inr (Or.inr (by rw [e]; trivial))
  · exact Or.inl (by simp [e])
theorem jw_lneg {x : Int64} (hd : jmT M pc = some (.lneg, 1))  (k : JW D d M pc' ls (vL (-x) :: st) h Q) (hp : pc + 1 = pc' := by rfl) : JW D d M pc ls (vL x :: st) h Q := by
  subst hp
  refine jw_op (fun v hv => ?_) (fun _ _ _ _ _ _ _ _ _ _ _ _ _ _ _ _ hx hb hdec hL kk => lv_lneg hx hb (hdec _ _ hd) kk) k
  simp only [List.mem_cons] at hv
  rcases hv with e | e
  · exact Or.inr (Or.inr (by rw [e]; trivial))
  · exact Or.inl (by simp [e])
theorem jw_iushr {x : Int32} {y : Int32} (hd : jmT M pc = some (.iushr, 1))  (k : JW D d M pc' ls (vI ((x.toUInt32 >>> (y.toUInt32 &&& Int32.toUInt32 31)).toInt32) :: st) h Q) (hp : pc + 1 = pc' := by rfl) : JW D d M pc ls (vI y :: vI x :: st) h Q := by
  subst hp
  refine jw_op (fun v hv => ?_) (fun _ _ _ _ _ _ _ _ _ _ _ _ _ _ _ _ hx hb hdec hL kk => lv_iushr hx hb (hdec _ _ hd) rfl kk) k
  simp only [List.mem_cons] at hv
  rcases hv with e | e
  · exact Or.inr (Or.inr (by rw [e]; trivial))
  · exact Or.inl (by simp [e])
theorem jw_lushr {x : Int64} {y : Int32} (hd : jmT M pc = some (.lushr, 1))  (k : JW D d M pc' ls (vL ((x.toUInt64 >>> (y.toInt64.toUInt64 &&& Int64.toUInt64 63)).toInt64) :: st) h Q) (hp : pc + 1 = pc' := by rfl) : JW D d M pc ls (vI y :: vL x :: st) h Q := by
  subst hp
  refine jw_op (fun v hv => ?_) (fun _ _ _ _ _ _ _ _ _ _ _ _ _ _ _ _ hx hb hdec hL kk => lv_lushr hx hb (hdec _ _ hd) rfl kk) k
  simp only [List.mem_cons] at hv
  rcases hv with e | e
  · exact Or.inr (Or.inr (by rw [e]; trivial))
  · exact Or.inl (by simp [e])
theorem jw_lshl {x : Int64} {y : Int32} (hd : jmT M pc = some (.lshl, 1))  (k : JW D d M pc' ls (vL (x <<< (y.toInt64 &&& 63)) :: st) h Q) (hp : pc + 1 = pc' := by rfl) : JW D d M pc ls (vI y :: vL x :: st) h Q := by
  subst hp
  refine jw_op (fun v hv => ?_) (fun _ _ _ _ _ _ _ _ _ _ _ _ _ _ _ _ hx hb hdec hL kk => lv_lshl hx hb (hdec _ _ hd) rfl kk) k
  simp only [List.mem_cons] at hv
  rcases hv with e | e
  · exact Or.inr (Or.inr (by rw [e]; trivial))
  · exact Or.inl (by simp [e])
theorem jw_lshr {x : Int64} {y : Int32} (hd : jmT M pc = some (.lshr, 1))  (k : JW D d M pc' ls (vL (x >>> (y.toInt64 &&& 63)) :: st) h Q) (hp : pc + 1 = pc' := by rfl) : JW D d M pc ls (vI y :: vL x :: st) h Q := by
  subst hp
  refine jw_op (fun v hv => ?_) (fun _ _ _ _ _ _ _ _ _ _ _ _ _ _ _ _ hx hb hdec hL kk => lv_lshr hx hb (hdec _ _ hd) rfl kk) k
  simp only [List.mem_cons] at hv
  rcases hv with e | e
  · exact Or.inr (Or.inr (by rw [e]; trivial))
  · exact Or.inl (by simp [e])
theorem jw_i2l {x : Int32} (hd : jmT M pc = some (.i2l, 1))  (k : JW D d M pc' ls (vL (x.toInt64) :: st) h Q) (hp : pc + 1 = pc' := by rfl) : JW D d M pc ls (vI x :: st) h Q := by
  subst hp
  refine jw_op (fun v hv => ?_) (fun _ _ _ _ _ _ _ _ _ _ _ _ _ _ _ _ hx hb hdec hL kk => lv_i2l hx hb (hdec _ _ hd) rfl kk) k
  simp only [List.mem_cons] at hv
  rcases hv with e | e
  · exact Or.inr (Or.inr (by rw [e]; trivial))
  · exact Or.inl (by simp [e])
theorem jw_l2i {x : Int64} (hd : jmT M pc = some (.l2i, 1))  (k : JW D d M pc' ls (vI (x.toInt32) :: st) h Q) (hp : pc + 1 = pc' := by rfl) : JW D d M pc ls (vL x :: st) h Q := by
  subst hp
  refine jw_op (fun v hv => ?_) (fun _ _ _ _ _ _ _ _ _ _ _ _ _ _ _ _ hx hb hdec hL kk => lv_l2i hx hb (hdec _ _ hd) rfl kk) k
  simp only [List.mem_cons] at hv
  rcases hv with e | e
  · exact Or.inr (Or.inr (by rw [e]; trivial))
  · exact Or.inl (by simp [e])
theorem jw_i2b {x : Int32} (hd : jmT M pc = some (.i2b, 1))  (k : JW D d M pc' ls (vI (x.toInt8.toInt32) :: st) h Q) (hp : pc + 1 = pc' := by rfl) : JW D d M pc ls (vI x :: st) h Q := by
  subst hp
  refine jw_op (fun v hv => ?_) (fun _ _ _ _ _ _ _ _ _ _ _ _ _ _ _ _ hx hb hdec hL kk => lv_i2b hx hb (hdec _ _ hd) rfl kk) k
  simp only [List.mem_cons] at hv
  rcases hv with e | e
  · exact Or.inr (Or.inr (by rw [e]; trivial))
  · exact Or.inl (by simp [e])
theorem jw_i2s {x : Int32} (hd : jmT M pc = some (.i2s, 1))  (k : JW D d M pc' ls (vI (x.toInt16.toInt32) :: st) h Q) (hp : pc + 1 = pc' := by rfl) : JW D d M pc ls (vI x :: st) h Q := by
  subst hp
  refine jw_op (fun v hv => ?_) (fun _ _ _ _ _ _ _ _ _ _ _ _ _ _ _ _ hx hb hdec hL kk => lv_i2s hx hb (hdec _ _ hd) rfl kk) k
  simp only [List.mem_cons] at hv
  rcases hv with e | e
  · exact Or.inr (Or.inr (by rw [e]; trivial))
  · exact Or.inl (by simp [e])
theorem jw_i2c {x : Int32} (hd : jmT M pc = some (.i2c, 1))  (k : JW D d M pc' ls (vI ((x.toUInt32 % 65536).toInt32) :: st) h Q) (hp : pc + 1 = pc' := by rfl) : JW D d M pc ls (vI x :: st) h Q := by
  subst hp
  refine jw_op (fun v hv => ?_) (fun _ _ _ _ _ _ _ _ _ _ _ _ _ _ _ _ hx hb hdec hL kk => lv_i2c hx hb (hdec _ _ hd) rfl kk) k
  simp only [List.mem_cons] at hv
  rcases hv with e | e
  · exact Or.inr (Or.inr (by rw [e]; trivial))
  · exact Or.inl (by simp [e])
theorem jw_lcmp {x y : Int64} (hd : jmT M pc = some (.lcmp, 1))  (k : JW D d M pc' ls (vI (lg_cmp x y) :: st) h Q) (hp : pc + 1 = pc' := by rfl) : JW D d M pc ls (vL y :: vL x :: st) h Q := by
  subst hp
  refine jw_op (fun v hv => ?_) (fun _ _ _ _ _ _ _ _ _ _ _ _ _ _ _ _ hx hb hdec hL kk => W.lcmp hx hb (hdec _ _ hd) kk) k
  simp only [List.mem_cons] at hv
  rcases hv with e | e
  · exact Or.inr (Or.inr (by rw [e]; trivial))
  · exact Or.inl (by simp [e])
theorem jw_dup {a : JV} (hd : jmT M pc = some (.dup, 1)) (hc : jct a = 1) (k : JW D d M pc' ls (a :: a :: st) h Q) (hp : pc + 1 = pc' := by rfl) : JW D d M pc ls (a :: st) h Q := by
  subst hp
  refine jw_op (fun v hv => ?_) (fun _ _ _ _ _ _ _ _ _ _ _ _ _ _ _ _ hx hb hdec hL kk => lv_dup hx hb (hdec _ _ hd) ((vv_cat _).trans hc) kk) k
  simp only [List.mem_cons] at hv
  rcases hv with e | e | e
  · exact Or.inl (by simp [e])
  · exact Or.inl (by simp [e])
  · exact Or.inl (by simp [e])
theorem jw_pop {a : JV} (hd : jmT M pc = some (.pop, 1)) (hc : jct a = 1) (k : JW D d M pc' ls (st) h Q) (hp : pc + 1 = pc' := by rfl) : JW D d M pc ls (a :: st) h Q := by
  subst hp
  refine jw_op (fun v hv => ?_) (fun _ _ _ _ _ _ _ _ _ _ _ _ _ _ _ _ hx hb hdec hL kk => lv_pop hx hb (hdec _ _ hd) ((vv_cat _).trans hc) kk) k
  exact Or.inl (by simp [hv])
theorem jw_dup_x1 {a b : JV} (hd : jmT M pc = some (.dup_x1, 1)) (hc : jct a = 1) (hc2 : jct b = 1) (k : JW D d M pc' ls (a :: b :: a :: st) h Q) (hp : pc + 1 = pc' := by rfl) : JW D d M pc ls (a :: b :: st) h Q := by
  subst hp
  refine jw_op (fun v hv => ?_) (fun _ _ _ _ _ _ _ _ _ _ _ _ _ _ _ _ hx hb hdec hL kk => lv_dup_x1 hx hb (hdec _ _ hd) ((vv_cat _).trans hc) ((vv_cat _).trans hc2) kk) k
  simp only [List.mem_cons] at hv
  rcases hv with e | e | e | e
  · exact Or.inl (by simp [e])
  · exact Or.inl (by simp [e])
  · exact Or.inl (by simp [e])
  · exact Or.inl (by simp [e])
theorem jw_dup_x2 {a b c : JV} (hd : jmT M pc = some (.dup_x2, 1)) (hc : jct a = 1) (hc2 : jct b = 1) (hc3 : jct c = 1) (k : JW D d M pc' ls (a :: b :: c :: a :: st) h Q) (hp : pc + 1 = pc' := by rfl) : JW D d M pc ls (a :: b :: c :: st) h Q := by
  subst hp
  refine jw_op (fun v hv => ?_) (fun _ _ _ _ _ _ _ _ _ _ _ _ _ _ _ _ hx hb hdec hL kk => lv_dup_x2 hx hb (hdec _ _ hd) ((vv_cat _).trans hc) ((vv_cat _).trans hc2) ((vv_cat _).trans hc3) kk) k
  simp only [List.mem_cons] at hv
  rcases hv with e | e | e | e | e
  · exact Or.inl (by simp [e])
  · exact Or.inl (by simp [e])
  · exact Or.inl (by simp [e])
  · exact Or.inl (by simp [e])
  · exact Or.inl (by simp [e])
theorem jw_dup2 {a b : JV} (hd : jmT M pc = some (.dup2, 1)) (hc : jct a = 1) (hc2 : jct b = 1) (k : JW D d M pc' ls (a :: b :: a :: b :: st) h Q) (hp : pc + 1 = pc' := by rfl) : JW D d M pc ls (a :: b :: st) h Q := by
  subst hp
  refine jw_op (fun v hv => ?_) (fun _ _ _ _ _ _ _ _ _ _ _ _ _ _ _ _ hx hb hdec hL kk => lv_dup2_11 hx hb (hdec _ _ hd) ((vv_cat _).trans hc) ((vv_cat _).trans hc2) kk) k
  simp only [List.mem_cons] at hv
  rcases hv with e | e | e | e | e
  · exact Or.inl (by simp [e])
  · exact Or.inl (by simp [e])
  · exact Or.inl (by simp [e])
  · exact Or.inl (by simp [e])
  · exact Or.inl (by simp [e])
theorem jw_dup2l {a : JV} (hd : jmT M pc = some (.dup2, 1)) (hc : jct a = 2) (k : JW D d M pc' ls (a :: a :: st) h Q) (hp : pc + 1 = pc' := by rfl) : JW D d M pc ls (a :: st) h Q := by
  subst hp
  refine jw_op (fun v hv => ?_) (fun _ _ _ _ _ _ _ _ _ _ _ _ _ _ _ _ hx hb hdec hL kk => lv_dup2_2 hx hb (hdec _ _ hd) ((vv_cat _).trans hc) kk) k
  simp only [List.mem_cons] at hv
  rcases hv with e | e | e
  · exact Or.inl (by simp [e])
  · exact Or.inl (by simp [e])
  · exact Or.inl (by simp [e])
theorem jw_goto {off : Int} (hd : jmT M pc = some (.goto off, 3)) (ht : (pc : Int) + off = (pc' : Int)) (k : JW D d M pc' ls st h Q) : JW D d M pc ls st h Q :=
  jw_op (fun v hv => Or.inl hv) (fun _ _ _ _ _ _ _ _ _ _ _ _ _ _ _ _ hx hb hdec hL kk => lv_goto hx hb (hdec _ _ hd) ht kk) k
theorem jw_if_eq {tgt : Nat} {x : Int32} {off : Int} (hd : jmT M pc = some (.ifCond .eq off, 3)) (ht : (pc : Int) + off = (tgt : Int)) (kt : x = 0 → JW D d M tgt ls st h Q) (kf : ¬ x = 0 → JW D d M pc' ls st h Q) (hp : pc + 3 = pc' := by rfl) : JW D d M pc ls (vI x :: st) h Q := by
  subst hp
  by_cases hc : x = 0
  · exact jw_op (fun v hv => Or.inl (by simp [hv])) (fun _ _ _ _ _ _ _ _ _ _ _ _ _ _ _ _ hx hb hdec hL kk => lv_if_eq hx hb (hdec _ _ hd) ht (fun _ => kk) (fun q => absurd hc q)) (kt hc)
  · exact jw_op (fun v hv => Or.inl (by simp [hv])) (fun _ _ _ _ _ _ _ _ _ _ _ _ _ _ _ _ hx hb hdec hL kk => lv_if_eq hx hb (hdec _ _ hd) ht (fun q => absurd q hc) (fun _ => kk)) (kf hc)
theorem jw_if_ne {tgt : Nat} {x : Int32} {off : Int} (hd : jmT M pc = some (.ifCond .ne off, 3)) (ht : (pc : Int) + off = (tgt : Int)) (kt : ¬ x = 0 → JW D d M tgt ls st h Q) (kf : x = 0 → JW D d M pc' ls st h Q) (hp : pc + 3 = pc' := by rfl) : JW D d M pc ls (vI x :: st) h Q := by
  subst hp
  by_cases hc : x = 0
  · exact jw_op (fun v hv => Or.inl (by simp [hv])) (fun _ _ _ _ _ _ _ _ _ _ _ _ _ _ _ _ hx hb hdec hL kk => lv_if_ne hx hb (hdec _ _ hd) ht (fun q => absurd hc q) (fun _ => kk)) (kf hc)
  · exact jw_op (fun v hv => Or.inl (by simp [hv])) (fun _ _ _ _ _ _ _ _ _ _ _ _ _ _ _ _ hx hb hdec hL kk => lv_if_ne hx hb (hdec _ _ hd) ht (fun _ => kk) (fun q => absurd q hc)) (kt hc)
theorem jw_if_lt {tgt : Nat} {x : Int32} {off : Int} (hd : jmT M pc = some (.ifCond .lt off, 3)) (ht : (pc : Int) + off = (tgt : Int)) (kt : x < 0 → JW D d M tgt ls st h Q) (kf : ¬ x < 0 → JW D d M pc' ls st h Q) (hp : pc + 3 = pc' := by rfl) : JW D d M pc ls (vI x :: st) h Q := by
  subst hp
  by_cases hc : x < 0
  · exact jw_op (fun v hv => Or.inl (by simp [hv])) (fun _ _ _ _ _ _ _ _ _ _ _ _ _ _ _ _ hx hb hdec hL kk => lv_if_lt hx hb (hdec _ _ hd) ht (fun _ => kk) (fun q => absurd hc q)) (kt hc)
  · exact jw_op (fun v hv => Or.inl (by simp [hv])) (fun _ _ _ _ _ _ _ _ _ _ _ _ _ _ _ _ hx hb hdec hL kk => lv_if_lt hx hb (hdec _ _ hd) ht (fun q => absurd q hc) (fun _ => kk)) (kf hc)
theorem jw_if_ge {tgt : Nat} {x : Int32} {off : Int} (hd : jmT M pc = some (.ifCond .ge off, 3)) (ht : (pc : Int) + off = (tgt : Int)) (kt : 0 ≤ x → JW D d M tgt ls st h Q) (kf : ¬ 0 ≤ x → JW D d M pc' ls st h Q) (hp : pc + 3 = pc' := by rfl) : JW D d M pc ls (vI x :: st) h Q := by
  subst hp
  by_cases hc : 0 ≤ x
  · exact jw_op (fun v hv => Or.inl (by simp [hv])) (fun _ _ _ _ _ _ _ _ _ _ _ _ _ _ _ _ hx hb hdec hL kk => lv_if_ge hx hb (hdec _ _ hd) ht (fun _ => kk) (fun q => absurd hc q)) (kt hc)
  · exact jw_op (fun v hv => Or.inl (by simp [hv])) (fun _ _ _ _ _ _ _ _ _ _ _ _ _ _ _ _ hx hb hdec hL kk => lv_if_ge hx hb (hdec _ _ hd) ht (fun q => absurd q hc) (fun _ => kk)) (kf hc)
theorem jw_if_gt {tgt : Nat} {x : Int32} {off : Int} (hd : jmT M pc = some (.ifCond .gt off, 3)) (ht : (pc : Int) + off = (tgt : Int)) (kt : 0 < x → JW D d M tgt ls st h Q) (kf : ¬ 0 < x → JW D d M pc' ls st h Q) (hp : pc + 3 = pc' := by rfl) : JW D d M pc ls (vI x :: st) h Q := by
  subst hp
  by_cases hc : 0 < x
  · exact jw_op (fun v hv => Or.inl (by simp [hv])) (fun _ _ _ _ _ _ _ _ _ _ _ _ _ _ _ _ hx hb hdec hL kk => lv_if_gt hx hb (hdec _ _ hd) ht (fun _ => kk) (fun q => absurd hc q)) (kt hc)
  · exact jw_op (fun v hv => Or.inl (by simp [hv])) (fun _ _ _ _ _ _ _ _ _ _ _ _ _ _ _ _ hx hb hdec hL kk => lv_if_gt hx hb (hdec _ _ hd) ht (fun q => absurd q hc) (fun _ => kk)) (kf hc)
theorem jw_if_le {tgt : Nat} {x : Int32} {off : Int} (hd : jmT M pc = some (.ifCond .le off, 3)) (ht : (pc : Int) + off = (tgt : Int)) (kt : x ≤ 0 → JW D d M tgt ls st h Q) (kf : ¬ x ≤ 0 → JW D d M pc' ls st h Q) (hp : pc + 3 = pc' := by rfl) : JW D d M pc ls (vI x :: st) h Q := by
  subst hp
  by_cases hc : x ≤ 0
  · exact jw_op (fun v hv => Or.inl (by simp [hv])) (fun _ _ _ _ _ _ _ _ _ _ _ _ _ _ _ _ hx hb hdec hL kk => lv_if_le hx hb (hdec _ _ hd) ht (fun _ => kk) (fun q => absurd hc q)) (kt hc)
  · exact jw_op (fun v hv => Or.inl (by simp [hv])) (fun _ _ _ _ _ _ _ _ _ _ _ _ _ _ _ _ hx hb hdec hL kk => lv_if_le hx hb (hdec _ _ hd) ht (fun q => absurd q hc) (fun _ => kk)) (kf hc)
theorem jw_icmp_eq {tgt : Nat} {x y : Int32} {off : Int} (hd : jmT M pc = some (.if_icmp .eq off, 3)) (ht : (pc : Int) + off = (tgt : Int)) (kt : x = y → JW D d M tgt ls st h Q) (kf : ¬ x = y → JW D d M pc' ls st h Q) (hp : pc + 3 = pc' := by rfl) : JW D d M pc ls (vI y :: vI x :: st) h Q := by
  subst hp
  by_cases hc : x = y
  · exact jw_op (fun v hv => Or.inl (by simp [hv])) (fun _ _ _ _ _ _ _ _ _ _ _ _ _ _ _ _ hx hb hdec hL kk => lv_icmp_eq hx hb (hdec _ _ hd) ht (fun _ => kk) (fun q => absurd hc q)) (kt hc)
  · exact jw_op (fun v hv => Or.inl (by simp [hv])) (fun _ _ _ _ _ _ _ _ _ _ _ _ _ _ _ _ hx hb hdec hL kk => lv_icmp_eq hx hb (hdec _ _ hd) ht (fun q => absurd q hc) (fun _ => kk)) (kf hc)
theorem jw_icmp_ne {tgt : Nat} {x y : Int32} {off : Int} (hd : jmT M pc = some (.if_icmp .ne off, 3)) (ht : (pc : Int) + off = (tgt : Int)) (kt : ¬ x = y → JW D d M tgt ls st h Q) (kf : x = y → JW D d M pc' ls st h Q) (hp : pc + 3 = pc' := by rfl) : JW D d M pc ls (vI y :: vI x :: st) h Q := by
  subst hp
  by_cases hc : x = y
  · exact jw_op (fun v hv => Or.inl (by simp [hv])) (fun _ _ _ _ _ _ _ _ _ _ _ _ _ _ _ _ hx hb hdec hL kk => lv_icmp_ne hx hb (hdec _ _ hd) ht (fun q => absurd hc q) (fun _ => kk)) (kf hc)
  · exact jw_op (fun v hv => Or.inl (by simp [hv])) (fun _ _ _ _ _ _ _ _ _ _ _ _ _ _ _ _ hx hb hdec hL kk => lv_icmp_ne hx hb (hdec _ _ hd) ht (fun _ => kk) (fun q => absurd q hc)) (kt hc)
theorem jw_icmp_lt {tgt : Nat} {x y : Int32} {off : Int} (hd : jmT M pc = some (.if_icmp .lt off, 3)) (ht : (pc : Int) + off = (tgt : Int)) (kt : x < y → JW D d M tgt ls st h Q) (kf : ¬ x < y → JW D d M pc' ls st h Q) (hp : pc + 3 = pc' := by rfl) : JW D d M pc ls (vI y :: vI x :: st) h Q := by
  subst hp
  by_cases hc : x < y
  · exact jw_op (fun v hv => Or.inl (by simp [hv])) (fun _ _ _ _ _ _ _ _ _ _ _ _ _ _ _ _ hx hb hdec hL kk => lv_icmp_lt hx hb (hdec _ _ hd) ht (fun _ => kk) (fun q => absurd hc q)) (kt hc)
  · exact jw_op (fun v hv => Or.inl (by simp [hv])) (fun _ _ _ _ _ _ _ _ _ _ _ _ _ _ _ _ hx hb hdec hL kk => lv_icmp_lt hx hb (hdec _ _ hd) ht (fun q => absurd q hc) (fun _ => kk)) (kf hc)
theorem jw_icmp_ge {tgt : Nat} {x y : Int32} {off : Int} (hd : jmT M pc = some (.if_icmp .ge off, 3)) (ht : (pc : Int) + off = (tgt : Int)) (kt : y ≤ x → JW D d M tgt ls st h Q) (kf : ¬ y ≤ x → JW D d M pc' ls st h Q) (hp : pc + 3 = pc' := by rfl) : JW D d M pc ls (vI y :: vI x :: st) h Q := by
  subst hp
  by_cases hc : y ≤ x
  · exact jw_op (fun v hv => Or.inl (by simp [hv])) (fun _ _ _ _ _ _ _ _ _ _ _ _ _ _ _ _ hx hb hdec hL kk => lv_icmp_ge hx hb (hdec _ _ hd) ht (fun _ => kk) (fun q => absurd hc q)) (kt hc)
  · exact jw_op (fun v hv => Or.inl (by simp [hv])) (fun _ _ _ _ _ _ _ _ _ _ _ _ _ _ _ _ hx hb hdec hL kk => lv_icmp_ge hx hb (hdec _ _ hd) ht (fun q => absurd q hc) (fun _ => kk)) (kf hc)
theorem jw_icmp_gt {tgt : Nat} {x y : Int32} {off : Int} (hd : jmT M pc = some (.if_icmp .gt off, 3)) (ht : (pc : Int) + off = (tgt : Int)) (kt : y < x → JW D d M tgt ls st h Q) (kf : ¬ y < x → JW D d M pc' ls st h Q) (hp : pc + 3 = pc' := by rfl) : JW D d M pc ls (vI y :: vI x :: st) h Q := by
  subst hp
  by_cases hc : y < x
  · exact jw_op (fun v hv => Or.inl (by simp [hv])) (fun _ _ _ _ _ _ _ _ _ _ _ _ _ _ _ _ hx hb hdec hL kk => lv_icmp_gt hx hb (hdec _ _ hd) ht (fun _ => kk) (fun q => absurd hc q)) (kt hc)
  · exact jw_op (fun v hv => Or.inl (by simp [hv])) (fun _ _ _ _ _ _ _ _ _ _ _ _ _ _ _ _ hx hb hdec hL kk => lv_icmp_gt hx hb (hdec _ _ hd) ht (fun q => absurd q hc) (fun _ => kk)) (kf hc)
theorem jw_icmp_le {tgt : Nat} {x y : Int32} {off : Int} (hd : jmT M pc = some (.if_icmp .le off, 3)) (ht : (pc : Int) + off = (tgt : Int)) (kt : x ≤ y → JW D d M tgt ls st h Q) (kf : ¬ x ≤ y → JW D d M pc' ls st h Q) (hp : pc + 3 = pc' := by rfl) : JW D d M pc ls (vI y :: vI x :: st) h Q := by
  subst hp
  by_cases hc : x ≤ y
  · exact jw_op (fun v hv => Or.inl (by simp [hv])) (fun _ _ _ _ _ _ _ _ _ _ _ _ _ _ _ _ hx hb hdec hL kk => lv_icmp_le hx hb (hdec _ _ hd) ht (fun _ => kk) (fun q => absurd hc q)) (kt hc)
  · exact jw_op (fun v hv => Or.inl (by simp [hv])) (fun _ _ _ _ _ _ _ _ _ _ _ _ _ _ _ _ hx hb hdec hL kk => lv_icmp_le hx hb (hdec _ _ hd) ht (fun q => absurd q hc) (fun _ => kk)) (kf hc)
theorem jw_ifnull {tgt t r : Nat} {off : Int} (hd : jmT M pc = some (.ifnull off, 3)) (ht : (pc : Int) + off = (tgt : Int)) (kt : r = 0 → JW D d M tgt ls st h Q) (kf : r ≠ 0 → JW D d M pc' ls st h Q) (hp : pc + 3 = pc' := by rfl) : JW D d M pc ls (vR t r :: st) h Q := by
  subst hp
  cases r with
  | zero => exact jw_op (fun v hv => Or.inl (by simp [hv])) (fun _ _ _ _ _ _ _ _ _ _ _ _ _ _ _ _ hx hb hdec hL kk => lv_ifnullN hx hb (hdec _ _ hd) ht kk) (kt rfl)
  | succ a => exact jw_op (fun v hv => Or.inl (by simp [hv])) (fun _ _ _ _ _ _ _ _ _ _ _ _ _ _ _ _ hx hb hdec hL kk => lv_ifnull hx hb (hdec _ _ hd) kk) (kf (Nat.succ_ne_zero a))
theorem jw_ifnonnull {tgt t r : Nat} {off : Int} (hd : jmT M pc = some (.ifnonnull off, 3)) (ht : (pc : Int) + off = (tgt : Int)) (kt : r ≠ 0 → JW D d M tgt ls st h Q) (kf : r = 0 → JW D d M pc' ls st h Q) (hp : pc + 3 = pc' := by rfl) : JW D d M pc ls (vR t r :: st) h Q := by
  subst hp
  cases r with
  | zero => exact jw_op (fun v hv => Or.inl (by simp [hv])) (fun _ _ _ _ _ _ _ _ _ _ _ _ _ _ _ _ hx hb hdec hL kk => lv_ifnonnullN hx hb (hdec _ _ hd) kk) (kf rfl)
  | succ a => exact jw_op (fun v hv => Or.inl (by simp [hv])) (fun _ _ _ _ _ _ _ _ _ _ _ _ _ _ _ _ hx hb hdec hL kk => lv_ifnonnull hx hb (hdec _ _ hd) ht kk) (kt (Nat.succ_ne_zero a))
def jop : Nat → Option Nat
  | 0 => none
  | a + 1 => some a
theorem jop_rf (r : Nat) : va_rf (jop r) = rv r := by cases r <;> rfl
theorem jop_inj {a b : Nat} : jop a = jop b ↔ a = b := by cases a <;> cases b <;> simp [jop]
theorem jw_acmp_eq {tgt t u a b : Nat} {off : Int} (hd : jmT M pc = some (.if_acmp .eq off, 3)) (ht : (pc : Int) + off = (tgt : Int)) (kt : a = b → JW D d M tgt ls st h Q) (kf : ¬ a = b → JW D d M pc' ls st h Q) (hp : pc + 3 = pc' := by rfl) : JW D d M pc ls (vR u b :: vR t a :: st) h Q := by
  subst hp
  by_cases hc : a = b
  · refine jw_op (fun v hv => Or.inl (by simp [hv])) (fun _ _ _ _ _ _ _ _ _ _ _ _ _ _ _ _ hx hb hdec hL kk => ?_) (kt hc)
    show W _ _ _ _ _ _ _ _ _ _ _ _ _ _ _ (F0 _ pc _ (rv b :: rv a :: st.map vv))
    rw [← jop_rf b, ← jop_rf a]
    exact lv_acmp_eq hx hb (hdec _ _ hd) ht (fun _ => kk) (fun q => absurd (jop_inj.mpr hc) q)
  · refine jw_op (fun v hv => Or.inl (by simp [hv])) (fun _ _ _ _ _ _ _ _ _ _ _ _ _ _ _ _ hx hb hdec hL kk => ?_) (kf hc)
    show W _ _ _ _ _ _ _ _ _ _ _ _ _ _ _ (F0 _ pc _ (rv b :: rv a :: st.map vv))
    rw [← jop_rf b, ← jop_rf a]
    exact lv_acmp_eq hx hb (hdec _ _ hd) ht (fun q => absurd (jop_inj.mp q) hc) (fun _ => kk)
theorem jw_acmp_ne {tgt t u a b : Nat} {off : Int} (hd : jmT M pc = some (.if_acmp .ne off, 3)) (ht : (pc : Int) + off = (tgt : Int)) (kt : ¬ a = b → JW D d M tgt ls st h Q) (kf : a = b → JW D d M pc' ls st h Q) (hp : pc + 3 = pc' := by rfl) : JW D d M pc ls (vR u b :: vR t a :: st) h Q := by
  subst hp
  by_cases hc : a = b
  · refine jw_op (fun v hv => Or.inl (by simp [hv])) (fun _ _ _ _ _ _ _ _ _ _ _ _ _ _ _ _ hx hb hdec hL kk => ?_) (kf hc)
    show W _ _ _ _ _ _ _ _ _ _ _ _ _ _ _ (F0 _ pc _ (rv b :: rv a :: st.map vv))
    rw [← jop_rf b, ← jop_rf a]
    exact lv_acmp_ne hx hb (hdec _ _ hd) ht (fun q => absurd (jop_inj.mpr hc) q) (fun _ => kk)
  · refine jw_op (fun v hv => Or.inl (by simp [hv])) (fun _ _ _ _ _ _ _ _ _ _ _ _ _ _ _ _ hx hb hdec hL kk => ?_) (kt hc)
    show W _ _ _ _ _ _ _ _ _ _ _ _ _ _ _ (F0 _ pc _ (rv b :: rv a :: st.map vv))
    rw [← jop_rf b, ← jop_rf a]
    exact lv_acmp_ne hx hb (hdec _ _ hd) ht (fun _ => kk) (fun q => absurd (jop_inj.mp q) hc)
theorem jw_tblO {tgt len : Nat} {dflt lo hi : Int} {offs : Array Int} {x : Int32} (hd : jmT M pc = some (.tableswitch dflt lo hi offs, len)) (hx : x.toInt < lo ∨ hi < x.toInt) (ht : (pc : Int) + dflt = (tgt : Int)) (k : JW D d M tgt ls st h Q) : JW D d M pc ls (vI x :: st) h Q :=
  jw_op (fun v hv => Or.inl (by simp [hv])) (fun _ _ _ _ _ _ _ _ _ _ _ _ _ _ _ _ hx0 hb hdec hL kk => lv_tableOut hx0 hb (hdec _ _ hd) hx ht kk) k
theorem jw_tblI {tgt len : Nat} {dflt lo hi off : Int} {offs : Array Int} {x : Int32} (hd : jmT M pc = some (.tableswitch dflt lo hi offs, len)) (h1 : ¬ x.toInt < lo) (h2 : ¬ hi < x.toInt) (ho : offs[(x.toInt - lo).toNat]? = some off) (ht : (pc : Int) + off = (tgt : Int)) (k : JW D d M tgt ls st h Q) : JW D d M pc ls (vI x :: st) h Q :=
  jw_op (fun v hv => Or.inl (by simp [hv])) (fun _ _ _ _ _ _ _ _ _ _ _ _ _ _ _ _ hx0 hb hdec hL kk => lv_tableIn hx0 hb (hdec _ _ hd) h1 h2 ho ht kk) k
theorem jw_lkp {tgt len : Nat} {dflt off : Int} {ps : Array (Int × Int)} {x : Int32} (hd : jmT M pc = some (.lookupswitch dflt ps, len)) (hs : (ps.toList.zip (ps.toList.drop 1)).all (fun (a, next) => a.1 < next.1) = true) (ho : Op.lookupswitch.offset ps.toList dflt x.toInt = off) (ht : (pc : Int) + off = (tgt : Int)) (k : JW D d M tgt ls st h Q) : JW D d M pc ls (vI x :: st) h Q :=
  jw_op (fun v hv => Or.inl (by simp [hv])) (fun _ _ _ _ _ _ _ _ _ _ _ _ _ _ _ _ hx0 hb hdec hL kk => lv_lookup hx0 hb (hdec _ _ hd) hs ho ht kk) k
theorem jw_istore_n {n : Fin 4} {x : Int32} {ls' : List (Option JV)} (hd : jmT M pc = some (.istore_n n, 1)) (hn : (n : Nat) < jmL M) (hl : jst1 ls (n : Nat) (vI x) = ls') (k : JW D d M pc' ls' st h Q) (hp : pc + 1 = pc' := by rfl) : JW D d M pc ls (vI x :: st) h Q := by
  subst hp hl
  refine jw_sil (fun w hw => ?_) (fun _ _ _ _ _ _ _ _ _ _ _ _ _ _ _ _ hF hL kk => ?_) k
  · rcases hw with q | q
    · exact Or.inl (by simp [q])
    · rcases jst1_sub q with e | e
      · exact Or.inl (by simp [e])
      · exact Or.inr (Or.inl e)
  · have hx := hF.1; have hb := hF.2.2.2.2.1; have hdec := hF.2.2.2.1.1
    exact lv_istore_n hx hb (hdec _ _ hd) rfl hL hn rfl (fun lsB hB => kk lsB ⟨hB.1, hB.2.1, fun q hq => hB.2.2 q (by
      rcases jst1_mem hq with e | ⟨e1, e2, e3⟩
      · rw [e]; exact List.mem_cons_self
      · refine List.mem_cons_of_mem _ (List.mem_filter.mpr ⟨e1, ?_⟩)
        simp only [Bool.and_eq_true, Bool.not_eq_true', beq_eq_false_iff_ne, ne_eq, Bool.and_eq_false_imp, beq_iff_eq]
        exact ⟨e2, fun z => by simpa using fun w => e3 ⟨z, w⟩⟩)⟩)
theorem jw_istore {n : Nat} {x : Int32} {ls' : List (Option JV)} (hd : jmT M pc = some (.istore n, 2)) (hn : n < jmL M) (hl : jst1 ls n (vI x) = ls') (k : JW D d M pc' ls' st h Q) (hp : pc + 2 = pc' := by rfl) : JW D d M pc ls (vI x :: st) h Q := by
  subst hp hl
  refine jw_sil (fun w hw => ?_) (fun _ _ _ _ _ _ _ _ _ _ _ _ _ _ _ _ hF hL kk => ?_) k
  · rcases hw with q | q
    · exact Or.inl (by simp [q])
    · rcases jst1_sub q with e | e
      · exact Or.inl (by simp [e])
      · exact Or.inr (Or.inl e)
  · have hx := hF.1; have hb := hF.2.2.2.2.1; have hdec := hF.2.2.2.1.1
    exact lv_istore hx hb (hdec _ _ hd) hL hn rfl (fun lsB hB => kk lsB ⟨hB.1, hB.2.1, fun q hq => hB.2.2 q (by
      rcases jst1_mem hq with e | ⟨e1, e2, e3⟩
      · rw [e]; exact List.mem_cons_self
      · refine List.mem_cons_of_mem _ (List.mem_filter.mpr ⟨e1, ?_⟩)
        simp only [Bool.and_eq_true, Bool.not_eq_true', beq_eq_false_iff_ne, ne_eq, Bool.and_eq_false_imp, beq_iff_eq]
        exact ⟨e2, fun z => by simpa using fun w => e3 ⟨z, w⟩⟩)⟩)
theorem jw_lstore_n {n : Fin 4} {x : Int64} {ls' : List (Option JV)} (hd : jmT M pc = some (.lstore_n n, 1)) (hn : (n : Nat) + 1 < jmL M) (hl : jst2 ls (n : Nat) (vL x) = ls') (k : JW D d M pc' ls' st h Q) (hp : pc + 1 = pc' := by rfl) : JW D d M pc ls (vL x :: st) h Q := by
  subst hp hl
  refine jw_sil (fun w hw => ?_) (fun _ _ _ _ _ _ _ _ _ _ _ _ _ _ _ _ hF hL kk => ?_) k
  · rcases hw with q | q
    · exact Or.inl (by simp [q])
    · rcases jst2_sub q with e | e
      · exact Or.inl (by simp [e])
      · exact Or.inr (Or.inl e)
  · have hx := hF.1; have hb := hF.2.2.2.2.1; have hdec := hF.2.2.2.1.1
    exact lv_lstore_n hx hb (hdec _ _ hd) rfl hL hn rfl (fun lsB hB => kk lsB ⟨hB.1, hB.2.1, fun q hq => hB.2.2 q (by
      rcases jst2_mem hq with e | ⟨e1, e2, e3, e4⟩
      · rw [e]; exact List.mem_cons_self
      · refine List.mem_cons_of_mem _ (List.mem_filter.mpr ⟨e1, ?_⟩)
        simp only [Bool.and_eq_true, Bool.not_eq_true', beq_eq_false_iff_ne, ne_eq, Bool.and_eq_false_imp, beq_iff_eq]
        exact ⟨e2, e3, fun z => by simpa using fun w => e4 ⟨z, w⟩⟩)⟩)
theorem jw_lstore {n : Nat} {x : Int64} {ls' : List (Option JV)} (hd : jmT M pc = some (.lstore n, 2)) (hn : n + 1 < jmL M) (hl : jst2 ls n (vL x) = ls') (k : JW D d M pc' ls' st h Q) (hp : pc + 2 = pc' := by rfl) : JW D d M pc ls (vL x :: st) h Q := by
  subst hp hl
  refine jw_sil (fun w hw => ?_) (fun _ _ _ _ _ _ _ _ _ _ _ _ _ _ _ _ hF hL kk => ?_) k
  · rcases hw with q | q
    · exact Or.inl (by simp [q])
    · rcases jst2_sub q with e | e
      · exact Or.inl (by simp [e])
      · exact Or.inr (Or.inl e)
  · have hx := hF.1; have hb := hF.2.2.2.2.1; have hdec := hF.2.2.2.1.1
    exact lv_lstore hx hb (hdec _ _ hd) hL hn rfl (fun lsB hB => kk lsB ⟨hB.1, hB.2.1, fun q hq => hB.2.2 q (by
      rcases jst2_mem hq with e | ⟨e1, e2, e3, e4⟩
      · rw [e]; exact List.mem_cons_self
      · refine List.mem_cons_of_mem _ (List.mem_filter.mpr ⟨e1, ?_⟩)
        simp only [Bool.and_eq_true, Bool.not_eq_true', beq_eq_false_iff_ne, ne_eq, Bool.and_eq_false_imp, beq_iff_eq]
        exact ⟨e2, e3, fun z => by simpa using fun w => e4 ⟨z, w⟩⟩)⟩)
theorem jw_astore_n {n : Fin 4} {t r : Nat} {ls' : List (Option JV)} (hd : jmT M pc = some (.astore_n n, 1)) (hn : (n : Nat) < jmL M) (hl : jst1 ls (n : Nat) (vR t r) = ls') (k : JW D d M pc' ls' st h Q) (hp : pc + 1 = pc' := by rfl) : JW D d M pc ls (vR t r :: st) h Q := by
  subst hp hl
  refine jw_sil (fun w hw => ?_) (fun _ _ _ _ _ _ _ _ _ _ _ _ _ _ _ _ hF hL kk => ?_) k
  · rcases hw with q | q
    · exact Or.inl (by simp [q])
    · rcases jst1_sub q with e | e
      · exact Or.inl (by simp [e])
      · exact Or.inr (Or.inl e)
  · have hx := hF.1; have hb := hF.2.2.2.2.1; have hdec := hF.2.2.2.1.1
    cases r with
    | zero => exact lv_astore_nN hx hb (hdec _ _ hd) rfl hL hn rfl (fun lsB hB => kk lsB ⟨hB.1, hB.2.1, fun q hq => hB.2.2 q (by
      rcases jst1_mem hq with e | ⟨e1, e2, e3⟩
      · rw [e]; exact List.mem_cons_self
      · refine List.mem_cons_of_mem _ (List.mem_filter.mpr ⟨e1, ?_⟩)
        simp only [Bool.and_eq_true, Bool.not_eq_true', beq_eq_false_iff_ne, ne_eq, Bool.and_eq_false_imp, beq_iff_eq]
        exact ⟨e2, fun z => by simpa using fun w => e3 ⟨z, w⟩⟩)⟩)
    | succ a => exact lv_astore_n hx hb (hdec _ _ hd) rfl hL hn rfl (fun lsB hB => kk lsB ⟨hB.1, hB.2.1, fun q hq => hB.2.2 q (by
      rcases jst1_mem hq with e | ⟨e1, e2, e3⟩
      · rw [e]; exact List.mem_cons_self
      · refine List.mem_cons_of_mem _ (List.mem_filter.mpr ⟨e1, ?_⟩)
        simp only [Bool.and_eq_true, Bool.not_eq_true', beq_eq_false_iff_ne, ne_eq, Bool.and_eq_false_imp, beq_iff_eq]
        exact ⟨e2, fun z => by simpa using fun w => e3 ⟨z, w⟩⟩)⟩)
theorem jw_astore {n : Nat} {t r : Nat} {ls' : List (Option JV)} (hd : jmT M pc = some (.astore n, 2)) (hn : n < jmL M) (hl : jst1 ls n (vR t r) = ls') (k : JW D d M pc' ls' st h Q) (hp : pc + 2 = pc' := by rfl) : JW D d M pc ls (vR t r :: st) h Q := by
  subst hp hl
  refine jw_sil (fun w hw => ?_) (fun _ _ _ _ _ _ _ _ _ _ _ _ _ _ _ _ hF hL kk => ?_) k
  · rcases hw with q | q
    · exact Or.inl (by simp [q])
    · rcases jst1_sub q with e | e
      · exact Or.inl (by simp [e])
      · exact Or.inr (Or.inl e)
  · have hx := hF.1; have hb := hF.2.2.2.2.1; have hdec := hF.2.2.2.1.1
    cases r with
    | zero => exact lv_astoreN hx hb (hdec _ _ hd) hL hn rfl (fun lsB hB => kk lsB ⟨hB.1, hB.2.1, fun q hq => hB.2.2 q (by
      rcases jst1_mem hq with e | ⟨e1, e2, e3⟩
      · rw [e]; exact List.mem_cons_self
      · refine List.mem_cons_of_mem _ (List.mem_filter.mpr ⟨e1, ?_⟩)
        simp only [Bool.and_eq_true, Bool.not_eq_true', beq_eq_false_iff_ne, ne_eq, Bool.and_eq_false_imp, beq_iff_eq]
        exact ⟨e2, fun z => by simpa using fun w => e3 ⟨z, w⟩⟩)⟩)
    | succ a => exact lv_astore hx hb (hdec _ _ hd) hL hn rfl (fun lsB hB => kk lsB ⟨hB.1, hB.2.1, fun q hq => hB.2.2 q (by
      rcases jst1_mem hq with e | ⟨e1, e2, e3⟩
      · rw [e]; exact List.mem_cons_self
      · refine List.mem_cons_of_mem _ (List.mem_filter.mpr ⟨e1, ?_⟩)
        simp only [Bool.and_eq_true, Bool.not_eq_true', beq_eq_false_iff_ne, ne_eq, Bool.and_eq_false_imp, beq_iff_eq]
        exact ⟨e2, fun z => by simpa using fun w => e3 ⟨z, w⟩⟩)⟩)
theorem jw_iinc {n : Nat} {i : Int} {x y : Int32} {ls' : List (Option JV)} (hd : jmT M pc = some (.iinc n i, 3)) (hn : n < jmL M) (hx0 : ls[n]? = some (some (vI x))) (hy : x + Int32.ofInt i = y) (hl : jst1 ls n (vI y) = ls') (k : JW D d M pc' ls' st h Q) (hp : pc + 3 = pc' := by rfl) : JW D d M pc ls st h Q := by
  subst hp hl
  refine jw_sil (fun w hw => ?_) (fun _ _ _ _ _ _ _ _ _ _ _ _ _ _ _ _ hF hL kk => ?_) k
  · rcases hw with q | q
    · exact Or.inl q
    · rcases jst1_sub q with e | e
      · exact Or.inr (Or.inr (by rw [e]; trivial))
      · exact Or.inr (Or.inl e)
  · have hx := hF.1; have hb := hF.2.2.2.2.1; have hdec := hF.2.2.2.1.1
    obtain ⟨k0, hk0⟩ := List.getElem?_of_mem (mem_jasc.mpr ⟨n, vI x, (Nat.zero_add n).symm, hx0, rfl⟩ : (n, Value.int x) ∈ jasc 0 ls)
    exact lv_iinc hx hb (hdec _ _ hd) hL hk0 hy hn rfl (fun lsB hB => kk lsB ⟨hB.1, hB.2.1, fun q hq => hB.2.2 q (by
      rcases jst1_mem hq with e | ⟨e1, e2, e3⟩
      · rw [e]; exact List.mem_cons_self
      · refine List.mem_cons_of_mem _ (List.mem_filter.mpr ⟨e1, ?_⟩)
        simp only [Bool.and_eq_true, Bool.not_eq_true', beq_eq_false_iff_ne, ne_eq, Bool.and_eq_false_imp, beq_iff_eq]
        exact ⟨e2, fun z => by simpa using fun w => e3 ⟨z, w⟩⟩)⟩)
end JSi
