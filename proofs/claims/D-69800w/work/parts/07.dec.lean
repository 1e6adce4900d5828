/-! decoding by windows: an instruction is read the same out of a piece of the code that begins at a multiple of four -/
section JDec
def jrs {A : Type} (r r' : Reader DecodeError A) : Prop := ∀ (X Y : ByteArray) (p : Nat), p % 4 = 0 ∧ p + Y.size ≤ X.size → (∀ i, i < Y.size → X[p + i]? = Y[i]?) → ∀ q x q', r'.runAt Y q = .ok (x, q') → r.runAt X (p + q) = .ok (x, p + q')
theorem jrs_bind {A B : Type} {r r' : Reader DecodeError A} {f f' : A → Reader DecodeError B} (h : jrs r r') (hf : ∀ a, jrs (f a) (f' a)) : jrs (r >>= f) (r' >>= f') := by
  intro X Y p hp ha q x q' hx
  have e1 : (r' >>= f').runAt Y q = (r'.runAt Y q).bind (fun z => (f' z.1).runAt Y z.2) := rfl
  have e2 : (r >>= f).runAt X (p + q) = (r.runAt X (p + q)).bind (fun z => (f z.1).runAt X z.2) := rfl
  rw [e1] at hx
  cases hr : r'.runAt Y q with
  | error e => rw [hr] at hx; cases hx
  | ok z =>
    rw [hr] at hx
    rw [e2, h X Y p hp ha q z.1 z.2 hr]
    exact hf z.1 X Y p hp ha z.2 x q' hx
theorem jrs_pure {A : Type} (a : A) : jrs (pure a) (pure a) := by
  intro X Y p hp ha q x q' hx
  cases hx
  rfl
theorem jrs_throw {A : Type} (e e' : DecodeError) : jrs (throw e : Reader DecodeError A) (throw e') := by
  intro X Y p hp ha q x q' hx
  cases hx
theorem jrs_map {A B : Type} {r r' : Reader DecodeError A} (f : A → B) (h : jrs r r') : jrs (f <$> r) (f <$> r') := by
  have e : ∀ z : Reader DecodeError A, f <$> z = z >>= fun a => pure (f a) := fun z => (bind_pure_comp f z).symm
  rw [e, e]
  exact jrs_bind h fun a => jrs_pure _
theorem jrs_u1 : jrs Reader.u1 Reader.u1 := by
  intro X Y p hp ha q x q' hx
  have e : ∀ (Z : ByteArray) (n : Nat), (Reader.u1 : Reader DecodeError Nat).runAt Z n = if h : n < Z.size then .ok (Z[n].toNat, n + 1) else .error (HasTruncated.truncated n) := by
    intro Z n
    by_cases h : n < Z.size
    · rw [dif_pos h]
      show ((if h : n < Z.size then _ else _ : Reader DecodeError Nat).run Z).run n = _
      rw [dif_pos h]; rfl
    · rw [dif_neg h]
      show ((if h : n < Z.size then _ else _ : Reader DecodeError Nat).run Z).run n = _
      rw [dif_neg h]; rfl
  rw [e] at hx ⊢
  by_cases h : q < Y.size
  · rw [dif_pos h] at hx
    cases hx
    have h2 := ha q h
    rw [getElem?_pos Y q h] at h2
    obtain ⟨h3, h4⟩ := getElem?_eq_some_iff.mp h2
    rw [dif_pos h3, h4]
    rfl
  · rw [dif_neg h] at hx; cases hx
theorem jrs_u2 : jrs Reader.u2 Reader.u2 := jrs_bind jrs_u1 fun _ => jrs_bind jrs_u1 fun _ => jrs_pure _
theorem jrs_u4 : jrs Reader.u4 Reader.u4 := jrs_bind jrs_u2 fun _ => jrs_bind jrs_u2 fun _ => jrs_pure _
theorem jrs_s1 : jrs Reader.s1 Reader.s1 := jrs_map _ jrs_u1
theorem jrs_s2 : jrs Reader.s2 Reader.s2 := jrs_map _ jrs_u2
theorem jrs_s4 : jrs Reader.s4 Reader.s4 := jrs_map _ jrs_u4
theorem jrs_go {A : Type} {r r' : Reader DecodeError A} (h : jrs r r') (n : Nat) : ∀ acc, jrs (Reader.times.go r n acc) (Reader.times.go r' n acc) := by
  induction n with
  | zero => intro acc; exact jrs_pure _
  | succ n ih => intro acc; exact jrs_bind h fun a => ih _
theorem jrs_times {A : Type} {r r' : Reader DecodeError A} (n : Nat) (h : jrs r r') : jrs (Reader.times n r) (Reader.times n r') := jrs_go h n #[]
theorem jrs_if {A : Type} (c : Prop) [Decidable c] {r r' s s' : Reader DecodeError A} (h1 : jrs r r') (h2 : jrs s s') : jrs (if c then r else s) (if c then r' else s') := by
  by_cases h : c
  · rw [if_pos h, if_pos h]; exact h1
  · rw [if_neg h, if_neg h]; exact h2
theorem jrs_pad : jrs Decoder.padding Decoder.padding := by
  intro X Y p hp ha q x q' hx
  have e : ∀ (Z : ByteArray) (n : Nat), Decoder.padding.runAt Z n = if n + (4 - n % 4) % 4 ≤ Z.size then .ok ((), n + (4 - n % 4) % 4) else .error (HasTruncated.truncated Z.size) := by
    intro Z n
    by_cases h : n + (4 - n % 4) % 4 ≤ Z.size
    · rw [if_pos h]
      show (((do let _ ← (if n + (4 - n % 4) % 4 ≤ Z.size then _ else _ : Reader DecodeError ByteArray)) : Reader DecodeError Unit).run Z).run n = _
      rw [if_pos h]; rfl
    · rw [if_neg h]
      show (((do let _ ← (if n + (4 - n % 4) % 4 ≤ Z.size then _ else _ : Reader DecodeError ByteArray)) : Reader DecodeError Unit).run Z).run n = _
      rw [if_neg h]; rfl
  rw [e] at hx ⊢
  by_cases h : q + (4 - q % 4) % 4 ≤ Y.size
  · rw [if_pos h] at hx
    cases hx
    have e4 : (p + q) % 4 = q % 4 := by omega
    rw [e4, if_pos (by omega), Nat.add_assoc]
  · rw [if_neg h] at hx; cases hx
theorem jrs_unless {A : Type} (c : Prop) [Decidable c] (e e' : DecodeError) {r r' : Unit → Reader DecodeError A} (h : jrs (r ()) (r' ())) : jrs ((if c then pure () else throw e : Reader DecodeError Unit) >>= r) ((if c then pure () else throw e' : Reader DecodeError Unit) >>= r') :=
  jrs_bind (jrs_if c (jrs_pure ()) (jrs_throw e e')) fun _ => h
theorem jrs_tsw (a b : Nat) : jrs (Decoder.tableswitch a) (Decoder.tableswitch b) := by
  unfold Decoder.tableswitch
  refine jrs_bind jrs_pad fun _ => jrs_bind jrs_s4 fun _ => jrs_bind jrs_s4 fun _ => jrs_bind jrs_s4 fun _ => ?_
  dsimp only
  exact jrs_if _ (jrs_bind (jrs_times _ jrs_s4) fun _ => jrs_pure _) (jrs_bind (jrs_throw _ _) fun _ => jrs_bind (jrs_times _ jrs_s4) fun _ => jrs_pure _)
theorem jrs_lsw (a b : Nat) : jrs (Decoder.lookupswitch a) (Decoder.lookupswitch b) := by
  unfold Decoder.lookupswitch
  refine jrs_bind jrs_pad fun _ => jrs_bind jrs_s4 fun _ => jrs_bind jrs_s4 fun _ => ?_
  dsimp only
  refine jrs_if _ ?_ (jrs_bind (jrs_throw _ _) fun _ => ?_)
  all_goals
    refine jrs_bind (jrs_times _ (jrs_bind jrs_s4 fun _ => jrs_bind jrs_s4 fun _ => jrs_pure _)) fun _ => ?_
    exact jrs_if _ (jrs_pure _) (jrs_bind (jrs_throw _ _) fun _ => jrs_pure _)
theorem jrs_idy (a b : Nat) : jrs (Decoder.invokedynamic a) (Decoder.invokedynamic b) := by
  unfold Decoder.invokedynamic
  refine jrs_bind jrs_u2 fun _ => jrs_bind jrs_u2 fun _ => ?_
  dsimp only
  exact jrs_if _ (jrs_pure _) (jrs_bind (jrs_throw _ _) fun _ => jrs_pure _)
theorem jrs_itf (a b : Nat) : jrs (Decoder.invokeinterface a) (Decoder.invokeinterface b) := by
  unfold Decoder.invokeinterface
  refine jrs_bind jrs_u2 fun _ => jrs_bind jrs_u1 fun _ => jrs_bind jrs_u1 fun _ => ?_
  dsimp only
  exact jrs_if _ (jrs_pure _) (jrs_bind (jrs_throw _ _) fun _ => jrs_pure _)
theorem jrs_mul (a b : Nat) : jrs (Decoder.multianewarray a) (Decoder.multianewarray b) := by
  unfold Decoder.multianewarray
  refine jrs_bind jrs_u2 fun _ => jrs_bind jrs_u1 fun _ => ?_
  dsimp only
  exact jrs_if _ (jrs_pure _) (jrs_bind (jrs_throw _ _) fun _ => jrs_pure _)
theorem jrs_nwa (a b : Nat) : jrs (Decoder.newarray a) (Decoder.newarray b) := by
  unfold Decoder.newarray
  refine jrs_bind jrs_u1 fun n => ?_
  split <;> first | exact jrs_pure _ | exact jrs_throw _ _
theorem jrs_wid (a b : Nat) : jrs (Decoder.wide a) (Decoder.wide b) := by
  unfold Decoder.wide
  refine jrs_bind jrs_u1 fun n => ?_
  split <;> first | exact jrs_throw _ _ | exact jrs_bind jrs_u2 fun _ => jrs_pure _ | exact jrs_bind jrs_u2 fun _ => jrs_bind jrs_s2 fun _ => jrs_pure _
set_option maxHeartbeats 4000000
set_option maxRecDepth 100000
theorem jrs_instr (a b : Nat) : jrs (Decoder.instr a) (Decoder.instr b) := by
  unfold Decoder.instr
  refine jrs_bind jrs_u1 fun n => ?_
  split <;> first | exact jrs_pure _ | exact jrs_throw _ _ | exact jrs_bind jrs_u1 fun _ => jrs_pure _ | exact jrs_bind jrs_u2 fun _ => jrs_pure _ | exact jrs_bind jrs_s1 fun _ => jrs_pure _ | exact jrs_bind jrs_s2 fun _ => jrs_pure _ | exact jrs_bind jrs_s4 fun _ => jrs_pure _ | exact jrs_bind jrs_u1 fun _ => jrs_bind jrs_s1 fun _ => jrs_pure _ | exact jrs_tsw _ _ | exact jrs_lsw _ _ | exact jrs_idy _ _ | exact jrs_itf _ _ | exact jrs_mul _ _ | exact jrs_nwa _ _ | exact jrs_wid _ _
theorem jdec_win {C : ByteArray} {p q n : Nat} {x : Instr × Nat} (hp : p % 4 = 0) (hn : p + n ≤ C.size) (h : decode ⟨((C.data.toList.drop p).take n).toArray⟩ q = .ok x) : decode C (p + q) = .ok x := by
  have hsz : (⟨((C.data.toList.drop p).take n).toArray⟩ : ByteArray).size = n := by
    show ((C.data.toList.drop p).take n).toArray.size = n
    have : C.data.toList.length = C.size := rfl
    simp
    omega
  have e : ∀ (Z : ByteArray) (k : Nat), decode Z k = ((Decoder.instr k).runAt Z k).bind (fun z => .ok (z.1, z.2 - k)) := fun Z k => rfl
  rw [e] at h ⊢
  cases hr : (Decoder.instr q).runAt ⟨((C.data.toList.drop p).take n).toArray⟩ q with
  | error z => rw [hr] at h; cases h
  | ok z =>
    rw [hr] at h
    have h : Except.ok (z.1, z.2 - q) = Except.ok x := h
    rw [jrs_instr (p + q) q C _ p ⟨hp, by omega⟩ (fun i hi => ?_) q z.1 z.2 hr]
    · show Except.ok (z.1, p + z.2 - (p + q)) = Except.ok x
      rw [← h]
      congr 2
      omega
    · rw [hsz] at hi
      show C.data[p + i]? = (((C.data.toList.drop p).take n).toArray)[i]?
      simp [List.getElem?_take, hi]
def jcw (f : Nat → Option (Instr × Nat)) (p q : Nat) (l : List UInt8) : Bool := jon (fun x => decide (decode ⟨(l.take (q + x.2)).toArray⟩ q = .ok x) && (Nat.ble 1 x.2 && Nat.ble (q + x.2) (l.take (q + x.2)).length)) (f (p + q))
def jcg (f : Nat → Option (Instr × Nat)) : Nat → Nat → List UInt8 → Bool
  | 0, p, l => true
  | n + 1, p, l => jcw f p 0 l && (jcw f p 1 l && (jcw f p 2 l && (jcw f p 3 l && match l with
    | _ :: _ :: _ :: _ :: r => (match p + 4 with
      | 0 => true
      | k + 1 => jcg f n (k + 1) r)
    | _ => Nat.beq n 0)))
theorem jcw_ok {f : Nat → Option (Instr × Nat)} {C : ByteArray} {p q : Nat} {x : Instr × Nat} (hp : p % 4 = 0) (h : jcw f p q (C.data.toList.drop p) = true) (hx : f (p + q) = some x) : decode C (p + q) = .ok x := by
  unfold jcw at h
  rw [hx] at h
  have h : (decide (decode ⟨((C.data.toList.drop p).take (q + x.2)).toArray⟩ q = .ok x) && (Nat.ble 1 x.2 && Nat.ble (q + x.2) ((C.data.toList.drop p).take (q + x.2)).length)) = true := h
  rw [Bool.and_eq_true, Bool.and_eq_true, decide_eq_true_eq, Nat.ble_eq, Nat.ble_eq, List.length_take, List.length_drop] at h
  have e : C.data.toList.length = C.size := rfl
  exact jdec_win hp (by omega) h.1
theorem jcg_ok {f : Nat → Option (Instr × Nat)} {C : ByteArray} (n : Nat) : ∀ p, p % 4 = 0 → jcg f n p (C.data.toList.drop p) = true → ∀ k, p ≤ k → k < p + 4 * n → ∀ x, f k = some x → decode C k = .ok x := by
  induction n with
  | zero => intro p hp h k h1 h2 x hx; omega
  | succ n ih =>
    intro p hp h k h1 h2 x hx
    unfold jcg at h
    simp only [Bool.and_eq_true] at h
    obtain ⟨c0, c1, c2, c3, c4⟩ := h
    by_cases hk : k < p + 4
    · obtain ⟨q, rfl⟩ : ∃ q, k = p + q := ⟨k - p, by omega⟩
      have hq : q = 0 ∨ q = 1 ∨ q = 2 ∨ q = 3 := by omega
      rcases hq with rfl | rfl | rfl | rfl
      · exact jcw_ok hp c0 hx
      · exact jcw_ok hp c1 hx
      · exact jcw_ok hp c2 hx
      · exact jcw_ok hp c3 hx
    · split at c4
      · rename_i a b c d r hl
        have hr : r = C.data.toList.drop (p + 4) := by
          rw [← List.drop_drop, hl]; rfl
        rw [hr] at c4
        have c4 : jcg f n (p + 4) (C.data.toList.drop (p + 4)) = true := c4
        exact ih (p + 4) (by omega) c4 k (by omega) (by omega) x hx
      · rw [Nat.beq_eq] at c4
        subst c4
        omega
theorem jmok_mk2 {M : JM} {n : Nat} {f : Nat → Option (Instr × Nat)} (hT : jmT M = jgd (4 * n) f) (hdec : jcg f n 0 (jmC M).data.toList = true)
    (hw : (jmH M = [] ∧ Cond.code (jmY M) (jmC M) (jmL M) (jmR M) ∈ lw_all) ∨ Cond.codeWith (jmY M) (jmC M) (jmL M) (jmR M) (jmH M) ∈ lw_all) (hp : plainFor (jmY M) = true) (hne : (jmY M).cls ≠ "java/lang/invoke/MethodHandle" ∧ (jmY M).cls ≠ "java/lang/invoke/VarHandle")
    (hini : Cond.initialized (jmY M).cls ∈ lw_all) (hc : JCpk (jmY M).cls M.2.2.2.2.2.2.2.2) : JMok M := by
  obtain ⟨c1, c2, c3, c4, c5, c6⟩ := hc
  refine ⟨fun pc x hx => ?_, hw, hp, hne, hini, c1, c2, c3, c4, c5, c6⟩
  rw [hT] at hx
  unfold jgd at hx
  cases hk : Nat.blt pc (4 * n) with
  | false => rw [hk] at hx; cases hx
  | true =>
    rw [hk] at hx
    exact jcg_ok n 0 rfl hdec pc (Nat.zero_le _) (by have := Nat.ble_eq.mp hk; omega) x hx
end JDec
