/-! how long a small number is in writing -/
section
variable {D : JD} {h : JH} {d n : Nat}
def sz3 (n : Nat) : Nat := if n < 10 then 1 else if n < 100 then 2 else 3
theorem k_strSize (hn : n < 1000) (hd : 1 ≤ d) : cJ17_stringSize D d (nI n) h (pI D h (fun v h' => v = nI (sz3 n) ∧ h' = h) no) := by
  obtain ⟨d, rfl, he⟩ := dsucc hd
  have c10 : -nI n ≤ -10 ↔ 10 ≤ n := sb_nle (a := n) (b := 10) (by omega) (by omega)
  have c100 : -nI n ≤ 10 * (-10) ↔ 100 ≤ n := sb_nle (a := n) (b := 100) (by omega) (by omega)
  have c1000 : -nI n ≤ 10 * (10 * (-10)) ↔ 1000 ≤ n := sb_nle (a := n) (b := 1000) (by omega) (by omega)
  refine t_J17_stringSize ⟨fun z => absurd z (nI_pos (by omega)), fun _ => ⟨4, fun z => absurd z (by decide), fun _ => ⟨fun g => ⟨fun z => absurd z (by decide), fun _ => ⟨fun g2 => ⟨fun z => absurd z (by decide), fun _ => ⟨fun g3 => ?_, fun g3 => endI fun _ _ => ⟨?_, rfl⟩⟩⟩, fun g2 => endI fun _ _ => ⟨?_, rfl⟩⟩⟩, fun g => endI fun _ _ => ⟨?_, rfl⟩⟩⟩⟩
  · have := c1000.mp g3
    omega
  · have a := c100.mp g2
    unfold sz3
    rw [if_neg (by omega), if_neg (by omega)]; rfl
  · have a := c10.mp g
    have b : ¬ 100 ≤ n := fun z => g2 (c100.mpr z)
    unfold sz3
    rw [if_neg (by omega), if_pos (by omega)]; rfl
  · have b : ¬ 10 ≤ n := fun z => g (c10.mpr z)
    unfold sz3
    rw [if_pos (by omega)]; rfl
end
