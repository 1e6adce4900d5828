/-! words of the tables by place: fields laid, classes that can be made -/
set_option maxRecDepth 100000
def jtb : Nat → List Cond
  | 0 => k2_sels lw_privs
  | 1 => tables_1_1
  | 2 => tables_1_2
  | 3 => tables_1_3
  | 4 => tables_1_4
  | 5 => tables_1_5
  | 6 => tables_1_6
  | 7 => tables_1_7
  | 8 => tables_1_8
  | 9 => tables_1_9
  | 10 => tables_1_10
  | 11 => tables_1_11
  | 12 => tables_1_12
  | 13 => tables_1_13
  | 14 => tables_1_14
  | 15 => tables_1_15
  | 16 => tables_1_16
  | 17 => tables_1_17
  | 18 => tables_1_18
  | 19 => tables_1_19
  | 20 => tables_1_20
  | 21 => tables_1_21
  | _ => []
theorem jtb_mem {c i : Nat} {w : Cond} (h : (jtb c)[i]? = some w) : w ∈ lw_tbl := by
  have h := List.mem_of_getElem? h
  match c, h with
  | 0, h => exact lw_ms w h
  | 1, h => exact lw_m1 w h
  | 2, h => exact lw_m2 w h
  | 3, h => exact lw_m3 w h
  | 4, h => exact lw_m4 w h
  | 5, h => exact lw_m5 w h
  | 6, h => exact lw_m6 w h
  | 7, h => exact lw_m7 w h
  | 8, h => exact lw_m8 w h
  | 9, h => exact lw_m9 w h
  | 10, h => exact lw_m10 w h
  | 11, h => exact lw_m11 w h
  | 12, h => exact lw_m12 w h
  | 13, h => exact lw_m13 w h
  | 14, h => exact lw_m14 w h
  | 15, h => exact lw_m15 w h
  | 16, h => exact lw_m16 w h
  | 17, h => exact lw_m17 w h
  | 18, h => exact lw_m18 w h
  | 19, h => exact lw_m19 w h
  | 20, h => exact lw_m20 w h
  | 21, h => exact lw_m21 w h
  | n + 22, h => cases h
def jlw (k F : Nat) : Cond := cond (ffn F) (.laysFinal (jcn k) (fow F) (fnm F) (fds F)) (.lays (jcn k) (fow F) (fnm F) (fds F))
def jchk (q : Nat × Nat) (w : Cond) : Bool := decide ((jtb q.1)[q.2]? = some w)
theorem jchk_mem {q : Nat × Nat} {w : Cond} (h : jchk q w = true) : w ∈ lw_tbl := jtb_mem (of_decide_eq_true h)
theorem jt_layc : (jlays.all fun row => decide ((fld row.1).length = row.2.2.2.length) && ((fld row.1).zip row.2.2.2).all (fun q => jchk q.2 (jlw row.1 q.1)) && jchk row.2.1 (.instantiable (jcn row.1) (jsl_ row.1)) && jchk row.2.2.1 (.initialized (jcn row.1))) = true := by decide +kernel
theorem jt_layk : ((List.range 226).all fun k => !(job_ k && wrt k) || (jlays.map (·.1)).contains k) = true := by decide +kernel
theorem jlw_good (k F : Nat) : goodWord (jlw k F) = true := by unfold jlw; cases ffn F <;> rfl
theorem jt_row {k : Nat} (hk : k < 226) (hj : job_ k = true) (hw : wrt k = true) : ∃ row ∈ jlays, row.1 = k := by
  have h := List.all_eq_true.mp jt_layk k (List.mem_range.mpr hk)
  rw [hj, hw] at h
  simp only [Bool.and_self, Bool.not_true, Bool.false_or, List.contains_eq_mem, decide_eq_true_eq, List.mem_map] at h
  exact h
theorem jt_lay {k F : Nat} (hk : k < 226) (hj : job_ k = true) (hw : wrt k = true) (hF : F ∈ fld k) : jlw k F ∈ lw_all := by
  obtain ⟨row, hr, rfl⟩ := jt_row hk hj hw
  have h := List.all_eq_true.mp jt_layc row hr
  simp only [Bool.and_eq_true, decide_eq_true_eq] at h
  obtain ⟨i, hi⟩ := List.getElem?_of_mem hF
  have hl : i < row.2.2.2.length := by rw [← h.1.1.1]; exact (List.getElem?_eq_some_iff.mp hi).1
  have hz : ((fld row.1).zip row.2.2.2)[i]? = some (F, row.2.2.2[i]) := by
    rw [List.getElem?_zip_eq_some]
    exact ⟨hi, List.getElem?_eq_getElem hl⟩
  exact lw_g (jchk_mem (List.all_eq_true.mp h.1.1.2 _ (List.mem_of_getElem? hz))) (jlw_good _ _)
theorem jt_inst {k : Nat} (hk : k < 226) (hj : job_ k = true) (hw : wrt k = true) : Cond.instantiable (jcn k) (jsl_ k) ∈ lw_all ∧ Cond.initialized (jcn k) ∈ lw_all := by
  obtain ⟨row, hr, rfl⟩ := jt_row hk hj hw
  have h := List.all_eq_true.mp jt_layc row hr
  simp only [Bool.and_eq_true, decide_eq_true_eq] at h
  exact ⟨lw_g (jchk_mem h.1.2) rfl, lw_g (jchk_mem h.2) rfl⟩
