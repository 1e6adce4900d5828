/-! reading through writes (printed by tools/gen_heap.py) -/
theorem jkd_wfi (h : JH) (F r : Nat) (v : Int32) (q : Nat) : jkd (wfi h F r v) q = jkd h q := rfl
theorem jln_wfi (h : JH) (F r : Nat) (v : Int32) (q : Nat) : jln (wfi h F r v) q = jln h q := rfl
theorem jfi_wfi (h : JH) (F r : Nat) (v : Int32) (G q : Nat) : jfi (wfi h F r v) G q = if G = F ∧ q = r then v else jfi h G q := rfl
theorem jfl_wfi (h : JH) (F r : Nat) (v : Int32) (G q : Nat) : jfl (wfi h F r v) G q = jfl h G q := rfl
theorem jfr_wfi (h : JH) (F r : Nat) (v : Int32) (G q : Nat) : jfr (wfi h F r v) G q = jfr h G q := rfl
theorem jai_wfi (h : JH) (F r : Nat) (v : Int32) (q j : Nat) : jai (wfi h F r v) q j = jai h q j := rfl
theorem jal_wfi (h : JH) (F r : Nat) (v : Int32) (q j : Nat) : jal (wfi h F r v) q j = jal h q j := rfl
theorem jar_wfi (h : JH) (F r : Nat) (v : Int32) (q j : Nat) : jar (wfi h F r v) q j = jar h q j := rfl
theorem jsz_wfi (h : JH) (F r : Nat) (v : Int32) : jsz (wfi h F r v) = jsz h := rfl
theorem jus_wfi (h : JH) (F r : Nat) (v : Int32) : jus (wfi h F r v) = jus h := rfl
theorem jkd_wfl (h : JH) (F r : Nat) (v : Int64) (q : Nat) : jkd (wfl h F r v) q = jkd h q := rfl
theorem jln_wfl (h : JH) (F r : Nat) (v : Int64) (q : Nat) : jln (wfl h F r v) q = jln h q := rfl
theorem jfi_wfl (h : JH) (F r : Nat) (v : Int64) (G q : Nat) : jfi (wfl h F r v) G q = jfi h G q := rfl
theorem jfl_wfl (h : JH) (F r : Nat) (v : Int64) (G q : Nat) : jfl (wfl h F r v) G q = if G = F ∧ q = r then v else jfl h G q := rfl
theorem jfr_wfl (h : JH) (F r : Nat) (v : Int64) (G q : Nat) : jfr (wfl h F r v) G q = jfr h G q := rfl
theorem jai_wfl (h : JH) (F r : Nat) (v : Int64) (q j : Nat) : jai (wfl h F r v) q j = jai h q j := rfl
theorem jal_wfl (h : JH) (F r : Nat) (v : Int64) (q j : Nat) : jal (wfl h F r v) q j = jal h q j := rfl
theorem jar_wfl (h : JH) (F r : Nat) (v : Int64) (q j : Nat) : jar (wfl h F r v) q j = jar h q j := rfl
theorem jsz_wfl (h : JH) (F r : Nat) (v : Int64) : jsz (wfl h F r v) = jsz h := rfl
theorem jus_wfl (h : JH) (F r : Nat) (v : Int64) : jus (wfl h F r v) = jus h := rfl
theorem jkd_wfr (h : JH) (F r : Nat) (v : Nat) (q : Nat) : jkd (wfr h F r v) q = jkd h q := rfl
theorem jln_wfr (h : JH) (F r : Nat) (v : Nat) (q : Nat) : jln (wfr h F r v) q = jln h q := rfl
theorem jfi_wfr (h : JH) (F r : Nat) (v : Nat) (G q : Nat) : jfi (wfr h F r v) G q = jfi h G q := rfl
theorem jfl_wfr (h : JH) (F r : Nat) (v : Nat) (G q : Nat) : jfl (wfr h F r v) G q = jfl h G q := rfl
theorem jfr_wfr (h : JH) (F r : Nat) (v : Nat) (G q : Nat) : jfr (wfr h F r v) G q = if G = F ∧ q = r then v else jfr h G q := rfl
theorem jai_wfr (h : JH) (F r : Nat) (v : Nat) (q j : Nat) : jai (wfr h F r v) q j = jai h q j := rfl
theorem jal_wfr (h : JH) (F r : Nat) (v : Nat) (q j : Nat) : jal (wfr h F r v) q j = jal h q j := rfl
theorem jar_wfr (h : JH) (F r : Nat) (v : Nat) (q j : Nat) : jar (wfr h F r v) q j = jar h q j := rfl
theorem jsz_wfr (h : JH) (F r : Nat) (v : Nat) : jsz (wfr h F r v) = jsz h := rfl
theorem jus_wfr (h : JH) (F r : Nat) (v : Nat) : jus (wfr h F r v) = jus h := rfl
theorem jkd_wai (h : JH) (r i : Nat) (v : Int32) (q : Nat) : jkd (wai h r i v) q = jkd h q := rfl
theorem jln_wai (h : JH) (r i : Nat) (v : Int32) (q : Nat) : jln (wai h r i v) q = jln h q := rfl
theorem jfi_wai (h : JH) (r i : Nat) (v : Int32) (G q : Nat) : jfi (wai h r i v) G q = jfi h G q := rfl
theorem jfl_wai (h : JH) (r i : Nat) (v : Int32) (G q : Nat) : jfl (wai h r i v) G q = jfl h G q := rfl
theorem jfr_wai (h : JH) (r i : Nat) (v : Int32) (G q : Nat) : jfr (wai h r i v) G q = jfr h G q := rfl
theorem jai_wai (h : JH) (r i : Nat) (v : Int32) (q j : Nat) : jai (wai h r i v) q j = if q = r ∧ j = i then v else jai h q j := rfl
theorem jal_wai (h : JH) (r i : Nat) (v : Int32) (q j : Nat) : jal (wai h r i v) q j = jal h q j := rfl
theorem jar_wai (h : JH) (r i : Nat) (v : Int32) (q j : Nat) : jar (wai h r i v) q j = jar h q j := rfl
theorem jsz_wai (h : JH) (r i : Nat) (v : Int32) : jsz (wai h r i v) = jsz h := rfl
theorem jus_wai (h : JH) (r i : Nat) (v : Int32) : jus (wai h r i v) = jus h := rfl
theorem jkd_wal (h : JH) (r i : Nat) (v : Int64) (q : Nat) : jkd (wal h r i v) q = jkd h q := rfl
theorem jln_wal (h : JH) (r i : Nat) (v : Int64) (q : Nat) : jln (wal h r i v) q = jln h q := rfl
theorem jfi_wal (h : JH) (r i : Nat) (v : Int64) (G q : Nat) : jfi (wal h r i v) G q = jfi h G q := rfl
theorem jfl_wal (h : JH) (r i : Nat) (v : Int64) (G q : Nat) : jfl (wal h r i v) G q = jfl h G q := rfl
theorem jfr_wal (h : JH) (r i : Nat) (v : Int64) (G q : Nat) : jfr (wal h r i v) G q = jfr h G q := rfl
theorem jai_wal (h : JH) (r i : Nat) (v : Int64) (q j : Nat) : jai (wal h r i v) q j = jai h q j := rfl
theorem jal_wal (h : JH) (r i : Nat) (v : Int64) (q j : Nat) : jal (wal h r i v) q j = if q = r ∧ j = i then v else jal h q j := rfl
theorem jar_wal (h : JH) (r i : Nat) (v : Int64) (q j : Nat) : jar (wal h r i v) q j = jar h q j := rfl
theorem jsz_wal (h : JH) (r i : Nat) (v : Int64) : jsz (wal h r i v) = jsz h := rfl
theorem jus_wal (h : JH) (r i : Nat) (v : Int64) : jus (wal h r i v) = jus h := rfl
theorem jkd_war (h : JH) (r i : Nat) (v : Nat) (q : Nat) : jkd (war h r i v) q = jkd h q := rfl
theorem jln_war (h : JH) (r i : Nat) (v : Nat) (q : Nat) : jln (war h r i v) q = jln h q := rfl
theorem jfi_war (h : JH) (r i : Nat) (v : Nat) (G q : Nat) : jfi (war h r i v) G q = jfi h G q := rfl
theorem jfl_war (h : JH) (r i : Nat) (v : Nat) (G q : Nat) : jfl (war h r i v) G q = jfl h G q := rfl
theorem jfr_war (h : JH) (r i : Nat) (v : Nat) (G q : Nat) : jfr (war h r i v) G q = jfr h G q := rfl
theorem jai_war (h : JH) (r i : Nat) (v : Nat) (q j : Nat) : jai (war h r i v) q j = jai h q j := rfl
theorem jal_war (h : JH) (r i : Nat) (v : Nat) (q j : Nat) : jal (war h r i v) q j = jal h q j := rfl
theorem jar_war (h : JH) (r i : Nat) (v : Nat) (q j : Nat) : jar (war h r i v) q j = if q = r ∧ j = i then v else jar h q j := rfl
theorem jsz_war (h : JH) (r i : Nat) (v : Nat) : jsz (war h r i v) = jsz h := rfl
theorem jus_war (h : JH) (r i : Nat) (v : Nat) : jus (war h r i v) = jus h := rfl
theorem jkd_nwo (h : JH) (k n q : Nat) : jkd (nwo h k n) q = if q = jsz h + 1 then k else jkd h q := rfl
theorem jln_nwo (h : JH) (k n : Nat) (q : Nat) : jln (nwo h k n) q = jln h q := rfl
theorem jfi_nwo (h : JH) (k n : Nat) (G q : Nat) : jfi (nwo h k n) G q = jfi h G q := rfl
theorem jfl_nwo (h : JH) (k n : Nat) (G q : Nat) : jfl (nwo h k n) G q = jfl h G q := rfl
theorem jfr_nwo (h : JH) (k n : Nat) (G q : Nat) : jfr (nwo h k n) G q = jfr h G q := rfl
theorem jai_nwo (h : JH) (k n : Nat) (q j : Nat) : jai (nwo h k n) q j = jai h q j := rfl
theorem jal_nwo (h : JH) (k n : Nat) (q j : Nat) : jal (nwo h k n) q j = jal h q j := rfl
theorem jar_nwo (h : JH) (k n : Nat) (q j : Nat) : jar (nwo h k n) q j = jar h q j := rfl
theorem jsz_nwo (h : JH) (k n : Nat) : jsz (nwo h k n) = jsz h + 1 := rfl
theorem jus_nwo (h : JH) (k n : Nat) : jus (nwo h k n) = jus h + n := rfl
theorem jkd_nwa (h : JH) (k n q : Nat) : jkd (nwa h k n) q = if q = jsz h + 1 then k else jkd h q := rfl
theorem jln_nwa (h : JH) (k n q : Nat) : jln (nwa h k n) q = if q = jsz h + 1 then n else jln h q := rfl
theorem jfi_nwa (h : JH) (k n : Nat) (G q : Nat) : jfi (nwa h k n) G q = jfi h G q := rfl
theorem jfl_nwa (h : JH) (k n : Nat) (G q : Nat) : jfl (nwa h k n) G q = jfl h G q := rfl
theorem jfr_nwa (h : JH) (k n : Nat) (G q : Nat) : jfr (nwa h k n) G q = jfr h G q := rfl
theorem jai_nwa (h : JH) (k n : Nat) (q j : Nat) : jai (nwa h k n) q j = jai h q j := rfl
theorem jal_nwa (h : JH) (k n : Nat) (q j : Nat) : jal (nwa h k n) q j = jal h q j := rfl
theorem jar_nwa (h : JH) (k n : Nat) (q j : Nat) : jar (nwa h k n) q j = jar h q j := rfl
theorem jsz_nwa (h : JH) (k n : Nat) : jsz (nwa h k n) = jsz h + 1 := rfl
theorem jus_nwa (h : JH) (k n : Nat) : jus (nwa h k n) = jus h + n := rfl
theorem jkd_cpa (h : JH) (s sp t tp n : Nat) (q : Nat) : jkd (cpa h s sp t tp n) q = jkd h q := rfl
theorem jln_cpa (h : JH) (s sp t tp n : Nat) (q : Nat) : jln (cpa h s sp t tp n) q = jln h q := rfl
theorem jfi_cpa (h : JH) (s sp t tp n : Nat) (G q : Nat) : jfi (cpa h s sp t tp n) G q = jfi h G q := rfl
theorem jfl_cpa (h : JH) (s sp t tp n : Nat) (G q : Nat) : jfl (cpa h s sp t tp n) G q = jfl h G q := rfl
theorem jfr_cpa (h : JH) (s sp t tp n : Nat) (G q : Nat) : jfr (cpa h s sp t tp n) G q = jfr h G q := rfl
theorem jai_cpa (h : JH) (s sp t tp n q j : Nat) : jai (cpa h s sp t tp n) q j = if q = t ∧ tp ≤ j ∧ j < tp + n then jai h s (sp + (j - tp)) else jai h q j := rfl
theorem jal_cpa (h : JH) (s sp t tp n : Nat) (q j : Nat) : jal (cpa h s sp t tp n) q j = jal h q j := rfl
theorem jar_cpa (h : JH) (s sp t tp n : Nat) (q j : Nat) : jar (cpa h s sp t tp n) q j = jar h q j := rfl
theorem jsz_cpa (h : JH) (s sp t tp n : Nat) : jsz (cpa h s sp t tp n) = jsz h := rfl
theorem jus_cpa (h : JH) (s sp t tp n : Nat) : jus (cpa h s sp t tp n) = jus h := rfl
