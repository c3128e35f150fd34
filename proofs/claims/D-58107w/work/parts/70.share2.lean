set_option maxRecDepth 100000
/-! the share of land, for both sides -/
theorem fck_G {G : Gr} (hG : GV G) {a : Nat} (ha : a ≤ G.N) : fck G.N a = true := by
  obtain ⟨⟨g1, g2, g3, g4, g5, g6⟩, g7⟩ := hG
  have := fck_all G.N (NS_ok G.R (by omega) g1 G.C (by omega) g3)
  rw [List.all_eq_true] at this
  exact this a (List.mem_range.mpr (by omega))
theorem sm_cntN (f : Nat → Bool) : ∀ n, sm (fun k => bI (f k)) n = nI (cntN f n)
  | 0 => rfl
  | n + 1 => by
    rw [sm, sm_cntN f n, cntN]
    cases f n
    · exact nI_add _ 0
    · exact nI_add _ 1
def a_share (G : Gr) : Int32 := (shx (cntN G.l G.N) G.N).toInt32
theorem share_ok {G : Gr} (hG : GV G) : (shx (cntN G.l G.N) G.N &&& 0x7fffffff ≤ 0x7f800000) ∧ (Op.cmpValue (FP.fcmp (shx (cntN G.l G.N) G.N) (shx (cntN G.l G.N) G.N)) .l) = 0 ∧ (∀ h : AH, f_X4_bitsOfFloat (shx (cntN G.l G.N) G.N) h = some (some (vI (a_share G)), h)) := by
  have := fck_G hG (cntN_le G.l G.N)
  unfold fck at this
  unfold a_share
  generalize shx (cntN G.l G.N) G.N = x at this ⊢
  rw [Bool.and_eq_true, Bool.and_eq_true] at this
  obtain ⟨⟨c1, c2⟩, c3⟩ := this
  refine ⟨of_decide_eq_true c1, of_decide_eq_true c2, fun h => ?_⟩
  unfold f_X4_bitsOfFloat
  split at c3
  · rename_i q
    rw [if_pos q, of_decide_eq_true c3]
  · rename_i q
    rw [if_neg q]
    exact bofL_ok 12 FUEL x 127 _ h (of_decide_eq_true c3) (by simp only [FUEL]; omega)
theorem c_share {G : Gr} (hG : GV G) (h : AH) (K : UInt32 → AH → Res) : o_fdiv (FP.i2f (nI (cntN G.l G.N))) (FP.i2f (nI G.N)) K h = K (shx (cntN G.l G.N) G.N) h := by
  unfold o_fdiv
  exact if_pos (share_ok hG).1
theorem m_share {h : AH} (hL : 608 ≤ h.length) {F : Nat → Int32} {A : Nat → Nat → Int32} {G : Gr} (hz : MZ (A 0) G) (hG : GV G) : f_X4_landShare (some 1617) (mset h F A) = some (some (vI (a_share G)), mset h F A) := by
  obtain ⟨c1, c2, c3⟩ := share_ok hG
  unfold f_X4_landShare
  rw [m_ci hL (m_land hL hz hG), m_ci hL (m_tiles hL hz hG), sm_cntN]
  rw [c_share hG]
  exact o_ci_eq (c3 _)
theorem c_bits {G : Gr} (hG : GV G) (h : AH) : f_J25_floatToIntBits (shx (cntN G.l G.N) G.N) h = some (some (vI (a_share G)), h) := by
  unfold f_J25_floatToIntBits
  have e : f_J25_isNaN (shx (cntN G.l G.N) G.N) h = some (some (vI (bI false)), h) := by
    unfold f_J25_isNaN
    rw [if_pos (share_ok hG).2.1, retz_0]
  rw [o_ci_eq e]
  rfl
theorem m_rows {h : AH} (hL : 608 ≤ h.length) {F : Nat → Int32} {A : Nat → Nat → Int32} {G : Gr} (hz : MZ (A 0) G) : f_X4_rows (some 1617) (mset h F A) = some (some (vI (nI G.R)), mset h F A) := by
  unfold f_X4_rows
  rw [m_gr0 hL, li0, m_ld0 hL (by omega), hz.1]
theorem m_columns {h : AH} (hL : 608 ≤ h.length) {F : Nat → Int32} {A : Nat → Nat → Int32} {G : Gr} (hz : MZ (A 0) G) : f_X4_columns (some 1617) (mset h F A) = some (some (vI (nI G.C)), mset h F A) := by
  unfold f_X4_columns
  rw [m_gr0 hL, li1, m_ld0 hL (by omega), hz.2.1]
