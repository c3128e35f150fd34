set_option maxRecDepth 100000
/-! the model: fifteen cells of the heap, from 1617 on; F its int fields, A its arrays, by field -/
def mfs (F : Nat → Int32) : List Value := [.ref 1618, .ref 1619, .int (F 2), .ref 1620, .int (F 4), .ref 1621, .int (F 6), .ref 1622, .ref 1623, .ref 1624, .ref 1625, .ref 1626, .int (F 12), .ref 1627, .ref 1628, .ref 1629, .ref 1630, .ref 1631, .int (F 18), .int (F 19), .int (F 20), .int (F 21)]
def mcells (F : Nat → Int32) (A : Nat → Nat → Int32) : List AE := [(4, mfs F), (64, arI 291 (A 0)), (64, arI 1455 (A 1)), (64, arI 291 (A 3)), (68, arI 80 (A 5)), (64, arI 47 (A 7)), (64, arI 256 (A 8)), (64, arI 144 (A 9)), (64, arI 144 (A 10)), (64, arI 144 (A 11)), (64, arI 144 (A 13)), (64, arI 144 (A 14)), (64, arI 144 (A 15)), (65, arI 144 (A 16)), (64, arI 144 (A 17))]
def mset (h : AH) (F : Nat → Int32) (A : Nat → Nat → Int32) : AH := h.take 593 ++ (mcells F A ++ h.drop 608)
theorem mset_len {h : AH} (hL : 608 ≤ h.length) (F : Nat → Int32) (A : Nat → Nat → Int32) : (mset h F A).length = h.length := by
  simp [mset, mcells]; omega
theorem mset_mset {h : AH} (hL : 608 ≤ h.length) (F F' : Nat → Int32) (A A' : Nat → Nat → Int32) : mset (mset h F A) F' A' = mset h F' A' := by
  have e1 : (mset h F A).take 593 = h.take 593 := by
    unfold mset
    rw [List.take_append_of_le_length (by simp; omega), List.take_take]; simp
  have e2 : (mset h F A).drop 608 = h.drop 608 := by
    unfold mset
    rw [← List.append_assoc, List.drop_append_of_le_length (by simp [mcells]; omega), List.drop_eq_nil_of_le (by simp [mcells]; omega)]; rfl
  rw [mset, e1, e2]; rfl
theorem mset_at {h : AH} (hL : 608 ≤ h.length) {F : Nat → Int32} {A : Nat → Nat → Int32} {k : Nat} (hk : k < 15) : (mset h F A)[593 + k]? = (mcells F A)[k]? := by
  unfold mset
  rw [List.getElem?_append_right (by simp; omega), List.getElem?_append_left (by simp [mcells]; omega)]
  congr 1; simp; omega
theorem mset_get {h : AH} (hL : 608 ≤ h.length) {F : Nat → Int32} {A : Nat → Nat → Int32} (k : Nat) {e : AE} (hk : k < 15) (he : (mcells F A)[k]? = some e) : hget (mset h F A) (1617 + k) = some e := by
  unfold hget
  rw [if_pos (by omega), show 1617 + k - 1024 = 593 + k by omega, mset_at hL hk, he]
theorem mset_get_ne {h : AH} (hL : 608 ≤ h.length) {F : Nat → Int32} {A : Nat → Nat → Int32} {i : Nat} (hi : i < 1617 ∨ 1632 ≤ i) : hget (mset h F A) i = hget h i := by
  unfold hget
  split
  · unfold mset
    rcases hi with hi | hi
    · rw [List.getElem?_append_left (by simp; omega), List.getElem?_take_of_lt (by omega)]
    · rw [List.getElem?_append_right (by simp; omega), List.getElem?_append_right (by simp [mcells]; omega), List.getElem?_drop]
      congr 1; simp [mcells]; omega
  · rfl
theorem mset_set {h : AH} (hL : 608 ≤ h.length) {F F' : Nat → Int32} {A A' : Nat → Nat → Int32} (k : Nat) {e : AE} (hk : k < 15) (he : (mcells F A).set k e = mcells F' A') : hset (mset h F A) (1617 + k) e = mset h F' A' := by
  unfold hset mset
  rw [show 1617 + k - 1024 = 593 + k by omega, List.set_append_right _ _ (by simp; omega), List.set_append_left _ _ (by simp [mcells]; omega)]
  rw [show 593 + k - (h.take 593).length = k by simp; omega, he]
/-- the heap that holds the model so -/
theorem mset_self {h : AH} (hL : 608 ≤ h.length) {F : Nat → Int32} {A : Nat → Nat → Int32} (hm : ∀ k e, (mcells F A)[k]? = some e → hget h (1617 + k) = some e) : h = mset h F A := by
  apply List.ext_getElem?
  intro i
  by_cases h1 : i < 593 ∨ 608 ≤ i
  · have := mset_get_ne hL (F := F) (A := A) (i := 1024 + i) (by omega)
    unfold hget at this
    rw [if_pos (by omega), if_pos (by omega), show 1024 + i - 1024 = i by omega] at this
    exact this.symm
  · obtain ⟨k, rfl⟩ : ∃ k, i = 593 + k := ⟨i - 593, by omega⟩
    have hk : k < (mcells F A).length := by simp [mcells]; omega
    have hk2 : k < 15 := by omega
    rw [mset_at hL hk2]
    obtain ⟨e, he⟩ : ∃ e, (mcells F A)[k]? = some e := ⟨_, List.getElem?_eq_getElem hk⟩
    have := hm k e he
    unfold hget at this
    rw [if_pos (by omega), show 1617 + k - 1024 = 593 + k by omega] at this
    rw [this, he]
theorem m_tag {h : AH} (hL : 608 ≤ h.length) {F : Nat → Int32} {A : Nat → Nat → Int32} {G : AH → Res} : tagIs 4 (some 1617) G (mset h F A) = G (mset h F A) := tagIs_eq (mset_get hL 0 (by omega) rfl)
theorem m_ci {h : AH} (hL : 608 ≤ h.length) {F : Nat → Int32} {A : Nat → Nat → Int32} {f : AH → Res} {K : Int32 → AH → Res} {x : Int32} {h1 : AH} (hf : f (mset h F A) = some (some (vI x), h1)) : o_ci (tagIs 4 (some 1617) f) K (mset h F A) = K x h1 := o_ci_eq ((m_tag hL).trans hf)
theorem m_cf {h : AH} (hL : 608 ≤ h.length) {F : Nat → Int32} {A : Nat → Nat → Int32} {f : AH → Res} {K : UInt32 → AH → Res} {x : UInt32} {h1 : AH} (hf : f (mset h F A) = some (some (vF x), h1)) : o_cf (tagIs 4 (some 1617) f) K (mset h F A) = K x h1 := o_cf_eq ((m_tag hL).trans hf)
theorem m_cv {h : AH} (hL : 608 ≤ h.length) {F : Nat → Int32} {A : Nat → Nat → Int32} {f : AH → Res} {K : AH → Res} {h1 : AH} (hf : f (mset h F A) = some (none, h1)) : o_cv (tagIs 4 (some 1617) f) K (mset h F A) = K h1 := o_cv_eq ((m_tag hL).trans hf)
theorem m_gr0 {h : AH} (hL : 608 ≤ h.length) {F : Nat → Int32} {A : Nat → Nat → Int32} {K : Rf → AH → Res} : o_gr 4 (some 1617) 0 K (mset h F A) = K (some 1618) (mset h F A) := o_gr_eq (mset_get hL 0 (by omega) rfl) rfl
theorem m_gr1 {h : AH} (hL : 608 ≤ h.length) {F : Nat → Int32} {A : Nat → Nat → Int32} {K : Rf → AH → Res} : o_gr 4 (some 1617) 1 K (mset h F A) = K (some 1619) (mset h F A) := o_gr_eq (mset_get hL 0 (by omega) rfl) rfl
theorem m_gi2 {h : AH} (hL : 608 ≤ h.length) {F : Nat → Int32} {A : Nat → Nat → Int32} {K : Int32 → AH → Res} : o_gi 4 (some 1617) 2 K (mset h F A) = K (F 2) (mset h F A) := o_gi_eq (mset_get hL 0 (by omega) rfl) rfl
theorem m_pf2 {h : AH} (hL : 608 ≤ h.length) {F : Nat → Int32} {A : Nat → Nat → Int32} {x : Int32} {K : AH → Res} : o_pf 4 (some 1617) 2 (.int x) K (mset h F A) = K (mset h (up F 2 x) A) := (o_pf_eq (mset_get hL 0 (by omega) rfl) (by omega) (by show _ < 22; omega)).trans (congrArg K (mset_set hL 0 (by omega) rfl))
theorem m_gr3 {h : AH} (hL : 608 ≤ h.length) {F : Nat → Int32} {A : Nat → Nat → Int32} {K : Rf → AH → Res} : o_gr 4 (some 1617) 3 K (mset h F A) = K (some 1620) (mset h F A) := o_gr_eq (mset_get hL 0 (by omega) rfl) rfl
theorem m_gi4 {h : AH} (hL : 608 ≤ h.length) {F : Nat → Int32} {A : Nat → Nat → Int32} {K : Int32 → AH → Res} : o_gi 4 (some 1617) 4 K (mset h F A) = K (F 4) (mset h F A) := o_gi_eq (mset_get hL 0 (by omega) rfl) rfl
theorem m_pf4 {h : AH} (hL : 608 ≤ h.length) {F : Nat → Int32} {A : Nat → Nat → Int32} {x : Int32} {K : AH → Res} : o_pf 4 (some 1617) 4 (.int x) K (mset h F A) = K (mset h (up F 4 x) A) := (o_pf_eq (mset_get hL 0 (by omega) rfl) (by omega) (by show _ < 22; omega)).trans (congrArg K (mset_set hL 0 (by omega) rfl))
theorem m_gr5 {h : AH} (hL : 608 ≤ h.length) {F : Nat → Int32} {A : Nat → Nat → Int32} {K : Rf → AH → Res} : o_gr 4 (some 1617) 5 K (mset h F A) = K (some 1621) (mset h F A) := o_gr_eq (mset_get hL 0 (by omega) rfl) rfl
theorem m_gi6 {h : AH} (hL : 608 ≤ h.length) {F : Nat → Int32} {A : Nat → Nat → Int32} {K : Int32 → AH → Res} : o_gi 4 (some 1617) 6 K (mset h F A) = K (F 6) (mset h F A) := o_gi_eq (mset_get hL 0 (by omega) rfl) rfl
theorem m_pf6 {h : AH} (hL : 608 ≤ h.length) {F : Nat → Int32} {A : Nat → Nat → Int32} {x : Int32} {K : AH → Res} : o_pf 4 (some 1617) 6 (.int x) K (mset h F A) = K (mset h (up F 6 x) A) := (o_pf_eq (mset_get hL 0 (by omega) rfl) (by omega) (by show _ < 22; omega)).trans (congrArg K (mset_set hL 0 (by omega) rfl))
theorem m_gr7 {h : AH} (hL : 608 ≤ h.length) {F : Nat → Int32} {A : Nat → Nat → Int32} {K : Rf → AH → Res} : o_gr 4 (some 1617) 7 K (mset h F A) = K (some 1622) (mset h F A) := o_gr_eq (mset_get hL 0 (by omega) rfl) rfl
theorem m_gr8 {h : AH} (hL : 608 ≤ h.length) {F : Nat → Int32} {A : Nat → Nat → Int32} {K : Rf → AH → Res} : o_gr 4 (some 1617) 8 K (mset h F A) = K (some 1623) (mset h F A) := o_gr_eq (mset_get hL 0 (by omega) rfl) rfl
theorem m_gr9 {h : AH} (hL : 608 ≤ h.length) {F : Nat → Int32} {A : Nat → Nat → Int32} {K : Rf → AH → Res} : o_gr 4 (some 1617) 9 K (mset h F A) = K (some 1624) (mset h F A) := o_gr_eq (mset_get hL 0 (by omega) rfl) rfl
theorem m_gr10 {h : AH} (hL : 608 ≤ h.length) {F : Nat → Int32} {A : Nat → Nat → Int32} {K : Rf → AH → Res} : o_gr 4 (some 1617) 10 K (mset h F A) = K (some 1625) (mset h F A) := o_gr_eq (mset_get hL 0 (by omega) rfl) rfl
theorem m_gr11 {h : AH} (hL : 608 ≤ h.length) {F : Nat → Int32} {A : Nat → Nat → Int32} {K : Rf → AH → Res} : o_gr 4 (some 1617) 11 K (mset h F A) = K (some 1626) (mset h F A) := o_gr_eq (mset_get hL 0 (by omega) rfl) rfl
theorem m_gi12 {h : AH} (hL : 608 ≤ h.length) {F : Nat → Int32} {A : Nat → Nat → Int32} {K : Int32 → AH → Res} : o_gi 4 (some 1617) 12 K (mset h F A) = K (F 12) (mset h F A) := o_gi_eq (mset_get hL 0 (by omega) rfl) rfl
theorem m_pf12 {h : AH} (hL : 608 ≤ h.length) {F : Nat → Int32} {A : Nat → Nat → Int32} {x : Int32} {K : AH → Res} : o_pf 4 (some 1617) 12 (.int x) K (mset h F A) = K (mset h (up F 12 x) A) := (o_pf_eq (mset_get hL 0 (by omega) rfl) (by omega) (by show _ < 22; omega)).trans (congrArg K (mset_set hL 0 (by omega) rfl))
theorem m_gr13 {h : AH} (hL : 608 ≤ h.length) {F : Nat → Int32} {A : Nat → Nat → Int32} {K : Rf → AH → Res} : o_gr 4 (some 1617) 13 K (mset h F A) = K (some 1627) (mset h F A) := o_gr_eq (mset_get hL 0 (by omega) rfl) rfl
theorem m_gr14 {h : AH} (hL : 608 ≤ h.length) {F : Nat → Int32} {A : Nat → Nat → Int32} {K : Rf → AH → Res} : o_gr 4 (some 1617) 14 K (mset h F A) = K (some 1628) (mset h F A) := o_gr_eq (mset_get hL 0 (by omega) rfl) rfl
theorem m_gr15 {h : AH} (hL : 608 ≤ h.length) {F : Nat → Int32} {A : Nat → Nat → Int32} {K : Rf → AH → Res} : o_gr 4 (some 1617) 15 K (mset h F A) = K (some 1629) (mset h F A) := o_gr_eq (mset_get hL 0 (by omega) rfl) rfl
theorem m_gr16 {h : AH} (hL : 608 ≤ h.length) {F : Nat → Int32} {A : Nat → Nat → Int32} {K : Rf → AH → Res} : o_gr 4 (some 1617) 16 K (mset h F A) = K (some 1630) (mset h F A) := o_gr_eq (mset_get hL 0 (by omega) rfl) rfl
theorem m_gr17 {h : AH} (hL : 608 ≤ h.length) {F : Nat → Int32} {A : Nat → Nat → Int32} {K : Rf → AH → Res} : o_gr 4 (some 1617) 17 K (mset h F A) = K (some 1631) (mset h F A) := o_gr_eq (mset_get hL 0 (by omega) rfl) rfl
theorem m_gi18 {h : AH} (hL : 608 ≤ h.length) {F : Nat → Int32} {A : Nat → Nat → Int32} {K : Int32 → AH → Res} : o_gi 4 (some 1617) 18 K (mset h F A) = K (F 18) (mset h F A) := o_gi_eq (mset_get hL 0 (by omega) rfl) rfl
theorem m_pf18 {h : AH} (hL : 608 ≤ h.length) {F : Nat → Int32} {A : Nat → Nat → Int32} {x : Int32} {K : AH → Res} : o_pf 4 (some 1617) 18 (.int x) K (mset h F A) = K (mset h (up F 18 x) A) := (o_pf_eq (mset_get hL 0 (by omega) rfl) (by omega) (by show _ < 22; omega)).trans (congrArg K (mset_set hL 0 (by omega) rfl))
theorem m_gi19 {h : AH} (hL : 608 ≤ h.length) {F : Nat → Int32} {A : Nat → Nat → Int32} {K : Int32 → AH → Res} : o_gi 4 (some 1617) 19 K (mset h F A) = K (F 19) (mset h F A) := o_gi_eq (mset_get hL 0 (by omega) rfl) rfl
theorem m_pf19 {h : AH} (hL : 608 ≤ h.length) {F : Nat → Int32} {A : Nat → Nat → Int32} {x : Int32} {K : AH → Res} : o_pf 4 (some 1617) 19 (.int x) K (mset h F A) = K (mset h (up F 19 x) A) := (o_pf_eq (mset_get hL 0 (by omega) rfl) (by omega) (by show _ < 22; omega)).trans (congrArg K (mset_set hL 0 (by omega) rfl))
theorem m_gi20 {h : AH} (hL : 608 ≤ h.length) {F : Nat → Int32} {A : Nat → Nat → Int32} {K : Int32 → AH → Res} : o_gi 4 (some 1617) 20 K (mset h F A) = K (F 20) (mset h F A) := o_gi_eq (mset_get hL 0 (by omega) rfl) rfl
theorem m_pf20 {h : AH} (hL : 608 ≤ h.length) {F : Nat → Int32} {A : Nat → Nat → Int32} {x : Int32} {K : AH → Res} : o_pf 4 (some 1617) 20 (.int x) K (mset h F A) = K (mset h (up F 20 x) A) := (o_pf_eq (mset_get hL 0 (by omega) rfl) (by omega) (by show _ < 22; omega)).trans (congrArg K (mset_set hL 0 (by omega) rfl))
theorem m_gi21 {h : AH} (hL : 608 ≤ h.length) {F : Nat → Int32} {A : Nat → Nat → Int32} {K : Int32 → AH → Res} : o_gi 4 (some 1617) 21 K (mset h F A) = K (F 21) (mset h F A) := o_gi_eq (mset_get hL 0 (by omega) rfl) rfl
theorem m_pf21 {h : AH} (hL : 608 ≤ h.length) {F : Nat → Int32} {A : Nat → Nat → Int32} {x : Int32} {K : AH → Res} : o_pf 4 (some 1617) 21 (.int x) K (mset h F A) = K (mset h (up F 21 x) A) := (o_pf_eq (mset_get hL 0 (by omega) rfl) (by omega) (by show _ < 22; omega)).trans (congrArg K (mset_set hL 0 (by omega) rfl))
theorem m_ld0 {h : AH} (hL : 608 ≤ h.length) {F : Nat → Int32} {A : Nat → Nat → Int32} {j : Nat} {K : Int32 → AH → Res} (hj : j < 291) : o_aldI 64 (some 1618) (nI j) K (mset h F A) = K (A 0 j) (mset h F A) := o_aldI_eq (mset_get hL 1 (by omega) rfl) (nI_pos (by omega)) (by rw [nI_clamp (by omega)]; exact arI_get hj)
theorem m_st0 {h : AH} (hL : 608 ≤ h.length) {F : Nat → Int32} {A : Nat → Nat → Int32} {j : Nat} {x : Int32} {K : AH → Res} (hj : j < 291) : o_ast 64 (some 1618) (nI j) (.int x) K (mset h F A) = K (mset h F (upA A 0 (up (A 0) j x))) := by
  refine (o_ast_eq (mset_get hL 1 (by omega) rfl) (by omega) (nI_pos (by omega)) (by rw [nI_clamp (by omega), arI_len]; exact hj)).trans (congrArg K ?_)
  refine mset_set hL 1 (by omega) ?_
  rw [nI_clamp (by omega), arI_set]; rfl
theorem m_ld1 {h : AH} (hL : 608 ≤ h.length) {F : Nat → Int32} {A : Nat → Nat → Int32} {j : Nat} {K : Int32 → AH → Res} (hj : j < 1455) : o_aldI 64 (some 1619) (nI j) K (mset h F A) = K (A 1 j) (mset h F A) := o_aldI_eq (mset_get hL 2 (by omega) rfl) (nI_pos (by omega)) (by rw [nI_clamp (by omega)]; exact arI_get hj)
theorem m_st1 {h : AH} (hL : 608 ≤ h.length) {F : Nat → Int32} {A : Nat → Nat → Int32} {j : Nat} {x : Int32} {K : AH → Res} (hj : j < 1455) : o_ast 64 (some 1619) (nI j) (.int x) K (mset h F A) = K (mset h F (upA A 1 (up (A 1) j x))) := by
  refine (o_ast_eq (mset_get hL 2 (by omega) rfl) (by omega) (nI_pos (by omega)) (by rw [nI_clamp (by omega), arI_len]; exact hj)).trans (congrArg K ?_)
  refine mset_set hL 2 (by omega) ?_
  rw [nI_clamp (by omega), arI_set]; rfl
theorem m_ld3 {h : AH} (hL : 608 ≤ h.length) {F : Nat → Int32} {A : Nat → Nat → Int32} {j : Nat} {K : Int32 → AH → Res} (hj : j < 291) : o_aldI 64 (some 1620) (nI j) K (mset h F A) = K (A 3 j) (mset h F A) := o_aldI_eq (mset_get hL 3 (by omega) rfl) (nI_pos (by omega)) (by rw [nI_clamp (by omega)]; exact arI_get hj)
theorem m_st3 {h : AH} (hL : 608 ≤ h.length) {F : Nat → Int32} {A : Nat → Nat → Int32} {j : Nat} {x : Int32} {K : AH → Res} (hj : j < 291) : o_ast 64 (some 1620) (nI j) (.int x) K (mset h F A) = K (mset h F (upA A 3 (up (A 3) j x))) := by
  refine (o_ast_eq (mset_get hL 3 (by omega) rfl) (by omega) (nI_pos (by omega)) (by rw [nI_clamp (by omega), arI_len]; exact hj)).trans (congrArg K ?_)
  refine mset_set hL 3 (by omega) ?_
  rw [nI_clamp (by omega), arI_set]; rfl
theorem m_ld5 {h : AH} (hL : 608 ≤ h.length) {F : Nat → Int32} {A : Nat → Nat → Int32} {j : Nat} {K : Int32 → AH → Res} (hj : j < 80) : o_aldI 68 (some 1621) (nI j) K (mset h F A) = K (A 5 j) (mset h F A) := o_aldI_eq (mset_get hL 4 (by omega) rfl) (nI_pos (by omega)) (by rw [nI_clamp (by omega)]; exact arI_get hj)
theorem m_st5 {h : AH} (hL : 608 ≤ h.length) {F : Nat → Int32} {A : Nat → Nat → Int32} {j : Nat} {x : Int32} {K : AH → Res} (hj : j < 80) : o_ast 68 (some 1621) (nI j) (.int x) K (mset h F A) = K (mset h F (upA A 5 (up (A 5) j x))) := by
  refine (o_ast_eq (mset_get hL 4 (by omega) rfl) (by omega) (nI_pos (by omega)) (by rw [nI_clamp (by omega), arI_len]; exact hj)).trans (congrArg K ?_)
  refine mset_set hL 4 (by omega) ?_
  rw [nI_clamp (by omega), arI_set]; rfl
theorem m_ld7 {h : AH} (hL : 608 ≤ h.length) {F : Nat → Int32} {A : Nat → Nat → Int32} {j : Nat} {K : Int32 → AH → Res} (hj : j < 47) : o_aldI 64 (some 1622) (nI j) K (mset h F A) = K (A 7 j) (mset h F A) := o_aldI_eq (mset_get hL 5 (by omega) rfl) (nI_pos (by omega)) (by rw [nI_clamp (by omega)]; exact arI_get hj)
theorem m_st7 {h : AH} (hL : 608 ≤ h.length) {F : Nat → Int32} {A : Nat → Nat → Int32} {j : Nat} {x : Int32} {K : AH → Res} (hj : j < 47) : o_ast 64 (some 1622) (nI j) (.int x) K (mset h F A) = K (mset h F (upA A 7 (up (A 7) j x))) := by
  refine (o_ast_eq (mset_get hL 5 (by omega) rfl) (by omega) (nI_pos (by omega)) (by rw [nI_clamp (by omega), arI_len]; exact hj)).trans (congrArg K ?_)
  refine mset_set hL 5 (by omega) ?_
  rw [nI_clamp (by omega), arI_set]; rfl
theorem m_ld8 {h : AH} (hL : 608 ≤ h.length) {F : Nat → Int32} {A : Nat → Nat → Int32} {j : Nat} {K : Int32 → AH → Res} (hj : j < 256) : o_aldI 64 (some 1623) (nI j) K (mset h F A) = K (A 8 j) (mset h F A) := o_aldI_eq (mset_get hL 6 (by omega) rfl) (nI_pos (by omega)) (by rw [nI_clamp (by omega)]; exact arI_get hj)
theorem m_st8 {h : AH} (hL : 608 ≤ h.length) {F : Nat → Int32} {A : Nat → Nat → Int32} {j : Nat} {x : Int32} {K : AH → Res} (hj : j < 256) : o_ast 64 (some 1623) (nI j) (.int x) K (mset h F A) = K (mset h F (upA A 8 (up (A 8) j x))) := by
  refine (o_ast_eq (mset_get hL 6 (by omega) rfl) (by omega) (nI_pos (by omega)) (by rw [nI_clamp (by omega), arI_len]; exact hj)).trans (congrArg K ?_)
  refine mset_set hL 6 (by omega) ?_
  rw [nI_clamp (by omega), arI_set]; rfl
theorem m_ld9 {h : AH} (hL : 608 ≤ h.length) {F : Nat → Int32} {A : Nat → Nat → Int32} {j : Nat} {K : Int32 → AH → Res} (hj : j < 144) : o_aldI 64 (some 1624) (nI j) K (mset h F A) = K (A 9 j) (mset h F A) := o_aldI_eq (mset_get hL 7 (by omega) rfl) (nI_pos (by omega)) (by rw [nI_clamp (by omega)]; exact arI_get hj)
theorem m_st9 {h : AH} (hL : 608 ≤ h.length) {F : Nat → Int32} {A : Nat → Nat → Int32} {j : Nat} {x : Int32} {K : AH → Res} (hj : j < 144) : o_ast 64 (some 1624) (nI j) (.int x) K (mset h F A) = K (mset h F (upA A 9 (up (A 9) j x))) := by
  refine (o_ast_eq (mset_get hL 7 (by omega) rfl) (by omega) (nI_pos (by omega)) (by rw [nI_clamp (by omega), arI_len]; exact hj)).trans (congrArg K ?_)
  refine mset_set hL 7 (by omega) ?_
  rw [nI_clamp (by omega), arI_set]; rfl
theorem m_ld10 {h : AH} (hL : 608 ≤ h.length) {F : Nat → Int32} {A : Nat → Nat → Int32} {j : Nat} {K : Int32 → AH → Res} (hj : j < 144) : o_aldI 64 (some 1625) (nI j) K (mset h F A) = K (A 10 j) (mset h F A) := o_aldI_eq (mset_get hL 8 (by omega) rfl) (nI_pos (by omega)) (by rw [nI_clamp (by omega)]; exact arI_get hj)
theorem m_st10 {h : AH} (hL : 608 ≤ h.length) {F : Nat → Int32} {A : Nat → Nat → Int32} {j : Nat} {x : Int32} {K : AH → Res} (hj : j < 144) : o_ast 64 (some 1625) (nI j) (.int x) K (mset h F A) = K (mset h F (upA A 10 (up (A 10) j x))) := by
  refine (o_ast_eq (mset_get hL 8 (by omega) rfl) (by omega) (nI_pos (by omega)) (by rw [nI_clamp (by omega), arI_len]; exact hj)).trans (congrArg K ?_)
  refine mset_set hL 8 (by omega) ?_
  rw [nI_clamp (by omega), arI_set]; rfl
theorem m_ld11 {h : AH} (hL : 608 ≤ h.length) {F : Nat → Int32} {A : Nat → Nat → Int32} {j : Nat} {K : Int32 → AH → Res} (hj : j < 144) : o_aldI 64 (some 1626) (nI j) K (mset h F A) = K (A 11 j) (mset h F A) := o_aldI_eq (mset_get hL 9 (by omega) rfl) (nI_pos (by omega)) (by rw [nI_clamp (by omega)]; exact arI_get hj)
theorem m_st11 {h : AH} (hL : 608 ≤ h.length) {F : Nat → Int32} {A : Nat → Nat → Int32} {j : Nat} {x : Int32} {K : AH → Res} (hj : j < 144) : o_ast 64 (some 1626) (nI j) (.int x) K (mset h F A) = K (mset h F (upA A 11 (up (A 11) j x))) := by
  refine (o_ast_eq (mset_get hL 9 (by omega) rfl) (by omega) (nI_pos (by omega)) (by rw [nI_clamp (by omega), arI_len]; exact hj)).trans (congrArg K ?_)
  refine mset_set hL 9 (by omega) ?_
  rw [nI_clamp (by omega), arI_set]; rfl
theorem m_ld13 {h : AH} (hL : 608 ≤ h.length) {F : Nat → Int32} {A : Nat → Nat → Int32} {j : Nat} {K : Int32 → AH → Res} (hj : j < 144) : o_aldI 64 (some 1627) (nI j) K (mset h F A) = K (A 13 j) (mset h F A) := o_aldI_eq (mset_get hL 10 (by omega) rfl) (nI_pos (by omega)) (by rw [nI_clamp (by omega)]; exact arI_get hj)
theorem m_st13 {h : AH} (hL : 608 ≤ h.length) {F : Nat → Int32} {A : Nat → Nat → Int32} {j : Nat} {x : Int32} {K : AH → Res} (hj : j < 144) : o_ast 64 (some 1627) (nI j) (.int x) K (mset h F A) = K (mset h F (upA A 13 (up (A 13) j x))) := by
  refine (o_ast_eq (mset_get hL 10 (by omega) rfl) (by omega) (nI_pos (by omega)) (by rw [nI_clamp (by omega), arI_len]; exact hj)).trans (congrArg K ?_)
  refine mset_set hL 10 (by omega) ?_
  rw [nI_clamp (by omega), arI_set]; rfl
theorem m_ld14 {h : AH} (hL : 608 ≤ h.length) {F : Nat → Int32} {A : Nat → Nat → Int32} {j : Nat} {K : Int32 → AH → Res} (hj : j < 144) : o_aldI 64 (some 1628) (nI j) K (mset h F A) = K (A 14 j) (mset h F A) := o_aldI_eq (mset_get hL 11 (by omega) rfl) (nI_pos (by omega)) (by rw [nI_clamp (by omega)]; exact arI_get hj)
theorem m_st14 {h : AH} (hL : 608 ≤ h.length) {F : Nat → Int32} {A : Nat → Nat → Int32} {j : Nat} {x : Int32} {K : AH → Res} (hj : j < 144) : o_ast 64 (some 1628) (nI j) (.int x) K (mset h F A) = K (mset h F (upA A 14 (up (A 14) j x))) := by
  refine (o_ast_eq (mset_get hL 11 (by omega) rfl) (by omega) (nI_pos (by omega)) (by rw [nI_clamp (by omega), arI_len]; exact hj)).trans (congrArg K ?_)
  refine mset_set hL 11 (by omega) ?_
  rw [nI_clamp (by omega), arI_set]; rfl
theorem m_ld15 {h : AH} (hL : 608 ≤ h.length) {F : Nat → Int32} {A : Nat → Nat → Int32} {j : Nat} {K : Int32 → AH → Res} (hj : j < 144) : o_aldI 64 (some 1629) (nI j) K (mset h F A) = K (A 15 j) (mset h F A) := o_aldI_eq (mset_get hL 12 (by omega) rfl) (nI_pos (by omega)) (by rw [nI_clamp (by omega)]; exact arI_get hj)
theorem m_st15 {h : AH} (hL : 608 ≤ h.length) {F : Nat → Int32} {A : Nat → Nat → Int32} {j : Nat} {x : Int32} {K : AH → Res} (hj : j < 144) : o_ast 64 (some 1629) (nI j) (.int x) K (mset h F A) = K (mset h F (upA A 15 (up (A 15) j x))) := by
  refine (o_ast_eq (mset_get hL 12 (by omega) rfl) (by omega) (nI_pos (by omega)) (by rw [nI_clamp (by omega), arI_len]; exact hj)).trans (congrArg K ?_)
  refine mset_set hL 12 (by omega) ?_
  rw [nI_clamp (by omega), arI_set]; rfl
theorem m_ld16 {h : AH} (hL : 608 ≤ h.length) {F : Nat → Int32} {A : Nat → Nat → Int32} {j : Nat} {K : Int32 → AH → Res} (hj : j < 144) : o_aldI 65 (some 1630) (nI j) K (mset h F A) = K (A 16 j) (mset h F A) := o_aldI_eq (mset_get hL 13 (by omega) rfl) (nI_pos (by omega)) (by rw [nI_clamp (by omega)]; exact arI_get hj)
theorem m_st16 {h : AH} (hL : 608 ≤ h.length) {F : Nat → Int32} {A : Nat → Nat → Int32} {j : Nat} {x : Int32} {K : AH → Res} (hj : j < 144) : o_ast 65 (some 1630) (nI j) (.int x) K (mset h F A) = K (mset h F (upA A 16 (up (A 16) j x))) := by
  refine (o_ast_eq (mset_get hL 13 (by omega) rfl) (by omega) (nI_pos (by omega)) (by rw [nI_clamp (by omega), arI_len]; exact hj)).trans (congrArg K ?_)
  refine mset_set hL 13 (by omega) ?_
  rw [nI_clamp (by omega), arI_set]; rfl
theorem m_ld17 {h : AH} (hL : 608 ≤ h.length) {F : Nat → Int32} {A : Nat → Nat → Int32} {j : Nat} {K : Int32 → AH → Res} (hj : j < 144) : o_aldI 64 (some 1631) (nI j) K (mset h F A) = K (A 17 j) (mset h F A) := o_aldI_eq (mset_get hL 14 (by omega) rfl) (nI_pos (by omega)) (by rw [nI_clamp (by omega)]; exact arI_get hj)
theorem m_st17 {h : AH} (hL : 608 ≤ h.length) {F : Nat → Int32} {A : Nat → Nat → Int32} {j : Nat} {x : Int32} {K : AH → Res} (hj : j < 144) : o_ast 64 (some 1631) (nI j) (.int x) K (mset h F A) = K (mset h F (upA A 17 (up (A 17) j x))) := by
  refine (o_ast_eq (mset_get hL 14 (by omega) rfl) (by omega) (nI_pos (by omega)) (by rw [nI_clamp (by omega), arI_len]; exact hj)).trans (congrArg K ?_)
  refine mset_set hL 14 (by omega) ?_
  rw [nI_clamp (by omega), arI_set]; rfl
