set_option maxRecDepth 100000
/-! the model's functions: masks, tiles, shapes -/
def MZ (z : Nat → Int32) (G : Gr) : Prop := z 0 = nI G.R ∧ z 1 = nI G.C ∧ z 2 = bI G.o ∧ ∀ k, k < G.N → z (3 + k) = bI (G.l k) ∧ z (147 + k) = G.p k
theorem m_in (x a b : Int32) (h : AH) : f_X4_in x a b h = some (some (vI (bI (decide (a.toInt ≤ x.toInt ∧ x.toInt ≤ b.toInt)))), h) := by
  unfold f_X4_in
  simp only [Int32.lt_iff_toInt_lt]
  split
  · rw [retz_0, decide_eq_false (by omega)]
  · split
    · rw [retz_0, decide_eq_false (by omega)]
    · rw [retz_1, decide_eq_true (by omega)]
theorem m_isTile {h : AH} (hL : 608 ≤ h.length) {F : Nat → Int32} {A : Nat → Nat → Int32} {G : Gr} (hz : MZ (A 0) G) (hG : GV G) (x y : Int32) : f_X4_isTile (some 1617) x y (mset h F A) = some (some (vI (bI (inG G x.toInt y.toInt))), mset h F A) := by
  obtain ⟨z0, z1, z2, z3⟩ := id hz
  obtain ⟨⟨g1, g2, g3, g4, g5, g6⟩, g7⟩ := id hG
  unfold f_X4_isTile
  simp (disch := omega) only [li0, li1, li2, li3, li4, li5, li7, li8, li9, li10, li11, li12, li46, li47, li80, li100, li144, li147, li255, li256, li291, li1164, m_tag hL, m_gr0 hL, m_gr1 hL, m_gr3 hL, m_gr5 hL, m_gr7 hL, m_gr8 hL, m_gr9 hL, m_gr10 hL, m_gr11 hL, m_gr13 hL, m_gr14 hL, m_gr15 hL, m_gr16 hL, m_gr17 hL, m_gi2 hL, m_gi4 hL, m_gi6 hL, m_gi12 hL, m_gi18 hL, m_gi19 hL, m_gi20 hL, m_gi21 hL, m_ld0 hL, m_ld1 hL, m_ld3 hL, m_ld5 hL, m_ld7 hL, m_ld8 hL, m_ld9 hL, m_ld10 hL, m_ld11 hL, m_ld13 hL, m_ld14 hL, m_ld15 hL, m_ld16 hL, m_ld17 hL, m_pf2 hL, m_pf4 hL, m_pf6 hL, m_pf12 hL, m_pf18 hL, m_pf19 hL, m_pf20 hL, m_pf21 hL, m_st0 hL, m_st1 hL, m_st3 hL, m_st5 hL, m_st7 hL, m_st8 hL, m_st9 hL, m_st10 hL, m_st11 hL, m_st13 hL, m_st14 hL, m_st15 hL, m_st16 hL, m_st17 hL, nI_add, pk_mul, pk_sub, nI_le', nI_lt', nI_eq', nI_m6, nI_neg, pk_div, pk_rem, idiv_nI, irem_nI, ite_bI, ite_bIn, ite_bI1, ite_bI1n, retz_bI, retz_0, retz_1, retz_0n, retz_1n, o_let_eq, decide_eq_true_eq, ite_retI, bI_ite, if_true, if_false, z0, z1, z2, o_ci_eq (m_in _ _ _ _), nI_toInt]
  refine ret_cong ?_
  unfold inG
  by_cases a : (0 ≤ x.toInt ∧ x.toInt < G.R) ∧ 0 ≤ y.toInt ∧ y.toInt < G.C
  · rw [if_pos (by omega), if_pos (by omega), decide_eq_true a]
  · rw [decide_eq_false a]
    split
    · rw [if_neg (by omega)]
    · rfl
theorem m_isTileN {h : AH} (hL : 608 ≤ h.length) {F : Nat → Int32} {A : Nat → Nat → Int32} {G : Gr} (hz : MZ (A 0) G) (hG : GV G) {r c : Nat} (hr : r < G.R) (hc : c < G.C) : f_X4_isTile (some 1617) (nI r) (nI c) (mset h F A) = some (some (vI (bI true)), mset h F A) := by
  obtain ⟨z0, z1, z2, z3⟩ := id hz
  obtain ⟨⟨g1, g2, g3, g4, g5, g6⟩, g7⟩ := id hG
  rw [m_isTile hL hz hG, nI_toInt (by omega), nI_toInt (by omega), (inG_iff G _ _).mpr (by omega)]
theorem m_at {h : AH} (hL : 608 ≤ h.length) {F : Nat → Int32} {A : Nat → Nat → Int32} {G : Gr} (hz : MZ (A 0) G) (hG : GV G) (r c : Nat) : f_X4_at (some 1617) (nI r) (nI c) (mset h F A) = some (some (vI (nI (G.C * r + c))), mset h F A) := by
  obtain ⟨z0, z1, z2, z3⟩ := id hz
  obtain ⟨⟨g1, g2, g3, g4, g5, g6⟩, g7⟩ := id hG
  unfold f_X4_at
  simp (disch := omega) only [li0, li1, li2, li3, li4, li5, li7, li8, li9, li10, li11, li12, li46, li47, li80, li100, li144, li147, li255, li256, li291, li1164, m_tag hL, m_gr0 hL, m_gr1 hL, m_gr3 hL, m_gr5 hL, m_gr7 hL, m_gr8 hL, m_gr9 hL, m_gr10 hL, m_gr11 hL, m_gr13 hL, m_gr14 hL, m_gr15 hL, m_gr16 hL, m_gr17 hL, m_gi2 hL, m_gi4 hL, m_gi6 hL, m_gi12 hL, m_gi18 hL, m_gi19 hL, m_gi20 hL, m_gi21 hL, m_ld0 hL, m_ld1 hL, m_ld3 hL, m_ld5 hL, m_ld7 hL, m_ld8 hL, m_ld9 hL, m_ld10 hL, m_ld11 hL, m_ld13 hL, m_ld14 hL, m_ld15 hL, m_ld16 hL, m_ld17 hL, m_pf2 hL, m_pf4 hL, m_pf6 hL, m_pf12 hL, m_pf18 hL, m_pf19 hL, m_pf20 hL, m_pf21 hL, m_st0 hL, m_st1 hL, m_st3 hL, m_st5 hL, m_st7 hL, m_st8 hL, m_st9 hL, m_st10 hL, m_st11 hL, m_st13 hL, m_st14 hL, m_st15 hL, m_st16 hL, m_st17 hL, nI_add, pk_mul, pk_sub, nI_le', nI_lt', nI_eq', nI_m6, nI_neg, pk_div, pk_rem, idiv_nI, irem_nI, ite_bI, ite_bIn, ite_bI1, ite_bI1n, retz_bI, retz_0, retz_1, retz_0n, retz_1n, o_let_eq, decide_eq_true_eq, ite_retI, bI_ite, if_true, if_false, z0, z1, z2]
theorem m_tiles {h : AH} (hL : 608 ≤ h.length) {F : Nat → Int32} {A : Nat → Nat → Int32} {G : Gr} (hz : MZ (A 0) G) (hG : GV G) : f_X4_tiles (some 1617) (mset h F A) = some (some (vI (nI G.N)), mset h F A) := by
  obtain ⟨z0, z1, z2, z3⟩ := id hz
  obtain ⟨⟨g1, g2, g3, g4, g5, g6⟩, g7⟩ := id hG
  unfold f_X4_tiles
  simp (disch := omega) only [li0, li1, li2, li3, li4, li5, li7, li8, li9, li10, li11, li12, li46, li47, li80, li100, li144, li147, li255, li256, li291, li1164, m_tag hL, m_gr0 hL, m_gr1 hL, m_gr3 hL, m_gr5 hL, m_gr7 hL, m_gr8 hL, m_gr9 hL, m_gr10 hL, m_gr11 hL, m_gr13 hL, m_gr14 hL, m_gr15 hL, m_gr16 hL, m_gr17 hL, m_gi2 hL, m_gi4 hL, m_gi6 hL, m_gi12 hL, m_gi18 hL, m_gi19 hL, m_gi20 hL, m_gi21 hL, m_ld0 hL, m_ld1 hL, m_ld3 hL, m_ld5 hL, m_ld7 hL, m_ld8 hL, m_ld9 hL, m_ld10 hL, m_ld11 hL, m_ld13 hL, m_ld14 hL, m_ld15 hL, m_ld16 hL, m_ld17 hL, m_pf2 hL, m_pf4 hL, m_pf6 hL, m_pf12 hL, m_pf18 hL, m_pf19 hL, m_pf20 hL, m_pf21 hL, m_st0 hL, m_st1 hL, m_st3 hL, m_st5 hL, m_st7 hL, m_st8 hL, m_st9 hL, m_st10 hL, m_st11 hL, m_st13 hL, m_st14 hL, m_st15 hL, m_st16 hL, m_st17 hL, nI_add, pk_mul, pk_sub, nI_le', nI_lt', nI_eq', nI_m6, nI_neg, pk_div, pk_rem, idiv_nI, irem_nI, ite_bI, ite_bIn, ite_bI1, ite_bI1n, retz_bI, retz_0, retz_1, retz_0n, retz_1n, o_let_eq, decide_eq_true_eq, ite_retI, bI_ite, if_true, if_false, z0, z1, z2]
  rw [Nat.mul_comm]
theorem m_isLandAt {h : AH} (hL : 608 ≤ h.length) {F : Nat → Int32} {A : Nat → Nat → Int32} {G : Gr} (hz : MZ (A 0) G) (hG : GV G) {k : Nat} (hk : k < G.N) : f_X4_isLandAt (some 1617) (nI k) (mset h F A) = some (some (vI (bI (G.l k))), mset h F A) := by
  obtain ⟨z0, z1, z2, z3⟩ := id hz
  obtain ⟨⟨g1, g2, g3, g4, g5, g6⟩, g7⟩ := id hG
  unfold f_X4_isLandAt
  simp (disch := omega) only [li0, li1, li2, li3, li4, li5, li7, li8, li9, li10, li11, li12, li46, li47, li80, li100, li144, li147, li255, li256, li291, li1164, m_tag hL, m_gr0 hL, m_gr1 hL, m_gr3 hL, m_gr5 hL, m_gr7 hL, m_gr8 hL, m_gr9 hL, m_gr10 hL, m_gr11 hL, m_gr13 hL, m_gr14 hL, m_gr15 hL, m_gr16 hL, m_gr17 hL, m_gi2 hL, m_gi4 hL, m_gi6 hL, m_gi12 hL, m_gi18 hL, m_gi19 hL, m_gi20 hL, m_gi21 hL, m_ld0 hL, m_ld1 hL, m_ld3 hL, m_ld5 hL, m_ld7 hL, m_ld8 hL, m_ld9 hL, m_ld10 hL, m_ld11 hL, m_ld13 hL, m_ld14 hL, m_ld15 hL, m_ld16 hL, m_ld17 hL, m_pf2 hL, m_pf4 hL, m_pf6 hL, m_pf12 hL, m_pf18 hL, m_pf19 hL, m_pf20 hL, m_pf21 hL, m_st0 hL, m_st1 hL, m_st3 hL, m_st5 hL, m_st7 hL, m_st8 hL, m_st9 hL, m_st10 hL, m_st11 hL, m_st13 hL, m_st14 hL, m_st15 hL, m_st16 hL, m_st17 hL, nI_add, pk_mul, pk_sub, nI_le', nI_lt', nI_eq', nI_m6, nI_neg, pk_div, pk_rem, idiv_nI, irem_nI, ite_bI, ite_bIn, ite_bI1, ite_bI1n, retz_bI, retz_0, retz_1, retz_0n, retz_1n, o_let_eq, decide_eq_true_eq, ite_retI, bI_ite, if_true, if_false, z0, z1, z2, (z3 k hk).1]
  exact ret_cong (by cases G.l k <;> rfl)
theorem m_rowBy : ∀ d, d < 8 → ∀ h : AH, f_X4_rowBy (nI d) h = some (some (vI (if d = 7 ∨ d < 2 then -1 else if 3 ≤ d ∧ d ≤ 5 then 1 else 0)), h) := by
  intro d hd h
  unfold f_X4_rowBy
  simp (disch := omega) only [li7, li2, li3, li5, nI_add, pk_mul, pk_sub, nI_le', nI_lt', nI_eq', nI_m6, nI_neg, pk_div, pk_rem, idiv_nI, irem_nI, ite_bI, ite_bIn, ite_bI1, ite_bI1n, retz_bI, retz_0, retz_1, retz_0n, retz_1n, o_let_eq, decide_eq_true_eq, ite_retI, bI_ite, if_true, if_false, o_ci_eq (m_in _ _ _ _), nI_toInt]
  refine retI_cong ?_
  have : d = 0 ∨ d = 1 ∨ d = 2 ∨ d = 3 ∨ d = 4 ∨ d = 5 ∨ d = 6 ∨ d = 7 := by omega
  rcases this with e | e | e | e | e | e | e | e <;> subst e <;> decide
theorem m_columnBy : ∀ d, d < 8 → ∀ h : AH, f_X4_columnBy (nI d) h = some (some (vI (if 1 ≤ d ∧ d ≤ 3 then 1 else if 5 ≤ d ∧ d ≤ 7 then -1 else 0)), h) := by
  intro d hd h
  unfold f_X4_columnBy
  simp (disch := omega) only [li7, li1, li3, li5, nI_add, pk_mul, pk_sub, nI_le', nI_lt', nI_eq', nI_m6, nI_neg, pk_div, pk_rem, idiv_nI, irem_nI, ite_bI, ite_bIn, ite_bI1, ite_bI1n, retz_bI, retz_0, retz_1, retz_0n, retz_1n, o_let_eq, decide_eq_true_eq, ite_retI, bI_ite, if_true, if_false, o_ci_eq (m_in _ _ _ _), nI_toInt]
  refine retI_cong ?_
  have : d = 0 ∨ d = 1 ∨ d = 2 ∨ d = 3 ∨ d = 4 ∨ d = 5 ∨ d = 6 ∨ d = 7 := by omega
  rcases this with e | e | e | e | e | e | e | e <;> subst e <;> decide
/-- the steps as Int32 -/
def dRI (d : Nat) : Int32 := if d = 7 ∨ d < 2 then -1 else if 3 ≤ d ∧ d ≤ 5 then 1 else 0
def dCI (d : Nat) : Int32 := if 1 ≤ d ∧ d ≤ 3 then 1 else if 5 ≤ d ∧ d ≤ 7 then -1 else 0
theorem dRI_t (d : Nat) : (dRI d).toInt = dR d := by
  unfold dRI dR
  split
  · rfl
  · split <;> rfl
theorem dCI_t (d : Nat) : (dCI d).toInt = dC d := by
  unfold dCI dC
  split
  · rfl
  · split <;> rfl
theorem nbr_t {r : Nat} (hr : r < 1000) (d : Nat) : (nI r + dRI d).toInt = (r : Int) + dR d := by
  have := dR_b d
  rw [toInt_add_s, nI_toInt (by omega), dRI_t] <;> rw [nI_toInt (by omega), dRI_t] <;> omega
theorem nbc_t {r : Nat} (hr : r < 1000) (d : Nat) : (nI r + dCI d).toInt = (r : Int) + dC d := by
  have := dC_b d
  rw [toInt_add_s, nI_toInt (by omega), dCI_t] <;> rw [nI_toInt (by omega), dCI_t] <;> omega
theorem m_isLandBeside {h : AH} (hL : 608 ≤ h.length) {F : Nat → Int32} {A : Nat → Nat → Int32} {G : Gr} (hz : MZ (A 0) G) (hG : GV G) {r c d : Nat} (hr : r < G.R) (hc : c < G.C) (hd : d < 8) : f_X4_isLandBeside (some 1617) (nI r) (nI c) (nI d) (mset h F A) = some (some (vI (bI (nb G (G.C * r + c) d))), mset h F A) := by
  obtain ⟨z0, z1, z2, z3⟩ := id hz
  obtain ⟨⟨g1, g2, g3, g4, g5, g6⟩, g7⟩ := id hG
  unfold f_X4_isLandBeside
  rw [o_ci_eq (m_rowBy d hd _), o_let_eq, o_ci_eq (m_columnBy d hd _), o_let_eq]
  have e1 := nbr_t (r := r) (by omega) d
  have e2 := nbc_t (r := c) (by omega) d
  unfold dRI at e1
  unfold dCI at e2
  unfold nb nbX nbY lat
  rw [rc_div hc, rc_mod hc, m_ci hL (m_isTile hL hz hG _ _), e1, e2, ite_bI]
  by_cases a : inG G (r + dR d) (c + dC d) = true
  · rw [if_pos a, if_pos a, nI_toNat (x := nI r + _) (by rw [e1]; have := (inG_iff G _ _).mp a; omega), nI_toNat (x := nI c + _) (by rw [e2]; have := (inG_iff G _ _).mp a; omega), e1, e2]
    rw [m_ci hL (x := nI (plc G (r + dR d) (c + dC d))) (m_at hL hz hG _ _), m_ci hL (m_isLandAt hL hz hG (plc_lt a)), retz_bI]
  · rw [if_neg a, if_neg a]
    simp (disch := omega) only [li0, li1, li2, li3, li4, li5, li7, li8, li9, li10, li11, li12, li46, li47, li80, li100, li144, li147, li255, li256, li291, li1164, m_tag hL, m_gr0 hL, m_gr1 hL, m_gr3 hL, m_gr5 hL, m_gr7 hL, m_gr8 hL, m_gr9 hL, m_gr10 hL, m_gr11 hL, m_gr13 hL, m_gr14 hL, m_gr15 hL, m_gr16 hL, m_gr17 hL, m_gi2 hL, m_gi4 hL, m_gi6 hL, m_gi12 hL, m_gi18 hL, m_gi19 hL, m_gi20 hL, m_gi21 hL, m_ld0 hL, m_ld1 hL, m_ld3 hL, m_ld5 hL, m_ld7 hL, m_ld8 hL, m_ld9 hL, m_ld10 hL, m_ld11 hL, m_ld13 hL, m_ld14 hL, m_ld15 hL, m_ld16 hL, m_ld17 hL, m_pf2 hL, m_pf4 hL, m_pf6 hL, m_pf12 hL, m_pf18 hL, m_pf19 hL, m_pf20 hL, m_pf21 hL, m_st0 hL, m_st1 hL, m_st3 hL, m_st5 hL, m_st7 hL, m_st8 hL, m_st9 hL, m_st10 hL, m_st11 hL, m_st13 hL, m_st14 hL, m_st15 hL, m_st16 hL, m_st17 hL, nI_add, pk_mul, pk_sub, nI_le', nI_lt', nI_eq', nI_m6, nI_neg, pk_div, pk_rem, idiv_nI, irem_nI, ite_bI, ite_bIn, ite_bI1, ite_bI1n, retz_bI, retz_0, retz_1, retz_0n, retz_1n, o_let_eq, decide_eq_true_eq, ite_retI, bI_ite, if_true, if_false, z0, z1, z2]
    exact ret_cong (by cases G.o <;> rfl)
theorem m_around {h : AH} (hL : 608 ≤ h.length) {F : Nat → Int32} {A : Nat → Nat → Int32} {G : Gr} (hz : MZ (A 0) G) (hG : GV G) {r c : Nat} (hr : r < G.R) (hc : c < G.C) : f_X4_around (some 1617) (nI r) (nI c) (mset h F A) = some (some (vI (nI (sur G (G.C * r + c)))), mset h F A) := by
  unfold f_X4_around
  refine loopE 8 (fun n i => f_X4_around_5 n (some 1617) (nI r) (nI c) (nI (bitsT (nb G (G.C * r + c)) i)) (nI i) (mset h F A)) _ ?_ ?_ 0 FUEL (by omega) (by simp only [FUEL]; omega)
  · intro n
    rw [f_X4_around_5_s]
    rfl
  · intro i n hi hk
    rw [f_X4_around_5_s]
    simp only
    rw [li8, if_neg (by rw [nI_leI (by omega) (by omega)]; omega), m_ci hL (m_isLandBeside hL hz hG hr hc hi), ite_bI, ← hk]
    unfold f_X4_around_32
    have e : bitsT (nb G (G.C * r + c)) (i + 1) = bitsT (nb G (G.C * r + c)) i ||| (if nb G (G.C * r + c) i then 2 ^ i else 0) := rfl
    split <;> rename_i q
    · rw [e, if_pos q, shl1_1 i hi]; simp only [o_let_eq, nI_or, li1, nI_add]
    · rw [e, if_neg q]; simp only [o_let_eq, li0, nI_or, li1, nI_add]
def rdI (x l d : Int32) : Int32 := if ((x >>> (((d - 1) &&& 7) &&& 31)) &&& 1) + ((x >>> (((d + 1) &&& 7) &&& 31)) &&& 1) = 2 then l else l &&& (((1 : Int32) <<< (d &&& 31)) ^^^ (-1))
theorem m_red1 (n : Nat) (x l d : Int32) (h : AH) (hd : ¬ 8 ≤ d) : f_X4_reduced_4 (n + 1) x l d h = f_X4_reduced_4 n x (rdI x l d) (d + 2) h := by
  rw [f_X4_reduced_4_s]
  simp only [f_X4_bit, o_ci, f_X4_reduced_40, o_let_eq]
  rw [if_neg hd]
  unfold rdI
  split <;> rfl
theorem rdI_red : ∀ m, m < 256 → rdI (nI m) (rdI (nI m) (rdI (nI m) (rdI (nI m) (nI m) 1) 3) 5) 7 = nI (red m) := by decide +kernel
theorem m_reduced {m : Nat} (hm : m < 256) (h : AH) : f_X4_reduced (nI m) h = some (some (vI (nI (red m))), h) := by
  unfold f_X4_reduced
  show f_X4_reduced_4 (99995 + 1 + 1 + 1 + 1 + 1) _ _ _ _ = _
  rw [m_red1 _ _ _ _ _ (by decide), show (1 : Int32) + 2 = 3 by decide, m_red1 _ _ _ _ _ (by decide), show (3 : Int32) + 2 = 5 by decide, m_red1 _ _ _ _ _ (by decide), show (5 : Int32) + 2 = 7 by decide, m_red1 _ _ _ _ _ (by decide), show (7 : Int32) + 2 = 9 by decide, rdI_red m hm]
  rfl
def bcI (x : Int32) : Nat → Int32
  | 0 => 0
  | d + 1 => bcI x d + ((x >>> (nI d &&& 31)) &&& 1)
theorem bcI_popc : ∀ m, m < 256 → bcI (nI m) 8 = nI (popc m) := by decide +kernel
theorem m_bits {m : Nat} (hm : m < 256) (h : AH) : f_X4_bits (nI m) h = some (some (vI (nI (popc m))), h) := by
  rw [← bcI_popc m hm]
  unfold f_X4_bits
  refine loopE 8 (fun n i => f_X4_bits_4 n (nI m) (bcI (nI m) i) (nI i) h) _ ?_ ?_ 0 FUEL (by omega) (by simp only [FUEL]; omega)
  · intro n
    rw [f_X4_bits_4_s]
    rfl
  · intro i n hi hk
    rw [f_X4_bits_4_s]
    simp only
    rw [li8, if_neg (by rw [nI_leI (by omega) (by omega)]; omega), ← hk]
    simp only [o_let_eq, li1, nI_add]
    rfl
/-- the model's tables -/
def MC (A : Nat → Nat → Int32) : Prop := (∀ s, s < 47 → A 7 s = nI (msk s)) ∧ ∀ m, m < 256 → A 8 m = shp m
theorem m_right {h : AH} (hL : 608 ≤ h.length) {F : Nat → Int32} {A : Nat → Nat → Int32} {G : Gr} (hz : MZ (A 0) G) (hG : GV G) (hm : MC A) {k : Nat} (hk : k < G.N) : f_X4_right (some 1617) (nI k) (mset h F A) = some (some (vI (rsh G k)), mset h F A) := by
  obtain ⟨z0, z1, z2, z3⟩ := id hz
  obtain ⟨⟨g1, g2, g3, g4, g5, g6⟩, g7⟩ := id hG
  obtain ⟨q1, q2, q3⟩ := k_rc hk
  unfold f_X4_right
  simp (disch := omega) only [li0, li1, li2, li3, li4, li5, li7, li8, li9, li10, li11, li12, li46, li47, li80, li100, li144, li147, li255, li256, li291, li1164, m_tag hL, m_gr0 hL, m_gr1 hL, m_gr3 hL, m_gr5 hL, m_gr7 hL, m_gr8 hL, m_gr9 hL, m_gr10 hL, m_gr11 hL, m_gr13 hL, m_gr14 hL, m_gr15 hL, m_gr16 hL, m_gr17 hL, m_gi2 hL, m_gi4 hL, m_gi6 hL, m_gi12 hL, m_gi18 hL, m_gi19 hL, m_gi20 hL, m_gi21 hL, m_ld0 hL, m_ld1 hL, m_ld3 hL, m_ld5 hL, m_ld7 hL, m_ld8 hL, m_ld9 hL, m_ld10 hL, m_ld11 hL, m_ld13 hL, m_ld14 hL, m_ld15 hL, m_ld16 hL, m_ld17 hL, m_pf2 hL, m_pf4 hL, m_pf6 hL, m_pf12 hL, m_pf18 hL, m_pf19 hL, m_pf20 hL, m_pf21 hL, m_st0 hL, m_st1 hL, m_st3 hL, m_st5 hL, m_st7 hL, m_st8 hL, m_st9 hL, m_st10 hL, m_st11 hL, m_st13 hL, m_st14 hL, m_st15 hL, m_st16 hL, m_st17 hL, nI_add, pk_mul, pk_sub, nI_le', nI_lt', nI_eq', nI_m6, nI_neg, pk_div, pk_rem, idiv_nI, irem_nI, ite_bI, ite_bIn, ite_bI1, ite_bI1n, retz_bI, retz_0, retz_1, retz_0n, retz_1n, o_let_eq, decide_eq_true_eq, ite_retI, bI_ite, if_true, if_false, z0, z1, z2]
  rw [m_ci hL (m_around hL hz hG q1 q2), q3, o_ci_eq (m_reduced (sur_lt G k) _), m_ld8 hL (red_lt _ (sur_lt G k)), hm.2 _ (red_lt _ (sur_lt G k))]
  rfl
theorem m_shapeAt {h : AH} (hL : 608 ≤ h.length) {F : Nat → Int32} {A : Nat → Nat → Int32} {G : Gr} (hz : MZ (A 0) G) (hG : GV G) (hm : MC A) {k : Nat} (hk : k < G.N) : f_X4_shapeAt (some 1617) (nI k) (mset h F A) = some (some (vI (sha G k)), mset h F A) := by
  obtain ⟨z0, z1, z2, z3⟩ := id hz
  obtain ⟨⟨g1, g2, g3, g4, g5, g6⟩, g7⟩ := id hG
  have hk2 : k < G.C * G.R := hk
  unfold f_X4_shapeAt
  rw [m_ci hL (m_isLandAt hL hz hG hk), ite_bI]
  unfold sha
  split
  · simp (disch := omega) only [li0, li1, li2, li3, li4, li5, li7, li8, li9, li10, li11, li12, li46, li47, li80, li100, li144, li147, li255, li256, li291, li1164, m_tag hL, m_gr0 hL, m_gr1 hL, m_gr3 hL, m_gr5 hL, m_gr7 hL, m_gr8 hL, m_gr9 hL, m_gr10 hL, m_gr11 hL, m_gr13 hL, m_gr14 hL, m_gr15 hL, m_gr16 hL, m_gr17 hL, m_gi2 hL, m_gi4 hL, m_gi6 hL, m_gi12 hL, m_gi18 hL, m_gi19 hL, m_gi20 hL, m_gi21 hL, m_ld0 hL, m_ld1 hL, m_ld3 hL, m_ld5 hL, m_ld7 hL, m_ld8 hL, m_ld9 hL, m_ld10 hL, m_ld11 hL, m_ld13 hL, m_ld14 hL, m_ld15 hL, m_ld16 hL, m_ld17 hL, m_pf2 hL, m_pf4 hL, m_pf6 hL, m_pf12 hL, m_pf18 hL, m_pf19 hL, m_pf20 hL, m_pf21 hL, m_st0 hL, m_st1 hL, m_st3 hL, m_st5 hL, m_st7 hL, m_st8 hL, m_st9 hL, m_st10 hL, m_st11 hL, m_st13 hL, m_st14 hL, m_st15 hL, m_st16 hL, m_st17 hL, nI_add, pk_mul, pk_sub, nI_le', nI_lt', nI_eq', nI_m6, nI_neg, pk_div, pk_rem, idiv_nI, irem_nI, ite_bI, ite_bIn, ite_bI1, ite_bI1n, retz_bI, retz_0, retz_1, retz_0n, retz_1n, o_let_eq, decide_eq_true_eq, ite_retI, bI_ite, if_true, if_false, (z3 k hk).2, m_ci hL (m_right hL hz hG hm hk)]
  · rfl
theorem m_faultsAt {h : AH} (hL : 608 ≤ h.length) {F : Nat → Int32} {A : Nat → Nat → Int32} {G : Gr} (hz : MZ (A 0) G) (hG : GV G) (hm : MC A) {k : Nat} (hk : k < G.N) : f_X4_faultsAt (some 1617) (nI k) (mset h F A) = some (some (vI (nI (flt G k))), mset h F A) := by
  obtain ⟨z0, z1, z2, z3⟩ := id hz
  obtain ⟨⟨g1, g2, g3, g4, g5, g6⟩, g7⟩ := id hG
  unfold f_X4_faultsAt
  rw [m_ci hL (m_isLandAt hL hz hG hk), ite_bI]
  unfold flt
  split
  · rename_i hl
    obtain ⟨s, hs, e⟩ := sha_ok hG hk hl
    obtain ⟨t, ht, e'⟩ := rsh_ok G k
    simp (disch := omega) only [li0, li1, li2, li3, li4, li5, li7, li8, li9, li10, li11, li12, li46, li47, li80, li100, li144, li147, li255, li256, li291, li1164, m_tag hL, m_gr0 hL, m_gr1 hL, m_gr3 hL, m_gr5 hL, m_gr7 hL, m_gr8 hL, m_gr9 hL, m_gr10 hL, m_gr11 hL, m_gr13 hL, m_gr14 hL, m_gr15 hL, m_gr16 hL, m_gr17 hL, m_gi2 hL, m_gi4 hL, m_gi6 hL, m_gi12 hL, m_gi18 hL, m_gi19 hL, m_gi20 hL, m_gi21 hL, m_ld0 hL, m_ld1 hL, m_ld3 hL, m_ld5 hL, m_ld7 hL, m_ld8 hL, m_ld9 hL, m_ld10 hL, m_ld11 hL, m_ld13 hL, m_ld14 hL, m_ld15 hL, m_ld16 hL, m_ld17 hL, m_pf2 hL, m_pf4 hL, m_pf6 hL, m_pf12 hL, m_pf18 hL, m_pf19 hL, m_pf20 hL, m_pf21 hL, m_st0 hL, m_st1 hL, m_st3 hL, m_st5 hL, m_st7 hL, m_st8 hL, m_st9 hL, m_st10 hL, m_st11 hL, m_st13 hL, m_st14 hL, m_st15 hL, m_st16 hL, m_st17 hL, nI_add, pk_mul, pk_sub, nI_le', nI_lt', nI_eq', nI_m6, nI_neg, pk_div, pk_rem, idiv_nI, irem_nI, ite_bI, ite_bIn, ite_bI1, ite_bI1n, retz_bI, retz_0, retz_1, retz_0n, retz_1n, o_let_eq, decide_eq_true_eq, ite_retI, bI_ite, if_true, if_false, m_ci hL (m_shapeAt hL hz hG hm hk), m_ci hL (m_right hL hz hG hm hk), e, e', hm.1 s hs, hm.1 t ht, nI_xor, o_ci_eq (m_bits (xor_lt256 (msk_lt s hs) (msk_lt t ht)) _), nat_nI]
  · rfl
theorem m_isShape (x : Int32) (h : AH) : f_X4_isShape x h = some (some (vI (bI (decide (0 ≤ x.toInt ∧ x.toInt ≤ 46)))), h) := by
  unfold f_X4_isShape
  rw [o_ci_eq (m_in _ _ _ _)]
  exact retz_bI _ _
theorem m_told {h : AH} (hL : 608 ≤ h.length) {F : Nat → Int32} {A : Nat → Nat → Int32} {G : Gr} (hz : MZ (A 0) G) (hG : GV G) {k : Nat} (hk : k < G.N) : f_X4_told (some 1617) (nI k) (mset h F A) = some (some (vI (nI (100 * (k / G.C) + k % G.C))), mset h F A) := by
  obtain ⟨z0, z1, z2, z3⟩ := id hz
  obtain ⟨⟨g1, g2, g3, g4, g5, g6⟩, g7⟩ := id hG
  have : k < G.C * G.R := hk
  obtain ⟨q1, q2, q3⟩ := k_rc hk
  unfold f_X4_told
  simp (disch := omega) only [li0, li1, li2, li3, li4, li5, li7, li8, li9, li10, li11, li12, li46, li47, li80, li100, li144, li147, li255, li256, li291, li1164, m_tag hL, m_gr0 hL, m_gr1 hL, m_gr3 hL, m_gr5 hL, m_gr7 hL, m_gr8 hL, m_gr9 hL, m_gr10 hL, m_gr11 hL, m_gr13 hL, m_gr14 hL, m_gr15 hL, m_gr16 hL, m_gr17 hL, m_gi2 hL, m_gi4 hL, m_gi6 hL, m_gi12 hL, m_gi18 hL, m_gi19 hL, m_gi20 hL, m_gi21 hL, m_ld0 hL, m_ld1 hL, m_ld3 hL, m_ld5 hL, m_ld7 hL, m_ld8 hL, m_ld9 hL, m_ld10 hL, m_ld11 hL, m_ld13 hL, m_ld14 hL, m_ld15 hL, m_ld16 hL, m_ld17 hL, m_pf2 hL, m_pf4 hL, m_pf6 hL, m_pf12 hL, m_pf18 hL, m_pf19 hL, m_pf20 hL, m_pf21 hL, m_st0 hL, m_st1 hL, m_st3 hL, m_st5 hL, m_st7 hL, m_st8 hL, m_st9 hL, m_st10 hL, m_st11 hL, m_st13 hL, m_st14 hL, m_st15 hL, m_st16 hL, m_st17 hL, nI_add, pk_mul, pk_sub, nI_le', nI_lt', nI_eq', nI_m6, nI_neg, pk_div, pk_rem, idiv_nI, irem_nI, ite_bI, ite_bIn, ite_bI1, ite_bI1n, retz_bI, retz_0, retz_1, retz_0n, retz_1n, o_let_eq, decide_eq_true_eq, ite_retI, bI_ite, if_true, if_false, z0, z1, z2]
theorem trI_trn : ∀ m, m < 256 → ∀ q, q < 4 → ((nI m <<< ((2 * nI q) &&& 31)) &&& 255) ||| ((nI m <<< ((2 * nI q) &&& 31)) >>> ((8 : Int32) &&& 31)) = nI (trn m q) := by decide +kernel
theorem m_turnedBy {h : AH} (hL : 608 ≤ h.length) {F : Nat → Int32} {A : Nat → Nat → Int32} (hm : MC A) {s q : Nat} (hs : s < 47) (hq : q < 4) : f_X4_turnedBy (some 1617) (nI s) (nI q) (mset h F A) = some (some (vI (shp (trn (msk s) q))), mset h F A) := by
  unfold f_X4_turnedBy
  rw [m_gr7 hL, m_ld7 hL hs, hm.1 s hs, o_let_eq, m_gr8 hL, trI_trn _ (msk_lt s hs) q hq, m_ld8 hL (trn_lt _ (msk_lt s hs) q hq), hm.2 _ (trn_lt _ (msk_lt s hs) q hq)]
