set_option maxRecDepth 100000
/-! the model's functions: sums and the like over all tiles, which change nothing -/
theorem m_land {h : AH} (hL : 608 ≤ h.length) {F : Nat → Int32} {A : Nat → Nat → Int32} {G : Gr} (hz : MZ (A 0) G) (hG : GV G) : f_X4_land (some 1617) (mset h F A) = some (some (vI (sm (fun k => bI (G.l k)) G.N)), mset h F A) := by
  obtain ⟨z0, z1, z2, z3⟩ := id hz
  obtain ⟨⟨g1, g2, g3, g4, g5, g6⟩, g7⟩ := id hG
  unfold f_X4_land
  refine loopE G.N (fun n i => f_X4_land_4 n (some 1617) (sm (fun k => bI (G.l k)) i) (nI i) (mset h F A)) _ ?_ ?_ 0 FUEL (by omega) (by simp only [FUEL]; omega)
  · intro n
    rw [f_X4_land_4_s]
    simp (disch := omega) only [li0, li1, li2, li3, li4, li5, li7, li8, li9, li10, li11, li12, li46, li47, li80, li100, li144, li147, li255, li256, li291, li1164, m_tag hL, m_gr0 hL, m_gr1 hL, m_gr3 hL, m_gr5 hL, m_gr7 hL, m_gr8 hL, m_gr9 hL, m_gr10 hL, m_gr11 hL, m_gr13 hL, m_gr14 hL, m_gr15 hL, m_gr16 hL, m_gr17 hL, m_gi2 hL, m_gi4 hL, m_gi6 hL, m_gi12 hL, m_gi18 hL, m_gi19 hL, m_gi20 hL, m_gi21 hL, m_ld0 hL, m_ld1 hL, m_ld3 hL, m_ld5 hL, m_ld7 hL, m_ld8 hL, m_ld9 hL, m_ld10 hL, m_ld11 hL, m_ld13 hL, m_ld14 hL, m_ld15 hL, m_ld16 hL, m_ld17 hL, m_pf2 hL, m_pf4 hL, m_pf6 hL, m_pf12 hL, m_pf18 hL, m_pf19 hL, m_pf20 hL, m_pf21 hL, m_st0 hL, m_st1 hL, m_st3 hL, m_st5 hL, m_st7 hL, m_st8 hL, m_st9 hL, m_st10 hL, m_st11 hL, m_st13 hL, m_st14 hL, m_st15 hL, m_st16 hL, m_st17 hL, nI_add, pk_mul, pk_sub, nI_le', nI_lt', nI_eq', nI_m6, nI_neg, pk_div, pk_rem, idiv_nI, irem_nI, ite_bI, ite_bIn, ite_bI1, ite_bI1n, retz_bI, retz_0, retz_1, retz_0n, retz_1n, o_let_eq, decide_eq_true_eq, ite_retI, bI_ite, if_true, if_false, if_pos, if_neg, m_ci hL (m_tiles hL hz hG)]
  · intro i n hi hk
    rw [f_X4_land_4_s, ← hk]
    simp (disch := omega) only [li0, li1, li2, li3, li4, li5, li7, li8, li9, li10, li11, li12, li46, li47, li80, li100, li144, li147, li255, li256, li291, li1164, m_tag hL, m_gr0 hL, m_gr1 hL, m_gr3 hL, m_gr5 hL, m_gr7 hL, m_gr8 hL, m_gr9 hL, m_gr10 hL, m_gr11 hL, m_gr13 hL, m_gr14 hL, m_gr15 hL, m_gr16 hL, m_gr17 hL, m_gi2 hL, m_gi4 hL, m_gi6 hL, m_gi12 hL, m_gi18 hL, m_gi19 hL, m_gi20 hL, m_gi21 hL, m_ld0 hL, m_ld1 hL, m_ld3 hL, m_ld5 hL, m_ld7 hL, m_ld8 hL, m_ld9 hL, m_ld10 hL, m_ld11 hL, m_ld13 hL, m_ld14 hL, m_ld15 hL, m_ld16 hL, m_ld17 hL, m_pf2 hL, m_pf4 hL, m_pf6 hL, m_pf12 hL, m_pf18 hL, m_pf19 hL, m_pf20 hL, m_pf21 hL, m_st0 hL, m_st1 hL, m_st3 hL, m_st5 hL, m_st7 hL, m_st8 hL, m_st9 hL, m_st10 hL, m_st11 hL, m_st13 hL, m_st14 hL, m_st15 hL, m_st16 hL, m_st17 hL, nI_add, pk_mul, pk_sub, nI_le', nI_lt', nI_eq', nI_m6, nI_neg, pk_div, pk_rem, idiv_nI, irem_nI, ite_bI, ite_bIn, ite_bI1, ite_bI1n, retz_bI, retz_0, retz_1, retz_0n, retz_1n, o_let_eq, decide_eq_true_eq, ite_retI, bI_ite, if_true, if_false, if_pos, if_neg, m_ci hL (m_tiles hL hz hG), (z3 i hi).1]
    rfl
theorem m_faults {h : AH} (hL : 608 ≤ h.length) {F : Nat → Int32} {A : Nat → Nat → Int32} {G : Gr} (hz : MZ (A 0) G) (hG : GV G) (hm : MC A) : f_X4_faults (some 1617) (mset h F A) = some (some (vI (sm (fun k => nI (flt G k)) G.N)), mset h F A) := by
  obtain ⟨z0, z1, z2, z3⟩ := id hz
  obtain ⟨⟨g1, g2, g3, g4, g5, g6⟩, g7⟩ := id hG
  unfold f_X4_faults
  refine loopE G.N (fun n i => f_X4_faults_4 n (some 1617) (sm (fun k => nI (flt G k)) i) (nI i) (mset h F A)) _ ?_ ?_ 0 FUEL (by omega) (by simp only [FUEL]; omega)
  · intro n
    rw [f_X4_faults_4_s]
    simp (disch := omega) only [li0, li1, li2, li3, li4, li5, li7, li8, li9, li10, li11, li12, li46, li47, li80, li100, li144, li147, li255, li256, li291, li1164, m_tag hL, m_gr0 hL, m_gr1 hL, m_gr3 hL, m_gr5 hL, m_gr7 hL, m_gr8 hL, m_gr9 hL, m_gr10 hL, m_gr11 hL, m_gr13 hL, m_gr14 hL, m_gr15 hL, m_gr16 hL, m_gr17 hL, m_gi2 hL, m_gi4 hL, m_gi6 hL, m_gi12 hL, m_gi18 hL, m_gi19 hL, m_gi20 hL, m_gi21 hL, m_ld0 hL, m_ld1 hL, m_ld3 hL, m_ld5 hL, m_ld7 hL, m_ld8 hL, m_ld9 hL, m_ld10 hL, m_ld11 hL, m_ld13 hL, m_ld14 hL, m_ld15 hL, m_ld16 hL, m_ld17 hL, m_pf2 hL, m_pf4 hL, m_pf6 hL, m_pf12 hL, m_pf18 hL, m_pf19 hL, m_pf20 hL, m_pf21 hL, m_st0 hL, m_st1 hL, m_st3 hL, m_st5 hL, m_st7 hL, m_st8 hL, m_st9 hL, m_st10 hL, m_st11 hL, m_st13 hL, m_st14 hL, m_st15 hL, m_st16 hL, m_st17 hL, nI_add, pk_mul, pk_sub, nI_le', nI_lt', nI_eq', nI_m6, nI_neg, pk_div, pk_rem, idiv_nI, irem_nI, ite_bI, ite_bIn, ite_bI1, ite_bI1n, retz_bI, retz_0, retz_1, retz_0n, retz_1n, o_let_eq, decide_eq_true_eq, ite_retI, bI_ite, if_true, if_false, if_pos, if_neg, m_ci hL (m_tiles hL hz hG)]
  · intro i n hi hk
    rw [f_X4_faults_4_s, ← hk]
    simp (disch := omega) only [li0, li1, li2, li3, li4, li5, li7, li8, li9, li10, li11, li12, li46, li47, li80, li100, li144, li147, li255, li256, li291, li1164, m_tag hL, m_gr0 hL, m_gr1 hL, m_gr3 hL, m_gr5 hL, m_gr7 hL, m_gr8 hL, m_gr9 hL, m_gr10 hL, m_gr11 hL, m_gr13 hL, m_gr14 hL, m_gr15 hL, m_gr16 hL, m_gr17 hL, m_gi2 hL, m_gi4 hL, m_gi6 hL, m_gi12 hL, m_gi18 hL, m_gi19 hL, m_gi20 hL, m_gi21 hL, m_ld0 hL, m_ld1 hL, m_ld3 hL, m_ld5 hL, m_ld7 hL, m_ld8 hL, m_ld9 hL, m_ld10 hL, m_ld11 hL, m_ld13 hL, m_ld14 hL, m_ld15 hL, m_ld16 hL, m_ld17 hL, m_pf2 hL, m_pf4 hL, m_pf6 hL, m_pf12 hL, m_pf18 hL, m_pf19 hL, m_pf20 hL, m_pf21 hL, m_st0 hL, m_st1 hL, m_st3 hL, m_st5 hL, m_st7 hL, m_st8 hL, m_st9 hL, m_st10 hL, m_st11 hL, m_st13 hL, m_st14 hL, m_st15 hL, m_st16 hL, m_st17 hL, nI_add, pk_mul, pk_sub, nI_le', nI_lt', nI_eq', nI_m6, nI_neg, pk_div, pk_rem, idiv_nI, irem_nI, ite_bI, ite_bIn, ite_bI1, ite_bI1n, retz_bI, retz_0, retz_1, retz_0n, retz_1n, o_let_eq, decide_eq_true_eq, ite_retI, bI_ite, if_true, if_false, if_pos, if_neg, m_ci hL (m_tiles hL hz hG), m_ci hL (m_faultsAt hL hz hG hm hi)]
    rfl
/-- the first place from i on where f holds, of d places -/
def fst (f : Nat → Bool) : Nat → Nat → Option Nat
  | 0, _ => none
  | d + 1, i => if f i then some i else fst f d (i + 1)
theorem fst_cong {f g : Nat → Bool} : ∀ (d i : Nat), (∀ k, i ≤ k → k < i + d → f k = g k) → fst f d i = fst g d i
  | 0, _, _ => rfl
  | d + 1, i, h => by rw [fst, fst, h i (by omega) (by omega), fst_cong d (i + 1) (fun k a b => h k (by omega) (by omega))]
def told (G : Gr) (k : Nat) : Int32 := nI (100 * (k / G.C) + k % G.C)
def ffault (G : Gr) : Int32 := match fst (fun k => decide (0 < flt G k)) G.N 0 with
  | some k => told G k
  | none => -6
theorem m_firstFault {h : AH} (hL : 608 ≤ h.length) {F : Nat → Int32} {A : Nat → Nat → Int32} {G : Gr} (hz : MZ (A 0) G) (hG : GV G) (hm : MC A) : f_X4_firstFault (some 1617) (mset h F A) = some (some (vI (ffault G)), mset h F A) := by
  obtain ⟨z0, z1, z2, z3⟩ := id hz
  obtain ⟨⟨g1, g2, g3, g4, g5, g6⟩, g7⟩ := id hG
  unfold f_X4_firstFault ffault
  have key : ∀ d i n, i + d = G.N → d < n → f_X4_firstFault_2 n (some 1617) (nI i) (mset h F A) = some (some (vI (match fst (fun k => decide (0 < flt G k)) d i with
      | some k => told G k
      | none => -6)), mset h F A) := by
    intro d
    induction d with
    | zero =>
      intro i n hi hn
      obtain ⟨n, rfl⟩ : ∃ m, n = m + 1 := ⟨n - 1, by omega⟩
      rw [f_X4_firstFault_2_s]
      simp (disch := omega) only [li0, li1, li2, li3, li4, li5, li7, li8, li9, li10, li11, li12, li46, li47, li80, li100, li144, li147, li255, li256, li291, li1164, m_tag hL, m_gr0 hL, m_gr1 hL, m_gr3 hL, m_gr5 hL, m_gr7 hL, m_gr8 hL, m_gr9 hL, m_gr10 hL, m_gr11 hL, m_gr13 hL, m_gr14 hL, m_gr15 hL, m_gr16 hL, m_gr17 hL, m_gi2 hL, m_gi4 hL, m_gi6 hL, m_gi12 hL, m_gi18 hL, m_gi19 hL, m_gi20 hL, m_gi21 hL, m_ld0 hL, m_ld1 hL, m_ld3 hL, m_ld5 hL, m_ld7 hL, m_ld8 hL, m_ld9 hL, m_ld10 hL, m_ld11 hL, m_ld13 hL, m_ld14 hL, m_ld15 hL, m_ld16 hL, m_ld17 hL, m_pf2 hL, m_pf4 hL, m_pf6 hL, m_pf12 hL, m_pf18 hL, m_pf19 hL, m_pf20 hL, m_pf21 hL, m_st0 hL, m_st1 hL, m_st3 hL, m_st5 hL, m_st7 hL, m_st8 hL, m_st9 hL, m_st10 hL, m_st11 hL, m_st13 hL, m_st14 hL, m_st15 hL, m_st16 hL, m_st17 hL, nI_add, pk_mul, pk_sub, nI_le', nI_lt', nI_eq', nI_m6, nI_neg, pk_div, pk_rem, idiv_nI, irem_nI, ite_bI, ite_bIn, ite_bI1, ite_bI1n, retz_bI, retz_0, retz_1, retz_0n, retz_1n, o_let_eq, decide_eq_true_eq, ite_retI, bI_ite, if_true, if_false, if_pos, if_neg, m_ci hL (m_tiles hL hz hG)]
      rfl
    | succ d ih =>
      intro i n hi hn
      obtain ⟨n, rfl⟩ : ∃ m, n = m + 1 := ⟨n - 1, by omega⟩
      have := flt_le hG (k := i) (by omega)
      rw [f_X4_firstFault_2_s, fst]
      simp (disch := omega) only [li0, li1, li2, li3, li4, li5, li7, li8, li9, li10, li11, li12, li46, li47, li80, li100, li144, li147, li255, li256, li291, li1164, m_tag hL, m_gr0 hL, m_gr1 hL, m_gr3 hL, m_gr5 hL, m_gr7 hL, m_gr8 hL, m_gr9 hL, m_gr10 hL, m_gr11 hL, m_gr13 hL, m_gr14 hL, m_gr15 hL, m_gr16 hL, m_gr17 hL, m_gi2 hL, m_gi4 hL, m_gi6 hL, m_gi12 hL, m_gi18 hL, m_gi19 hL, m_gi20 hL, m_gi21 hL, m_ld0 hL, m_ld1 hL, m_ld3 hL, m_ld5 hL, m_ld7 hL, m_ld8 hL, m_ld9 hL, m_ld10 hL, m_ld11 hL, m_ld13 hL, m_ld14 hL, m_ld15 hL, m_ld16 hL, m_ld17 hL, m_pf2 hL, m_pf4 hL, m_pf6 hL, m_pf12 hL, m_pf18 hL, m_pf19 hL, m_pf20 hL, m_pf21 hL, m_st0 hL, m_st1 hL, m_st3 hL, m_st5 hL, m_st7 hL, m_st8 hL, m_st9 hL, m_st10 hL, m_st11 hL, m_st13 hL, m_st14 hL, m_st15 hL, m_st16 hL, m_st17 hL, nI_add, pk_mul, pk_sub, nI_le', nI_lt', nI_eq', nI_m6, nI_neg, pk_div, pk_rem, idiv_nI, irem_nI, ite_bI, ite_bIn, ite_bI1, ite_bI1n, retz_bI, retz_0, retz_1, retz_0n, retz_1n, o_let_eq, decide_eq_true_eq, ite_retI, bI_ite, if_true, if_false, m_ci hL (m_tiles hL hz hG), m_ci hL (m_faultsAt hL hz hG hm (show i < G.N by omega)), m_ci hL (m_told hL hz hG (show i < G.N by omega))]
      rw [if_neg (by omega)]
      split
      · rw [if_neg (by omega)]; exact ih (i + 1) n (by omega) (by omega)
      · rw [if_pos (by omega)]; rfl
  exact key G.N 0 FUEL (by omega) (by simp only [FUEL]; omega)
def cnt (G : Gr) (x : Int32) : Int32 := sm (fun k => if sha G k = x then nI 1 else nI 0) G.N
theorem m_counted {h : AH} (hL : 608 ≤ h.length) {F : Nat → Int32} {A : Nat → Nat → Int32} {G : Gr} (hz : MZ (A 0) G) (hG : GV G) (hm : MC A) (x : Int32) : f_X4_counted (some 1617) x (mset h F A) = some (some (vI (cnt G x)), mset h F A) := by
  obtain ⟨z0, z1, z2, z3⟩ := id hz
  obtain ⟨⟨g1, g2, g3, g4, g5, g6⟩, g7⟩ := id hG
  unfold f_X4_counted
  refine loopE G.N (fun n i => f_X4_counted_4 n (some 1617) x (sm (fun k => if sha G k = x then nI 1 else nI 0) i) (nI i) (mset h F A)) _ ?_ ?_ 0 FUEL (by omega) (by simp only [FUEL]; omega)
  · intro n
    rw [f_X4_counted_4_s]
    simp (disch := omega) only [li0, li1, li2, li3, li4, li5, li7, li8, li9, li10, li11, li12, li46, li47, li80, li100, li144, li147, li255, li256, li291, li1164, m_tag hL, m_gr0 hL, m_gr1 hL, m_gr3 hL, m_gr5 hL, m_gr7 hL, m_gr8 hL, m_gr9 hL, m_gr10 hL, m_gr11 hL, m_gr13 hL, m_gr14 hL, m_gr15 hL, m_gr16 hL, m_gr17 hL, m_gi2 hL, m_gi4 hL, m_gi6 hL, m_gi12 hL, m_gi18 hL, m_gi19 hL, m_gi20 hL, m_gi21 hL, m_ld0 hL, m_ld1 hL, m_ld3 hL, m_ld5 hL, m_ld7 hL, m_ld8 hL, m_ld9 hL, m_ld10 hL, m_ld11 hL, m_ld13 hL, m_ld14 hL, m_ld15 hL, m_ld16 hL, m_ld17 hL, m_pf2 hL, m_pf4 hL, m_pf6 hL, m_pf12 hL, m_pf18 hL, m_pf19 hL, m_pf20 hL, m_pf21 hL, m_st0 hL, m_st1 hL, m_st3 hL, m_st5 hL, m_st7 hL, m_st8 hL, m_st9 hL, m_st10 hL, m_st11 hL, m_st13 hL, m_st14 hL, m_st15 hL, m_st16 hL, m_st17 hL, nI_add, pk_mul, pk_sub, nI_le', nI_lt', nI_eq', nI_m6, nI_neg, pk_div, pk_rem, idiv_nI, irem_nI, ite_bI, ite_bIn, ite_bI1, ite_bI1n, retz_bI, retz_0, retz_1, retz_0n, retz_1n, o_let_eq, decide_eq_true_eq, ite_retI, bI_ite, if_true, if_false, if_pos, if_neg, m_ci hL (m_tiles hL hz hG)]
    rfl
  · intro i n hi hk
    rw [f_X4_counted_4_s, ← hk]
    simp (disch := omega) only [li0, li1, li2, li3, li4, li5, li7, li8, li9, li10, li11, li12, li46, li47, li80, li100, li144, li147, li255, li256, li291, li1164, m_tag hL, m_gr0 hL, m_gr1 hL, m_gr3 hL, m_gr5 hL, m_gr7 hL, m_gr8 hL, m_gr9 hL, m_gr10 hL, m_gr11 hL, m_gr13 hL, m_gr14 hL, m_gr15 hL, m_gr16 hL, m_gr17 hL, m_gi2 hL, m_gi4 hL, m_gi6 hL, m_gi12 hL, m_gi18 hL, m_gi19 hL, m_gi20 hL, m_gi21 hL, m_ld0 hL, m_ld1 hL, m_ld3 hL, m_ld5 hL, m_ld7 hL, m_ld8 hL, m_ld9 hL, m_ld10 hL, m_ld11 hL, m_ld13 hL, m_ld14 hL, m_ld15 hL, m_ld16 hL, m_ld17 hL, m_pf2 hL, m_pf4 hL, m_pf6 hL, m_pf12 hL, m_pf18 hL, m_pf19 hL, m_pf20 hL, m_pf21 hL, m_st0 hL, m_st1 hL, m_st3 hL, m_st5 hL, m_st7 hL, m_st8 hL, m_st9 hL, m_st10 hL, m_st11 hL, m_st13 hL, m_st14 hL, m_st15 hL, m_st16 hL, m_st17 hL, nI_add, pk_mul, pk_sub, nI_le', nI_lt', nI_eq', nI_m6, nI_neg, pk_div, pk_rem, idiv_nI, irem_nI, ite_bI, ite_bIn, ite_bI1, ite_bI1n, retz_bI, retz_0, retz_1, retz_0n, retz_1n, o_let_eq, decide_eq_true_eq, ite_retI, bI_ite, if_true, if_false, m_ci hL (m_tiles hL hz hG), m_ci hL (m_shapeAt hL hz hG hm hi), f_X4_counted_27]
    rw [if_neg (by omega), sm]
    split <;> rfl
theorem shp_or {x : Int32} : 0 ≤ x.toInt ∧ x.toInt ≤ 46 ↔ ∃ s, s < 47 ∧ x = nI s := by
  constructor
  · intro h
    exact ⟨x.toInt.toNat, by omega, nI_toNat h.1⟩
  · rintro ⟨s, hs, rfl⟩
    rw [nI_toInt (by omega)]; omega
theorem m_count {h : AH} (hL : 608 ≤ h.length) {F : Nat → Int32} {A : Nat → Nat → Int32} {G : Gr} (hz : MZ (A 0) G) (hG : GV G) (hm : MC A) (x : Int32) : f_X4_count (some 1617) x (mset h F A) = some (some (vI (if 0 ≤ x.toInt ∧ x.toInt ≤ 46 then cnt G x else -1)), mset h F A) := by
  unfold f_X4_count
  rw [o_ci_eq (m_isShape _ _), ite_bI]
  simp only [decide_eq_true_eq]
  split
  · rw [m_ci hL (m_counted hL hz hG hm x)]
  · rfl
theorem m_maskOf {h : AH} (hL : 608 ≤ h.length) {F : Nat → Int32} {A : Nat → Nat → Int32} (hm : MC A) (x : Int32) : f_X4_maskOf (some 1617) x (mset h F A) = some (some (vI (if 0 ≤ x.toInt ∧ x.toInt ≤ 46 then nI (msk (nat x)) else -1)), mset h F A) := by
  unfold f_X4_maskOf
  rw [o_ci_eq (m_isShape _ _), ite_bI]
  simp only [decide_eq_true_eq]
  split
  · rename_i q
    obtain ⟨s, hs, rfl⟩ := shp_or.mp q
    rw [m_gr7 hL, m_ld7 hL hs, hm.1 s hs, nat_nI (by omega)]
  · rfl
theorem m_shapeOf {h : AH} (hL : 608 ≤ h.length) {F : Nat → Int32} {A : Nat → Nat → Int32} (hm : MC A) (x : Int32) : f_X4_shapeOf (some 1617) x (mset h F A) = some (some (vI (if 0 ≤ x.toInt ∧ x.toInt ≤ 255 then shp (nat x) else -2)), mset h F A) := by
  unfold f_X4_shapeOf
  rw [o_ci_eq (m_in _ _ _ _), ite_bI]
  simp only [decide_eq_true_eq, ti0, ti255]
  split
  · rename_i q
    obtain ⟨s, hs, rfl⟩ : ∃ s, s < 256 ∧ x = nI s := ⟨x.toInt.toNat, by omega, nI_toNat q.1⟩
    rw [m_gr8 hL, m_ld8 hL hs, hm.2 s hs, nat_nI (by omega)]
  · rfl
theorem m_turned {h : AH} (hL : 608 ≤ h.length) {F : Nat → Int32} {A : Nat → Nat → Int32} (hm : MC A) (x y : Int32) : f_X4_turned (some 1617) x y (mset h F A) = some (some (vI (if 0 ≤ x.toInt ∧ x.toInt ≤ 46 then (if 0 ≤ y.toInt ∧ y.toInt ≤ 3 then shp (trn (msk (nat x)) (nat y)) else -2) else -1)), mset h F A) := by
  unfold f_X4_turned
  rw [o_ci_eq (m_isShape _ _), ite_bI]
  simp only [decide_eq_true_eq]
  split
  · rename_i q
    obtain ⟨s, hs, rfl⟩ := shp_or.mp q
    rw [o_ci_eq (m_in _ _ _ _), ite_bI]
    simp only [decide_eq_true_eq, ti0, ti3]
    split
    · rename_i q
      obtain ⟨t, ht, rfl⟩ : ∃ s, s < 4 ∧ y = nI s := ⟨y.toInt.toNat, by omega, nI_toNat q.1⟩
      rw [m_ci hL (m_turnedBy hL hm hs ht), nat_nI (by omega), nat_nI (by omega)]
    · rfl
  · rfl
def coA (G : Gr) (k : Nat) : Int32 := if G.l k then sm (fun d => if nb G k (2 * d) then nI 0 else nI 1) 4 else nI 0
theorem m_coastAt {h : AH} (hL : 608 ≤ h.length) {F : Nat → Int32} {A : Nat → Nat → Int32} {G : Gr} (hz : MZ (A 0) G) (hG : GV G) {k : Nat} (hk : k < G.N) : f_X4_coastAt (some 1617) (nI k) (mset h F A) = some (some (vI (coA G k)), mset h F A) := by
  obtain ⟨z0, z1, z2, z3⟩ := id hz
  obtain ⟨⟨g1, g2, g3, g4, g5, g6⟩, g7⟩ := id hG
  have : k < G.C * G.R := hk
  obtain ⟨q1, q2, q3⟩ := k_rc hk
  unfold f_X4_coastAt coA
  by_cases hl : G.l k = true
  · rw [if_pos hl]
    refine loopE 4 (fun n i => f_X4_coastAt_4 n (some 1617) (nI k) (sm (fun d => if nb G k (2 * d) then nI 0 else nI 1) i) (nI (2 * i)) (mset h F A)) _ ?_ ?_ 0 FUEL (by omega) (by simp only [FUEL]; omega)
    · intro n
      rw [f_X4_coastAt_4_s]
      simp (disch := omega) only [li0, li1, li2, li3, li4, li5, li7, li8, li9, li10, li11, li12, li46, li47, li80, li100, li144, li147, li255, li256, li291, li1164, m_tag hL, m_gr0 hL, m_gr1 hL, m_gr3 hL, m_gr5 hL, m_gr7 hL, m_gr8 hL, m_gr9 hL, m_gr10 hL, m_gr11 hL, m_gr13 hL, m_gr14 hL, m_gr15 hL, m_gr16 hL, m_gr17 hL, m_gi2 hL, m_gi4 hL, m_gi6 hL, m_gi12 hL, m_gi18 hL, m_gi19 hL, m_gi20 hL, m_gi21 hL, m_ld0 hL, m_ld1 hL, m_ld3 hL, m_ld5 hL, m_ld7 hL, m_ld8 hL, m_ld9 hL, m_ld10 hL, m_ld11 hL, m_ld13 hL, m_ld14 hL, m_ld15 hL, m_ld16 hL, m_ld17 hL, m_pf2 hL, m_pf4 hL, m_pf6 hL, m_pf12 hL, m_pf18 hL, m_pf19 hL, m_pf20 hL, m_pf21 hL, m_st0 hL, m_st1 hL, m_st3 hL, m_st5 hL, m_st7 hL, m_st8 hL, m_st9 hL, m_st10 hL, m_st11 hL, m_st13 hL, m_st14 hL, m_st15 hL, m_st16 hL, m_st17 hL, nI_add, pk_mul, pk_sub, nI_le', nI_lt', nI_eq', nI_m6, nI_neg, pk_div, pk_rem, idiv_nI, irem_nI, ite_bI, ite_bIn, ite_bI1, ite_bI1n, retz_bI, retz_0, retz_1, retz_0n, retz_1n, o_let_eq, decide_eq_true_eq, ite_retI, bI_ite, if_true, if_false, if_pos, if_neg]
    · intro i n hi hk'
      rw [f_X4_coastAt_4_s, ← hk']
      simp (disch := omega) only [li0, li1, li2, li3, li4, li5, li7, li8, li9, li10, li11, li12, li46, li47, li80, li100, li144, li147, li255, li256, li291, li1164, m_tag hL, m_gr0 hL, m_gr1 hL, m_gr3 hL, m_gr5 hL, m_gr7 hL, m_gr8 hL, m_gr9 hL, m_gr10 hL, m_gr11 hL, m_gr13 hL, m_gr14 hL, m_gr15 hL, m_gr16 hL, m_gr17 hL, m_gi2 hL, m_gi4 hL, m_gi6 hL, m_gi12 hL, m_gi18 hL, m_gi19 hL, m_gi20 hL, m_gi21 hL, m_ld0 hL, m_ld1 hL, m_ld3 hL, m_ld5 hL, m_ld7 hL, m_ld8 hL, m_ld9 hL, m_ld10 hL, m_ld11 hL, m_ld13 hL, m_ld14 hL, m_ld15 hL, m_ld16 hL, m_ld17 hL, m_pf2 hL, m_pf4 hL, m_pf6 hL, m_pf12 hL, m_pf18 hL, m_pf19 hL, m_pf20 hL, m_pf21 hL, m_st0 hL, m_st1 hL, m_st3 hL, m_st5 hL, m_st7 hL, m_st8 hL, m_st9 hL, m_st10 hL, m_st11 hL, m_st13 hL, m_st14 hL, m_st15 hL, m_st16 hL, m_st17 hL, nI_add, pk_mul, pk_sub, nI_le', nI_lt', nI_eq', nI_m6, nI_neg, pk_div, pk_rem, idiv_nI, irem_nI, ite_bI, ite_bIn, ite_bI1, ite_bI1n, retz_bI, retz_0, retz_1, retz_0n, retz_1n, o_let_eq, decide_eq_true_eq, ite_retI, bI_ite, if_true, if_false, z0, z1, m_ci hL (m_isLandAt hL hz hG hk), hl, m_ci hL (m_isLandBeside hL hz hG (d := 2 * i) q1 q2 (show 2 * i < 8 by omega)), q3, f_X4_coastAt_48]
      rw [if_neg (by omega), sm, show 2 * (i + 1) = 2 * i + 2 by omega]
      split <;> rfl
  · rw [if_neg hl]
    show f_X4_coastAt_4 (99999 + 1) _ _ _ _ _ = _
    rw [f_X4_coastAt_4_s]
    simp only
    rw [if_neg (by decide), m_ci hL (m_isLandAt hL hz hG hk), ite_bI, if_neg hl]
    rfl
theorem m_coast {h : AH} (hL : 608 ≤ h.length) {F : Nat → Int32} {A : Nat → Nat → Int32} {G : Gr} (hz : MZ (A 0) G) (hG : GV G) : f_X4_coast (some 1617) (mset h F A) = some (some (vI (sm (coA G) G.N)), mset h F A) := by
  obtain ⟨z0, z1, z2, z3⟩ := id hz
  obtain ⟨⟨g1, g2, g3, g4, g5, g6⟩, g7⟩ := id hG
  unfold f_X4_coast
  refine loopE G.N (fun n i => f_X4_coast_4 n (some 1617) (sm (coA G) i) (nI i) (mset h F A)) _ ?_ ?_ 0 FUEL (by omega) (by simp only [FUEL]; omega)
  · intro n
    rw [f_X4_coast_4_s]
    simp (disch := omega) only [li0, li1, li2, li3, li4, li5, li7, li8, li9, li10, li11, li12, li46, li47, li80, li100, li144, li147, li255, li256, li291, li1164, m_tag hL, m_gr0 hL, m_gr1 hL, m_gr3 hL, m_gr5 hL, m_gr7 hL, m_gr8 hL, m_gr9 hL, m_gr10 hL, m_gr11 hL, m_gr13 hL, m_gr14 hL, m_gr15 hL, m_gr16 hL, m_gr17 hL, m_gi2 hL, m_gi4 hL, m_gi6 hL, m_gi12 hL, m_gi18 hL, m_gi19 hL, m_gi20 hL, m_gi21 hL, m_ld0 hL, m_ld1 hL, m_ld3 hL, m_ld5 hL, m_ld7 hL, m_ld8 hL, m_ld9 hL, m_ld10 hL, m_ld11 hL, m_ld13 hL, m_ld14 hL, m_ld15 hL, m_ld16 hL, m_ld17 hL, m_pf2 hL, m_pf4 hL, m_pf6 hL, m_pf12 hL, m_pf18 hL, m_pf19 hL, m_pf20 hL, m_pf21 hL, m_st0 hL, m_st1 hL, m_st3 hL, m_st5 hL, m_st7 hL, m_st8 hL, m_st9 hL, m_st10 hL, m_st11 hL, m_st13 hL, m_st14 hL, m_st15 hL, m_st16 hL, m_st17 hL, nI_add, pk_mul, pk_sub, nI_le', nI_lt', nI_eq', nI_m6, nI_neg, pk_div, pk_rem, idiv_nI, irem_nI, ite_bI, ite_bIn, ite_bI1, ite_bI1n, retz_bI, retz_0, retz_1, retz_0n, retz_1n, o_let_eq, decide_eq_true_eq, ite_retI, bI_ite, if_true, if_false, if_pos, if_neg, m_ci hL (m_tiles hL hz hG)]
  · intro i n hi hk
    rw [f_X4_coast_4_s, ← hk]
    simp (disch := omega) only [li0, li1, li2, li3, li4, li5, li7, li8, li9, li10, li11, li12, li46, li47, li80, li100, li144, li147, li255, li256, li291, li1164, m_tag hL, m_gr0 hL, m_gr1 hL, m_gr3 hL, m_gr5 hL, m_gr7 hL, m_gr8 hL, m_gr9 hL, m_gr10 hL, m_gr11 hL, m_gr13 hL, m_gr14 hL, m_gr15 hL, m_gr16 hL, m_gr17 hL, m_gi2 hL, m_gi4 hL, m_gi6 hL, m_gi12 hL, m_gi18 hL, m_gi19 hL, m_gi20 hL, m_gi21 hL, m_ld0 hL, m_ld1 hL, m_ld3 hL, m_ld5 hL, m_ld7 hL, m_ld8 hL, m_ld9 hL, m_ld10 hL, m_ld11 hL, m_ld13 hL, m_ld14 hL, m_ld15 hL, m_ld16 hL, m_ld17 hL, m_pf2 hL, m_pf4 hL, m_pf6 hL, m_pf12 hL, m_pf18 hL, m_pf19 hL, m_pf20 hL, m_pf21 hL, m_st0 hL, m_st1 hL, m_st3 hL, m_st5 hL, m_st7 hL, m_st8 hL, m_st9 hL, m_st10 hL, m_st11 hL, m_st13 hL, m_st14 hL, m_st15 hL, m_st16 hL, m_st17 hL, nI_add, pk_mul, pk_sub, nI_le', nI_lt', nI_eq', nI_m6, nI_neg, pk_div, pk_rem, idiv_nI, irem_nI, ite_bI, ite_bIn, ite_bI1, ite_bI1n, retz_bI, retz_0, retz_1, retz_0n, retz_1n, o_let_eq, decide_eq_true_eq, ite_retI, bI_ite, if_true, if_false, if_pos, if_neg, m_ci hL (m_tiles hL hz hG), m_ci hL (m_coastAt hL hz hG hi)]
    rfl
