set_option maxRecDepth 100000
/-! the model's functions that change the state: set, pin, brush, smooth, turn, the text -/
theorem MC.up {A : Nat → Nat → Int32} (h : MC A) {k : Nat} {f : Nat → Int32} (h7 : k ≠ 7) (h8 : k ≠ 8) : MC (upA A k f) := by
  unfold MC
  rw [upA_n (Ne.symm h7), upA_n (Ne.symm h8)]
  exact h
def setO (G : Gr) (b : Bool) : Gr := (G.R, G.C, b, G.l, G.p)
theorem setO_GV {G : Gr} (h : GV G) (b : Bool) : GV (setO G b) := h
def putG (G : Gr) (k : Nat) (b : Bool) : Gr := (G.R, G.C, G.o, fun j => if j = k then b else G.l j, fun j => if j = k ∧ b = false then -6 else G.p j)
theorem putG_GV {G : Gr} (h : GV G) (k : Nat) (b : Bool) : GV (putG G k b) := by
  obtain ⟨h1, h2⟩ := h
  refine ⟨h1, fun j hj => ?_⟩
  show isP (if j = k ∧ b = false then -6 else G.p j)
  split
  · exact .inl rfl
  · exact h2 j hj
theorem putG_N (G : Gr) (k : Nat) (b : Bool) : (putG G k b).N = G.N := rfl
def zput (z : Nat → Int32) (k : Nat) (b : Bool) : Nat → Int32 := up (up z (3 + k) (bI b)) (147 + k) (if b then z (147 + k) else -6)
theorem zput_MZ {z : Nat → Int32} {G : Gr} (hG : GV G) (hz : MZ z G) {k : Nat} (hk : k < G.N) (b : Bool) : MZ (zput z k b) (putG G k b) := by
  obtain ⟨z0, z1, z2, z3⟩ := id hz
  obtain ⟨⟨g1, g2, g3, g4, g5, g6⟩, g7⟩ := id hG
  have hk2 : k < G.C * G.R := hk
  refine ⟨?_, ?_, ?_, fun j hj => ?_⟩
  · unfold zput; rw [up_n (by omega), up_n (by omega)]; exact z0
  · unfold zput; rw [up_n (by omega), up_n (by omega)]; exact z1
  · unfold zput; rw [up_n (by omega), up_n (by omega)]; exact z2
  · have hj : j < G.N := hj
    have hj2 : j < G.C * G.R := hj
    unfold zput
    constructor
    · rw [up_n (by omega)]
      show _ = bI (if j = k then b else G.l j)
      by_cases e : j = k
      · subst e; rw [up_s, if_pos rfl]
      · rw [up_n (by omega), if_neg e, (z3 j hj).1]
    · show _ = if j = k ∧ b = false then -6 else G.p j
      by_cases e : j = k
      · subst e; rw [up_s]
        cases b
        · simp
        · simp [(z3 j hj).2]
      · rw [up_n (by omega), up_n (by omega), if_neg (fun q => e q.1), (z3 j hj).2]
theorem m_becomes {h : AH} (hL : 608 ≤ h.length) {F : Nat → Int32} {A : Nat → Nat → Int32} {G : Gr} (hz : MZ (A 0) G) (hG : GV G) {k : Nat} (hk : k < G.N) (b : Bool) : f_X4_becomes (some 1617) (nI k) (bI b) (mset h F A) = some (some (vI (bI (G.l k != b))), mset h F (upA A 0 (zput (A 0) k b))) := by
  obtain ⟨z0, z1, z2, z3⟩ := id hz
  obtain ⟨⟨g1, g2, g3, g4, g5, g6⟩, g7⟩ := id hG
  have hk2 : k < G.C * G.R := hk
  have key : ∀ t : Bool, f_X4_becomes_14 (some 1617) (nI k) (bI b) (bI t) (mset h F A) = some (some (vI (bI t)), mset h F (upA A 0 (zput (A 0) k b))) := by
    intro t
    unfold f_X4_becomes_14 f_X4_becomes_31 f_X4_becomes_60 zput
    cases b
    · simp (disch := omega) only [li0, li1, li2, li3, li4, li5, li7, li8, li9, li10, li11, li12, li46, li47, li80, li100, li144, li147, li255, li256, li291, li1164, m_tag hL, m_gr0 hL, m_gr1 hL, m_gr3 hL, m_gr5 hL, m_gr7 hL, m_gr8 hL, m_gr9 hL, m_gr10 hL, m_gr11 hL, m_gr13 hL, m_gr14 hL, m_gr15 hL, m_gr16 hL, m_gr17 hL, m_gi2 hL, m_gi4 hL, m_gi6 hL, m_gi12 hL, m_gi18 hL, m_gi19 hL, m_gi20 hL, m_gi21 hL, m_ld0 hL, m_ld1 hL, m_ld3 hL, m_ld5 hL, m_ld7 hL, m_ld8 hL, m_ld9 hL, m_ld10 hL, m_ld11 hL, m_ld13 hL, m_ld14 hL, m_ld15 hL, m_ld16 hL, m_ld17 hL, m_pf2 hL, m_pf4 hL, m_pf6 hL, m_pf12 hL, m_pf18 hL, m_pf19 hL, m_pf20 hL, m_pf21 hL, m_st0 hL, m_st1 hL, m_st3 hL, m_st5 hL, m_st7 hL, m_st8 hL, m_st9 hL, m_st10 hL, m_st11 hL, m_st13 hL, m_st14 hL, m_st15 hL, m_st16 hL, m_st17 hL, nI_add, pk_mul, pk_sub, nI_le', nI_lt', nI_eq', nI_m6, nI_neg, pk_div, pk_rem, idiv_nI, irem_nI, ite_bI, ite_bIn, ite_bI1, ite_bI1n, retz_bI, retz_0, retz_1, retz_0n, retz_1n, o_let_eq, decide_eq_true_eq, ite_retI, bI_ite, if_true, if_false, upA_s, upA_upA]
      rfl
    · simp (disch := omega) only [li0, li1, li2, li3, li4, li5, li7, li8, li9, li10, li11, li12, li46, li47, li80, li100, li144, li147, li255, li256, li291, li1164, m_tag hL, m_gr0 hL, m_gr1 hL, m_gr3 hL, m_gr5 hL, m_gr7 hL, m_gr8 hL, m_gr9 hL, m_gr10 hL, m_gr11 hL, m_gr13 hL, m_gr14 hL, m_gr15 hL, m_gr16 hL, m_gr17 hL, m_gi2 hL, m_gi4 hL, m_gi6 hL, m_gi12 hL, m_gi18 hL, m_gi19 hL, m_gi20 hL, m_gi21 hL, m_ld0 hL, m_ld1 hL, m_ld3 hL, m_ld5 hL, m_ld7 hL, m_ld8 hL, m_ld9 hL, m_ld10 hL, m_ld11 hL, m_ld13 hL, m_ld14 hL, m_ld15 hL, m_ld16 hL, m_ld17 hL, m_pf2 hL, m_pf4 hL, m_pf6 hL, m_pf12 hL, m_pf18 hL, m_pf19 hL, m_pf20 hL, m_pf21 hL, m_st0 hL, m_st1 hL, m_st3 hL, m_st5 hL, m_st7 hL, m_st8 hL, m_st9 hL, m_st10 hL, m_st11 hL, m_st13 hL, m_st14 hL, m_st15 hL, m_st16 hL, m_st17 hL, nI_add, pk_mul, pk_sub, nI_le', nI_lt', nI_eq', nI_m6, nI_neg, pk_div, pk_rem, idiv_nI, irem_nI, ite_bI, ite_bIn, ite_bI1, ite_bI1n, retz_bI, retz_0, retz_1, retz_0n, retz_1n, o_let_eq, decide_eq_true_eq, ite_retI, bI_ite, if_true, if_false, upA_s, upA_upA, up_n]
      rfl
  unfold f_X4_becomes
  rw [m_ci hL (m_isLandAt hL hz hG hk)]
  simp only [bI_inj]
  cases hq : G.l k <;> cases b
  · exact key false
  · exact key true
  · exact key true
  · exact key false
theorem bI_of (x : Int32) : (if x = 0 then (0 : Int32) else 1) = bI (decide (x ≠ 0)) := by
  by_cases h : x = 0 <;> simp [h, bI]
def a_setOutside (S : St) (b : Bool) : Int32 × St := (dif S.g (setO S.g b), setg (reco S) (setO S.g b))
theorem a_setOutside_SV {S : St} (hS : SV S) (b : Bool) : SV (a_setOutside S b).2 := setg_SV (reco_SV hS) (setO_GV hS.1 b)
theorem m_setOutside {h : AH} (hL : 608 ≤ h.length) {F : Nat → Int32} {A : Nat → Nat → Int32} {S : St} (hI : MI F A S) (hS : SV S) (b : Bool) : ∃ F' A', f_X4_setOutside (some 1617) (bI b) (mset h F A) = some (some (vI (a_setOutside S b).1), mset h F' A') ∧ MI F' A' (a_setOutside S b).2 := by
  obtain ⟨s1, s2, s3, s4, s5, s6⟩ := id hS
  unfold f_X4_setOutside a_setOutside
  obtain ⟨u, P, r1, r2⟩ := m_record hL hI hS
  obtain ⟨j1, j2, j3, j4, j5, j6, j7, j8⟩ := id r2
  have hz : MZ (upA A 1 P 0) S.g := j1
  have hzO : MZ (up (A 0) 2 (bI b)) (setO S.g b) := by
    obtain ⟨z0, z1, z2, z3⟩ := hI.1
    refine ⟨(up_n (by omega)).trans z0, (up_n (by omega)).trans z1, up_s _ _ _, fun k hk => ?_⟩
    rw [up_n (by omega), up_n (by omega)]; exact z3 k hk
  refine ⟨up F 2 u, upA (upA (upA A 1 P) 9 (cpo (upA A 1 P 9) 0 S.g.N (sha S.g))) 0 (up (A 0) 2 (bI b)), ?_, ?_⟩
  · rw [m_cv hL r1, m_cv hL (m_lookShapes hL hz s1 j2)]
    rw [m_gr0 hL, ite_bI]
    have e : (if b = true then f_X4_setOutside_22 (some 1617) (some 1618) 2 1 (mset h (up F 2 u) (upA (upA A 1 P) 9 (cpo (upA A 1 P 9) 0 S.g.N (sha S.g)))) else f_X4_setOutside_22 (some 1617) (some 1618) 2 0 (mset h (up F 2 u) (upA (upA A 1 P) 9 (cpo (upA A 1 P 9) 0 S.g.N (sha S.g))))) = f_X4_setOutside_22 (some 1617) (some 1618) 2 (bI b) (mset h (up F 2 u) (upA (upA A 1 P) 9 (cpo (upA A 1 P 9) 0 S.g.N (sha S.g)))) := by cases b <;> rfl
    rw [e]
    unfold f_X4_setOutside_22
    rw [li2, m_st0 hL (by omega), upA_n (A := upA A 1 P) (j := 0) (by omega), upA_n (A := A) (j := 0) (by omega)]
    rw [m_ci hL (m_reshaped hL (G := setO S.g b) (G0 := S.g) (by rw [upA_s]; exact hzO) (setO_GV s1 b) ((j2.up (k := 9) (by omega) (by omega)).up (k := 0) (by omega) (by omega)) s1 rfl ?_)]
    intro k hk
    rw [upA_n (by omega), upA_s, cpo_in ⟨Nat.zero_le _, by have : k < S.g.N := hk; omega⟩]; rfl
  · exact ((r2.scr (A' := upA (upA A 1 P) 9 (cpo (upA A 1 P 9) 0 S.g.N (sha S.g))) rfl rfl rfl rfl rfl rfl rfl rfl rfl).z hzO)
def a_set (S : St) (x y : Int32) (b : Bool) : Int32 × St := if inG S.g x.toInt y.toInt then (dif S.g (putG S.g (plc S.g x.toInt y.toInt) b), setg (reco S) (putG S.g (plc S.g x.toInt y.toInt) b)) else (-1, S)
theorem a_set_SV {S : St} (hS : SV S) (x y : Int32) (b : Bool) : SV (a_set S x y b).2 := by
  unfold a_set
  split
  · exact setg_SV (reco_SV hS) (putG_GV hS.1 _ b)
  · exact hS
theorem inG_nI {G : Gr} {x y : Int32} (h : inG G x.toInt y.toInt = true) : ∃ r c, r < G.R ∧ c < G.C ∧ x = nI r ∧ y = nI c ∧ plc G x.toInt y.toInt = G.C * r + c := by
  have := (inG_iff G _ _).mp h
  exact ⟨x.toInt.toNat, y.toInt.toNat, by omega, by omega, nI_toNat (by omega), nI_toNat (by omega), rfl⟩
theorem m_set {h : AH} (hL : 608 ≤ h.length) {F : Nat → Int32} {A : Nat → Nat → Int32} {S : St} (hI : MI F A S) (hS : SV S) (x y : Int32) (b : Bool) : ∃ F' A', f_X4_set (some 1617) x y (bI b) (mset h F A) = some (some (vI (a_set S x y b).1), mset h F' A') ∧ MI F' A' (a_set S x y b).2 := by
  obtain ⟨s1, s2, s3, s4, s5, s6⟩ := id hS
  unfold f_X4_set a_set
  rw [m_ci hL (m_isTile hL hI.1 s1 x y), ite_bI]
  by_cases hin : inG S.g x.toInt y.toInt = true
  · rw [if_pos hin, if_pos hin]
    obtain ⟨r, c, hr, hc, rfl, rfl, e⟩ := inG_nI hin
    rw [e]
    have hk : S.g.C * r + c < S.g.N := rc_lt hr hc
    obtain ⟨u, P, r1, r2⟩ := m_record hL hI hS
    obtain ⟨j1, j2, j3, j4, j5, j6, j7, j8⟩ := id r2
    have hz : MZ (upA A 1 P 0) S.g := j1
    have hzO := zput_MZ s1 hz hk b
    refine ⟨up F 2 u, upA (upA (upA A 1 P) 9 (cpo (upA A 1 P 9) 0 S.g.N (sha S.g))) 0 (zput (upA A 1 P 0) (S.g.C * r + c) b), ?_, ?_⟩
    · rw [m_cv hL r1, m_cv hL (m_lookShapes hL hz s1 j2), m_ci hL (m_at hL (A := upA (upA A 1 P) 9 _) hz s1 r c), m_ci hL (m_becomes hL (A := upA (upA A 1 P) 9 _) hz s1 hk b)]
      rw [m_ci hL (m_reshaped hL (G := putG S.g (S.g.C * r + c) b) (G0 := S.g) (by rw [upA_s]; exact hzO) (putG_GV s1 _ b) ((j2.up (k := 9) (by omega) (by omega)).up (k := 0) (by omega) (by omega)) s1 rfl ?_)]
      · rfl
      · intro k hk
        rw [upA_n (by omega), upA_s, cpo_in ⟨Nat.zero_le _, by have : k < S.g.N := hk; omega⟩]; rfl
    · exact ((r2.scr (A' := upA (upA A 1 P) 9 (cpo (upA A 1 P 9) 0 S.g.N (sha S.g))) rfl rfl rfl rfl rfl rfl rfl rfl rfl).z hzO)
  · rw [if_neg hin, if_neg hin]
    exact ⟨F, A, rfl, hI⟩
