set_option maxRecDepth 100000
/-! the model's brush, smooth, turn, coastIfChanged, text -/
theorem m_brush {h : AH} (hL : 608 ≤ h.length) {F : Nat → Int32} {A : Nat → Nat → Int32} {S : St} (hI : MI F A S) (hS : SV S) (x y rad : Int32) (b : Bool) : ∃ F' A', f_X4_brush (some 1617) x y rad (bI b) (mset h F A) = some (some (vI (a_brush S x y rad b).1), mset h F' A') ∧ MI F' A' (a_brush S x y rad b).2 := by
  obtain ⟨s1, s2, s3, s4, s5, s6⟩ := id hS
  unfold f_X4_brush a_brush
  rw [m_ci hL (m_isTile hL hI.1 s1 x y), ite_bI]
  by_cases hin : inG S.g x.toInt y.toInt = true
  · rw [if_pos hin, if_pos hin, o_ci_eq (m_in _ _ _ _), ite_bI]
    simp only [decide_eq_true_eq, ti0, ti5]
    by_cases hr : 0 ≤ rad.toInt ∧ rad.toInt ≤ 5
    · rw [if_pos hr, if_pos hr]
      obtain ⟨u, P, r1, r2⟩ := m_record hL hI hS
      obtain ⟨z, e1, e2⟩ := m_brushL hL (F := up F 2 u) (A := upA A 1 P) r2.1 s1 x y rad b
      exact ⟨up F 2 u, upA (upA A 1 P) 0 z, (m_cv hL r1).trans e1, r2.z e2⟩
    · rw [if_neg hr, if_neg hr]
      exact ⟨F, A, rfl, hI⟩
  · rw [if_neg hin, if_neg hin]
    exact ⟨F, A, rfl, hI⟩
def suml (G : Gr) (k : Nat) : Int32 := nI (popc (sur G k)) + bI (G.l k)
def smoF (G : Gr) (least : Int32) (k : Nat) : Option Bool := some (decide (¬ suml G k < least))
def a_smooth (S : St) (x : Int32) : Int32 × St :=
  if 1 ≤ x.toInt ∧ x.toInt ≤ 9 then (apC S.g (smoF S.g x) S.g.N, setg (reco S) (apG S.g (smoF S.g x) S.g.N)) else (-2, S)
theorem a_smooth_SV {S : St} (hS : SV S) (x : Int32) : SV (a_smooth S x).2 := by
  unfold a_smooth
  split
  · exact setg_SV (reco_SV hS) (apG_GV hS.1 _ _)
  · exact hS
theorem m_smooth1 {h : AH} (hL : 608 ≤ h.length) {F : Nat → Int32} {A : Nat → Nat → Int32} {G : Gr} (hz : MZ (A 0) G) (hG : GV G) (x : Int32) : f_X4_smooth_19 FUEL (some 1617) x 0 (mset h F A) = f_X4_smooth_75 FUEL (some 1617) x 0 0 (mset h F (upA A 13 (cpo (A 13) 0 G.N (suml G)))) := by
  obtain ⟨z0, z1, z2, z3⟩ := id hz
  obtain ⟨⟨g1, g2, g3, g4, g5, g6⟩, g7⟩ := id hG
  refine (congrArg (fun B => f_X4_smooth_19 FUEL (some 1617) x 0 (mset h F B)) (by rw [cpo_0, upA_self] : A = upA A 13 (cpo (A 13) 0 0 (suml G)))).trans ?_
  refine loopE G.N (fun n i => f_X4_smooth_19 n (some 1617) x (nI i) (mset h F (upA A 13 (cpo (A 13) 0 i (suml G))))) _ ?_ ?_ 0 FUEL (by omega) (by simp only [FUEL]; omega)
  · intro n
    rw [f_X4_smooth_19_s]
    simp only
    rw [m_ci hL (m_tiles hL (A := upA A 13 _) hz hG), if_pos (nI_le (Nat.le_refl _) (by omega))]
  · intro i n hi hk
    have hi2 : i < G.C * G.R := hi
    obtain ⟨q1, q2, q3⟩ := k_rc hi2
    have z1' : (upA A 13 (cpo (A 13) 0 i (suml G))) 0 1 = nI G.C := z1
    have z3' : (upA A 13 (cpo (A 13) 0 i (suml G))) 0 (3 + i) = bI (G.l i) := (z3 i hi).1
    rw [f_X4_smooth_19_s, ← hk]
    simp only
    rw [m_ci hL (m_tiles hL (A := upA A 13 _) hz hG), if_neg (nI_ge hi (by omega))]
    simp (disch := omega) only [li0, li1, li2, li3, li4, li5, li7, li8, li9, li10, li11, li12, li46, li47, li80, li100, li144, li147, li255, li256, li291, li1164, m_tag hL, m_gr0 hL, m_gr1 hL, m_gr3 hL, m_gr5 hL, m_gr7 hL, m_gr8 hL, m_gr9 hL, m_gr10 hL, m_gr11 hL, m_gr13 hL, m_gr14 hL, m_gr15 hL, m_gr16 hL, m_gr17 hL, m_gi2 hL, m_gi4 hL, m_gi6 hL, m_gi12 hL, m_gi18 hL, m_gi19 hL, m_gi20 hL, m_gi21 hL, m_ld0 hL, m_ld1 hL, m_ld3 hL, m_ld5 hL, m_ld7 hL, m_ld8 hL, m_ld9 hL, m_ld10 hL, m_ld11 hL, m_ld13 hL, m_ld14 hL, m_ld15 hL, m_ld16 hL, m_ld17 hL, m_pf2 hL, m_pf4 hL, m_pf6 hL, m_pf12 hL, m_pf18 hL, m_pf19 hL, m_pf20 hL, m_pf21 hL, m_st0 hL, m_st1 hL, m_st3 hL, m_st5 hL, m_st7 hL, m_st8 hL, m_st9 hL, m_st10 hL, m_st11 hL, m_st13 hL, m_st14 hL, m_st15 hL, m_st16 hL, m_st17 hL, nI_add, pk_mul, pk_sub, nI_le', nI_lt', nI_eq', nI_m6, nI_neg, pk_div, pk_rem, idiv_nI, irem_nI, ite_bI, ite_bIn, ite_bI1, ite_bI1n, retz_bI, retz_0, retz_1, retz_0n, retz_1n, o_let_eq, decide_eq_true_eq, ite_retI, bI_ite, if_true, if_false, z1', z3', m_ci hL (m_around hL (A := upA A 13 _) hz hG q1 q2), q3, o_ci_eq (m_bits (sur_lt G i) _), upA_s, upA_upA]
    exact congrArg (fun q => f_X4_smooth_19 n (some 1617) x (nI (i + 1)) (mset h F (upA A 13 q))) (cpo_up0 (A 13) i (suml G))
theorem m_smooth2 {h : AH} (hL : 608 ≤ h.length) {F : Nat → Int32} {A : Nat → Nat → Int32} {G : Gr} (hz : MZ (A 0) G) (hG : GV G) (x : Int32) (hs : ∀ k, k < G.N → A 13 k = suml G k) :
    ∃ z, f_X4_smooth_75 FUEL (some 1617) x 0 0 (mset h F A) = some (some (vI (apC G (smoF G x) G.N)), mset h F (upA A 0 z)) ∧ MZ z (apG G (smoF G x) G.N) := by
  obtain ⟨z0, z1, z2, z3⟩ := id hz
  obtain ⟨⟨g1, g2, g3, g4, g5, g6⟩, g7⟩ := id hG
  rw [show mset h F A = mset h F (upA A 0 (A 0)) by rw [upA_self]]
  refine loop1 (σ := Nat → Int32) G.N (fun n i z => f_X4_smooth_75 n (some 1617) x (apC G (smoF G x) i) (nI i) (mset h F (upA A 0 z))) (fun i z => MZ z (apG G (smoF G x) i))
    (fun res => ∃ z, res = some (some (vI (apC G (smoF G x) G.N)), mset h F (upA A 0 z)) ∧ MZ z (apG G (smoF G x) G.N)) ?_ ?_ 0 (A 0) FUEL (by omega) (by rw [apG_0]; exact hz) (by simp only [FUEL]; omega)
  · intro z n hz'
    refine ⟨z, ?_, hz'⟩
    rw [f_X4_smooth_75_s]
    simp only
    rw [m_ci hL (x := nI G.N) (m_tiles hL (F := F) (A := upA A 0 z) (G := apG G (smoF G x) G.N) (by rw [upA_s]; exact hz') (apG_GV hG (smoF G x) G.N)), if_pos (show nI G.N ≤ nI G.N from nI_le (Nat.le_refl _) (by omega))]
  · intro i z n hi hz' hk
    have hG' := apG_GV hG (smoF G x) i
    have hz2 : MZ (upA A 0 z 0) (apG G (smoF G x) i) := by rw [upA_s]; exact hz'
    have hi2 : i < G.C * G.R := hi
    have e13 : upA A 0 z 13 i = suml G i := hs i hi
    rw [f_X4_smooth_75_s]
    simp only
    rw [m_ci hL (x := nI G.N) (m_tiles hL (F := F) (A := upA A 0 z) (G := apG G (smoF G x) i) hz2 hG'), if_neg (show ¬ nI G.N ≤ nI i from nI_ge hi (by omega))]
    rw [m_gr13 hL, m_ld13 hL (by omega), e13]
    have e : smoF G x i = some (decide (¬ suml G i < x)) := rfl
    have hb := m_becomes hL (F := F) (A := upA A 0 z) (G := apG G (smoF G x) i) hz2 hG' (k := i) hi (decide (¬ suml G i < x))
    have := hk (zput z i (decide (¬ suml G i < x))) (by rw [← apG_some e]; exact zput_MZ hG' hz' hi _)
    rw [apC_some e] at this
    rw [upA_s, upA_upA, apG_l] at hb
    have key : ∀ q : Bool, f_X4_becomes (some 1617) (nI i) (bI q) (mset h F (upA A 0 z)) = some (some (vI (bI (G.l i != q))), mset h F (upA A 0 (zput z i q))) →
        (∃ z', f_X4_smooth_75 n (some 1617) x (apC G (smoF G x) i + bI (G.l i != q)) (nI (i + 1)) (mset h F (upA A 0 (zput z i q))) = some (some (vI (apC G (smoF G x) G.N)), mset h F (upA A 0 z')) ∧ MZ z' (apG G (smoF G x) G.N)) →
        ∃ z', f_X4_smooth_101 (f_X4_smooth_75 n) (some 1617) x (nI i) (apC G (smoF G x) i) (some 1617) (nI i) (bI q) (mset h F (upA A 0 z)) = some (some (vI (apC G (smoF G x) G.N)), mset h F (upA A 0 z')) ∧ MZ z' (apG G (smoF G x) G.N) := by
      intro q h1 h2
      unfold f_X4_smooth_101
      rw [m_ci hL h1, ite_bI]
      unfold f_X4_smooth_112
      simp only [o_let_eq, li1, nI_add]
      revert h2
      cases (G.l i != q)
      · exact fun w => w
      · exact fun w => w
    have := key _ hb this
    revert this
    by_cases q : suml G i < x
    · rw [if_pos q, decide_eq_false (by simpa using q)]
      exact fun w => w
    · rw [if_neg q, decide_eq_true q]
      exact fun w => w
theorem m_smooth {h : AH} (hL : 608 ≤ h.length) {F : Nat → Int32} {A : Nat → Nat → Int32} {S : St} (hI : MI F A S) (hS : SV S) (x : Int32) : ∃ F' A', f_X4_smooth (some 1617) x (mset h F A) = some (some (vI (a_smooth S x).1), mset h F' A') ∧ MI F' A' (a_smooth S x).2 := by
  obtain ⟨s1, s2, s3, s4, s5, s6⟩ := id hS
  unfold f_X4_smooth a_smooth
  rw [o_ci_eq (m_in _ _ _ _), ite_bI]
  simp only [decide_eq_true_eq, ti1, ti9]
  by_cases hr : 1 ≤ x.toInt ∧ x.toInt ≤ 9
  · rw [if_pos hr, if_pos hr]
    obtain ⟨u, P, r1, r2⟩ := m_record hL hI hS
    have hz : MZ (upA A 1 P 0) S.g := r2.1
    obtain ⟨z, e1, e2⟩ := m_smooth2 hL (F := up F 2 u) (A := upA (upA A 1 P) 13 (cpo (upA A 1 P 13) 0 S.g.N (suml S.g))) (G := S.g) hz s1 x (fun k hk => by rw [upA_s, cpo_in (by omega)]; rfl)
    refine ⟨up F 2 u, upA (upA (upA A 1 P) 13 (cpo (upA A 1 P 13) 0 S.g.N (suml S.g))) 0 z, (m_cv hL r1).trans ((m_smooth1 hL hz s1 x).trans e1), ?_⟩
    exact ((r2.scr (A' := upA (upA A 1 P) 13 (cpo (upA A 1 P 13) 0 S.g.N (suml S.g))) rfl rfl rfl rfl rfl rfl rfl rfl rfl).z e2)
  · rw [if_neg hr, if_neg hr]
    exact ⟨F, A, rfl, hI⟩
/-! a quarter turn -/
def tnI (R C j : Nat) : Nat := C * (R - 1 - j % R) + j / R
def tnT (R C k : Nat) : Nat := R * (k % C) + (R - 1 - k / C)
theorem tn_lt {R C k : Nat} (hk : k < C * R) : tnT R C k < C * R := by
  obtain ⟨a, b, c⟩ := k_rc hk
  unfold tnT
  rw [Nat.mul_comm C R]
  revert a b
  generalize k / C = q
  generalize k % C = m
  intro a b
  exact rc_lt b (by omega)
theorem tnI_lt {R C j : Nat} (hj : j < C * R) : tnI R C j < C * R := by
  rw [Nat.mul_comm] at hj
  obtain ⟨a, b, c⟩ := k_rc hj
  unfold tnI
  revert a b
  generalize j / R = q
  generalize j % R = m
  intro a b
  exact rc_lt (by omega) a
theorem tn_inv {R C k : Nat} (hk : k < C * R) : tnI R C (tnT R C k) = k := by
  obtain ⟨a, b, c⟩ := k_rc hk
  unfold tnI tnT
  revert a b c
  generalize k / C = q
  generalize k % C = m
  intro a b c
  rw [rc_mod (by omega), rc_div (by omega)]
  have : R - 1 - (R - 1 - q) = q := by omega
  rw [this]; exact c
theorem tn_inv2 {R C j : Nat} (hj : j < C * R) : tnT R C (tnI R C j) = j := by
  rw [Nat.mul_comm] at hj
  obtain ⟨a, b, c⟩ := k_rc hj
  unfold tnI tnT
  revert a b c
  generalize j / R = q
  generalize j % R = m
  intro a b c
  rw [rc_mod a, rc_div a]
  have : R - 1 - (R - 1 - m) = m := by omega
  rw [this]; exact c
def tpin (x : Int32) : Int32 := if x = -6 then -6 else shp (trn (msk (nat x)) 1)
theorem tpin_ok {x : Int32} (h : isP x) : isP (tpin x) := by
  unfold tpin
  split
  · exact .inl rfl
  · rename_i q
    obtain ⟨s, hs, rfl⟩ := h.resolve_left q
    rw [nat_nI (by omega)]
    exact .inr (trn_reg' hs (by omega))
def turnG (G : Gr) : Gr := (G.C, G.R, G.o, fun j => G.l (tnI G.R G.C j), fun j => tpin (G.p (tnI G.R G.C j)))
theorem turnG_N (G : Gr) : (turnG G).N = G.N := Nat.mul_comm _ _
theorem turnG_GV {G : Gr} (h : GV G) : GV (turnG G) := by
  obtain ⟨⟨g1, g2, g3, g4, g5, g6⟩, h2⟩ := h
  have e : G.R * G.C = G.C * G.R := Nat.mul_comm _ _
  have g5 : G.C * G.R ≤ 144 := g5
  have g6 : 1 ≤ G.C * G.R := g6
  refine ⟨⟨g3, g4, g1, g2, by show G.R * G.C ≤ 144; omega, by show 1 ≤ G.R * G.C; omega⟩, fun j hj => ?_⟩
  exact tpin_ok (h2 _ (tnI_lt (by have : j < G.R * G.C := hj; omega)))
def TNi (G : Gr) (i : Nat) (P : (Nat → Int32) × (Nat → Int32)) : Prop := ∀ j, j < G.N → tnI G.R G.C j < i → P.1 j = bI (G.l (tnI G.R G.C j)) ∧ P.2 j = tpin (G.p (tnI G.R G.C j))
theorem TNi_step {G : Gr} {i : Nat} {P : (Nat → Int32) × (Nat → Int32)} (hi : i < G.N) (h : TNi G i P) : TNi G (i + 1) (up P.1 (tnT G.R G.C i) (bI (G.l i)), up P.2 (tnT G.R G.C i) (tpin (G.p i))) := by
  intro j hj hlt
  by_cases e : j = tnT G.R G.C i
  · subst e
    show up P.1 _ _ _ = _ ∧ up P.2 _ _ _ = _
    rw [up_s, up_s, tn_inv hi]
    exact ⟨rfl, rfl⟩
  · show up P.1 _ _ _ = _ ∧ up P.2 _ _ _ = _
    rw [up_n e, up_n e]
    refine h j hj ?_
    have : tnI G.R G.C j ≠ i := fun q => e (by rw [← q, tn_inv2 hj])
    omega
theorem m_turn1x {h : AH} (hL : 608 ≤ h.length) {F : Nat → Int32} {A : Nat → Nat → Int32} {G : Gr} (hz : MZ (A 0) G) (hG : GV G) (P : (Nat → Int32) × (Nat → Int32)) (n : Nat) : f_X4_turnOnce_16 (n + 1) (some 1617) (nI G.R) (nI G.C) (nI G.N) (mset h F (upA (upA A 14 P.1) 15 P.2)) = f_X4_turnOnce_117 FUEL (some 1617) (nI G.R) (nI G.C) (nI 0) (mset h F (upA (upA (upA A 14 P.1) 15 P.2) 0 (up (up (A 0) 0 (nI G.C)) 1 (nI G.R)))) := by
  obtain ⟨z0, z1, z2, z3⟩ := id hz
  obtain ⟨⟨g1, g2, g3, g4, g5, g6⟩, g7⟩ := id hG
  have e0 : upA (upA A 14 P.1) 15 P.2 0 = A 0 := rfl
  rw [f_X4_turnOnce_16_s]
  simp only
  rw [if_pos (by rw [pk_mul, Nat.mul_comm]; exact nI_le (Nat.le_refl _) (by omega))]
  simp (disch := omega) only [li0, li1, li2, li3, li4, li5, li7, li8, li9, li10, li11, li12, li46, li47, li80, li100, li144, li147, li255, li256, li291, li1164, m_tag hL, m_gr0 hL, m_gr1 hL, m_gr3 hL, m_gr5 hL, m_gr7 hL, m_gr8 hL, m_gr9 hL, m_gr10 hL, m_gr11 hL, m_gr13 hL, m_gr14 hL, m_gr15 hL, m_gr16 hL, m_gr17 hL, m_gi2 hL, m_gi4 hL, m_gi6 hL, m_gi12 hL, m_gi18 hL, m_gi19 hL, m_gi20 hL, m_gi21 hL, m_ld0 hL, m_ld1 hL, m_ld3 hL, m_ld5 hL, m_ld7 hL, m_ld8 hL, m_ld9 hL, m_ld10 hL, m_ld11 hL, m_ld13 hL, m_ld14 hL, m_ld15 hL, m_ld16 hL, m_ld17 hL, m_pf2 hL, m_pf4 hL, m_pf6 hL, m_pf12 hL, m_pf18 hL, m_pf19 hL, m_pf20 hL, m_pf21 hL, m_st0 hL, m_st1 hL, m_st3 hL, m_st5 hL, m_st7 hL, m_st8 hL, m_st9 hL, m_st10 hL, m_st11 hL, m_st13 hL, m_st14 hL, m_st15 hL, m_st16 hL, m_st17 hL, nI_add, pk_mul, pk_sub, nI_le', nI_lt', nI_eq', nI_m6, nI_neg, pk_div, pk_rem, idiv_nI, irem_nI, ite_bI, ite_bIn, ite_bI1, ite_bI1n, retz_bI, retz_0, retz_1, retz_0n, retz_1n, o_let_eq, decide_eq_true_eq, ite_retI, bI_ite, if_true, if_false, upA_s, upA_upA, e0]
theorem m_turn1s {h : AH} (hL : 608 ≤ h.length) {F : Nat → Int32} {A : Nat → Nat → Int32} {G : Gr} (hz : MZ (A 0) G) (hG : GV G) (hm : MC A) (P : (Nat → Int32) × (Nat → Int32)) (n : Nat) {i : Nat} (hi : i < G.N) : f_X4_turnOnce_16 (n + 1) (some 1617) (nI G.R) (nI G.C) (nI i) (mset h F (upA (upA A 14 P.1) 15 P.2)) =
    f_X4_turnOnce_16 n (some 1617) (nI G.R) (nI G.C) (nI (i + 1)) (mset h F (upA (upA A 14 (up P.1 (tnT G.R G.C i) (bI (G.l i)))) 15 (up P.2 (tnT G.R G.C i) (tpin (G.p i))))) := by
  obtain ⟨z0, z1, z2, z3⟩ := id hz
  obtain ⟨⟨g1, g2, g3, g4, g5, g6⟩, g7⟩ := id hG
  have hi2 : i < G.C * G.R := hi
  have g5 : G.C * G.R ≤ 144 := g5
  obtain ⟨q1, q2, q3⟩ := k_rc hi2
  have ht : tnT G.R G.C i < G.C * G.R := tn_lt hi2
  have et : ((nI G.R * nI (i % G.C) + nI G.R) - nI 1) - nI (i / G.C) = nI (tnT G.R G.C i) := by
    unfold tnT
    revert q1 q2 q3
    generalize i / G.C = q
    generalize i % G.C = m
    intro q1 q2 q3
    rw [pk_mul, nI_add, pk_sub (by omega), pk_sub (by omega)]
    congr 1; omega
  have e0 : (upA (upA (upA A 14 P.1) 15 P.2) 14 (up P.1 (tnT G.R G.C i) (bI (G.l i)))) 0 (147 + i) = G.p i := (z3 i hi).2
  have e0' : (upA (upA A 14 P.1) 15 P.2) 0 (3 + i) = bI (G.l i) := (z3 i hi).1
  have e14 : (upA (upA A 14 P.1) 15 P.2) 14 = P.1 := rfl
  have e15 : (upA (upA (upA A 14 P.1) 15 P.2) 14 (up P.1 (tnT G.R G.C i) (bI (G.l i)))) 15 = P.2 := rfl
  have eA : ∀ Y, upA (upA (upA (upA A 14 P.1) 15 P.2) 14 (up P.1 (tnT G.R G.C i) (bI (G.l i)))) 15 Y = upA (upA A 14 (up P.1 (tnT G.R G.C i) (bI (G.l i)))) 15 Y := by
    intro Y; funext j
    by_cases a : j = 15
    · subst a; rw [upA_s, upA_s]
    · rw [upA_n a, upA_n a]
      by_cases b : j = 14
      · subst b; rw [upA_s, upA_s]
      · rw [upA_n b, upA_n a, upA_n b, upA_n b]
  rw [f_X4_turnOnce_16_s]
  simp only
  rw [if_neg (by rw [pk_mul, Nat.mul_comm]; exact nI_ge hi (by omega)), irem_nI (by omega) (by omega) (by omega), idiv_nI (by omega) (by omega) (by omega), li1, o_let_eq, et, m_gr14 hL, m_gr0 hL, li3, nI_add, m_ld0 hL (by omega), e0', m_st14 hL (by omega), e14, m_gr15 hL, m_gr0 hL, li147, nI_add, m_ld0 hL (by omega), e0]
  by_cases hp : G.p i = -6
  · have e : tpin (G.p i) = -6 := by rw [hp]; rfl
    rw [if_pos hp, e]
    unfold f_X4_turnOnce_94
    rw [m_st15 hL (by omega), e15, eA, o_let_eq, li1, nI_add]
  · rw [if_neg hp, m_gr0 hL, m_ld0 hL (by omega), e0]
    obtain ⟨s, hs, es⟩ := (g7 i hi).resolve_left hp
    have e : tpin (G.p i) = shp (trn (msk s) 1) := by unfold tpin; rw [if_neg hp, es, nat_nI (by omega)]
    rw [e, es, m_ci hL (m_turnedBy hL (A := upA (upA (upA A 14 P.1) 15 P.2) 14 _) (((hm.up (by omega) (by omega)).up (by omega) (by omega)).up (by omega) (by omega)) hs (q := 1) (by omega))]
    unfold f_X4_turnOnce_94
    rw [m_st15 hL (by omega), e15, eA, o_let_eq, nI_1]
theorem m_turn1 {h : AH} (hL : 608 ≤ h.length) {F : Nat → Int32} {A : Nat → Nat → Int32} {G : Gr} (hz : MZ (A 0) G) (hG : GV G) (hm : MC A) : ∃ P : (Nat → Int32) × (Nat → Int32), f_X4_turnOnce_16 FUEL (some 1617) (nI G.R) (nI G.C) (nI 0) (mset h F A) = f_X4_turnOnce_117 FUEL (some 1617) (nI G.R) (nI G.C) (nI 0) (mset h F (upA (upA (upA A 14 P.1) 15 P.2) 0 (up (up (A 0) 0 (nI G.C)) 1 (nI G.R)))) ∧ TNi G G.N P := by
  have e : mset h F A = mset h F (upA (upA A 14 (A 14)) 15 (A 15)) := by
    have : upA (upA A 14 (A 14)) 15 (A 15) = A := by rw [upA_self, upA_self]
    rw [this]
  rw [e]
  have hx : ∀ (P : (Nat → Int32) × (Nat → Int32)) (n : Nat), TNi G G.N P → ∃ P' : (Nat → Int32) × (Nat → Int32), f_X4_turnOnce_16 (n + 1) (some 1617) (nI G.R) (nI G.C) (nI G.N) (mset h F (upA (upA A 14 P.1) 15 P.2)) = f_X4_turnOnce_117 FUEL (some 1617) (nI G.R) (nI G.C) (nI 0) (mset h F (upA (upA (upA A 14 P'.1) 15 P'.2) 0 (up (up (A 0) 0 (nI G.C)) 1 (nI G.R)))) ∧ TNi G G.N P' :=
    fun P n hP => Exists.intro P (And.intro (m_turn1x hL hz hG P n) hP)
  have hN : G.N - 0 < FUEL := by have := hG.1; simp only [FUEL]; omega
  refine loop1 (σ := (Nat → Int32) × (Nat → Int32)) G.N (fun n i P => f_X4_turnOnce_16 n (some 1617) (nI G.R) (nI G.C) (nI i) (mset h F (upA (upA A 14 P.1) 15 P.2))) (fun i P => TNi G i P)
    (fun res => ∃ P : (Nat → Int32) × (Nat → Int32), res = f_X4_turnOnce_117 FUEL (some 1617) (nI G.R) (nI G.C) (nI 0) (mset h F (upA (upA (upA A 14 P.1) 15 P.2) 0 (up (up (A 0) 0 (nI G.C)) 1 (nI G.R)))) ∧ TNi G G.N P)
    hx ?_ 0 (A 14, A 15) FUEL (Nat.zero_le _) (fun j _ hj => absurd hj (Nat.not_lt_zero _)) hN
  intro i P n hi hP hk
  have := hk (up P.1 (tnT G.R G.C i) (bI (G.l i)), up P.2 (tnT G.R G.C i) (tpin (G.p i))) (TNi_step hi hP)
  rw [m_turn1s hL hz hG hm P n hi]
  exact this
