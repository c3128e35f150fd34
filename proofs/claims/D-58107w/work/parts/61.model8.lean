set_option maxRecDepth 100000
/-! the model's turn, coastIfChanged, text, tile, mirrored, needs -/
theorem m_turn2 {h : AH} (hL : 608 ≤ h.length) {F : Nat → Int32} {A : Nat → Nat → Int32} {R C : Nat} (hN : C * R ≤ 144) : f_X4_turnOnce_117 FUEL (some 1617) (nI R) (nI C) (nI 0) (mset h F A) =
    some (none, mset h F (upA A 0 (cpo (cpo (A 0) 3 (C * R) (A 14)) 147 (C * R) (A 15)))) := by
  refine (congrArg (fun B => f_X4_turnOnce_117 FUEL (some 1617) (nI R) (nI C) (nI 0) (mset h F B)) (by rw [cpo_0, cpo_0, upA_self] : A = upA A 0 (cpo (cpo (A 0) 3 0 (A 14)) 147 0 (A 15)))).trans ?_
  refine loopE (C * R) (fun n i => f_X4_turnOnce_117 n (some 1617) (nI R) (nI C) (nI i) (mset h F (upA A 0 (cpo (cpo (A 0) 3 i (A 14)) 147 i (A 15))))) _ ?_ ?_ 0 FUEL (by omega) (by simp only [FUEL]; omega)
  · intro n
    rw [f_X4_turnOnce_117_s]
    simp only
    rw [if_pos (by rw [pk_mul, Nat.mul_comm]; exact nI_le (Nat.le_refl _) (by omega))]
  · intro i n hi hk
    have e14 : ∀ Y, upA A 0 Y 14 = A 14 := fun _ => rfl
    have e15 : ∀ Y, upA A 0 Y 15 = A 15 := fun _ => rfl
    rw [f_X4_turnOnce_117_s, ← hk]
    simp only
    rw [if_neg (by rw [pk_mul, Nat.mul_comm]; exact nI_ge hi (by omega))]
    simp (disch := omega) only [li0, li1, li2, li3, li4, li5, li7, li8, li9, li10, li11, li12, li46, li47, li80, li100, li144, li147, li255, li256, li291, li1164, m_tag hL, m_gr0 hL, m_gr1 hL, m_gr3 hL, m_gr5 hL, m_gr7 hL, m_gr8 hL, m_gr9 hL, m_gr10 hL, m_gr11 hL, m_gr13 hL, m_gr14 hL, m_gr15 hL, m_gr16 hL, m_gr17 hL, m_gi2 hL, m_gi4 hL, m_gi6 hL, m_gi12 hL, m_gi18 hL, m_gi19 hL, m_gi20 hL, m_gi21 hL, m_ld0 hL, m_ld1 hL, m_ld3 hL, m_ld5 hL, m_ld7 hL, m_ld8 hL, m_ld9 hL, m_ld10 hL, m_ld11 hL, m_ld13 hL, m_ld14 hL, m_ld15 hL, m_ld16 hL, m_ld17 hL, m_pf2 hL, m_pf4 hL, m_pf6 hL, m_pf12 hL, m_pf18 hL, m_pf19 hL, m_pf20 hL, m_pf21 hL, m_st0 hL, m_st1 hL, m_st3 hL, m_st5 hL, m_st7 hL, m_st8 hL, m_st9 hL, m_st10 hL, m_st11 hL, m_st13 hL, m_st14 hL, m_st15 hL, m_st16 hL, m_st17 hL, nI_add, pk_mul, pk_sub, nI_le', nI_lt', nI_eq', nI_m6, nI_neg, pk_div, pk_rem, idiv_nI, irem_nI, ite_bI, ite_bIn, ite_bI1, ite_bI1n, retz_bI, retz_0, retz_1, retz_0n, retz_1n, o_let_eq, decide_eq_true_eq, ite_retI, bI_ite, if_true, if_false, upA_s, upA_upA, e14, e15]
    rw [cpo_upN (by omega), cpo_up, cpo_up]
theorem m_turnOnce {h : AH} (hL : 608 ≤ h.length) {F : Nat → Int32} {A : Nat → Nat → Int32} {G : Gr} (hz : MZ (A 0) G) (hG : GV G) (hm : MC A) : ∃ A', f_X4_turnOnce (some 1617) (mset h F A) = some (none, mset h F A') ∧ MZ (A' 0) (turnG G) ∧ A' 1 = A 1 ∧ A' 3 = A 3 ∧ A' 5 = A 5 ∧ A' 7 = A 7 ∧ A' 8 = A 8 := by
  obtain ⟨z0, z1, z2, z3⟩ := id hz
  obtain ⟨⟨g1, g2, g3, g4, g5, g6⟩, g7⟩ := id hG
  have g5 : G.C * G.R ≤ 144 := g5
  unfold f_X4_turnOnce
  rw [m_gr0 hL, li0, m_ld0 hL (by omega), m_gr0 hL, li1, m_ld0 hL (by omega), z0, z1]
  obtain ⟨P, e1, e2⟩ := m_turn1 hL hz hG hm
  refine ⟨_, e1.trans (m_turn2 hL g5), ?_, rfl, rfl, rfl, rfl, rfl⟩
  have e0 : (upA (upA (upA A 14 P.1) 15 P.2) 0 (up (up (A 0) 0 (nI G.C)) 1 (nI G.R))) 0 = up (up (A 0) 0 (nI G.C)) 1 (nI G.R) := rfl
  rw [upA_s, e0]
  refine ⟨?_, ?_, ?_, fun k hk => ?_⟩
  · rw [cpo_out (by omega), cpo_out (by omega), up_n (by omega), up_s]; rfl
  · rw [cpo_out (by omega), cpo_out (by omega), up_s]; rfl
  · rw [cpo_out (by omega), cpo_out (by omega), up_n (by omega), up_n (by omega)]; exact z2
  · rw [turnG_N] at hk
    have hk2 : k < G.C * G.R := hk
    have := e2 k hk (tnI_lt hk2)
    constructor
    · rw [cpo_out (by omega), cpo_in (by omega), show 3 + k - 3 = k by omega]; exact this.1
    · rw [cpo_in (by omega), show 147 + k - 147 = k by omega]; exact this.2
def turnN (G : Gr) : Nat → Gr
  | 0 => G
  | n + 1 => turnG (turnN G n)
theorem turnN_GV {G : Gr} (h : GV G) : ∀ n, GV (turnN G n)
  | 0 => h
  | n + 1 => turnG_GV (turnN_GV h n)
def a_turn (S : St) (x : Int32) : Int32 × St := if 1 ≤ x.toInt ∧ x.toInt ≤ 3 then (nI (turnN S.g (nat x)).R, setg (reco S) (turnN S.g (nat x))) else (-2, S)
theorem a_turn_SV {S : St} (hS : SV S) (x : Int32) : SV (a_turn S x).2 := by
  unfold a_turn
  split
  · exact setg_SV (reco_SV hS) (turnN_GV hS.1 _)
  · exact hS
theorem m_turn {h : AH} (hL : 608 ≤ h.length) {F : Nat → Int32} {A : Nat → Nat → Int32} {S : St} (hI : MI F A S) (hS : SV S) (x : Int32) : ∃ F' A', f_X4_turn (some 1617) x (mset h F A) = some (some (vI (a_turn S x).1), mset h F' A') ∧ MI F' A' (a_turn S x).2 := by
  obtain ⟨s1, s2, s3, s4, s5, s6⟩ := id hS
  unfold f_X4_turn a_turn
  rw [o_ci_eq (m_in _ _ _ _), ite_bI]
  simp only [decide_eq_true_eq, ti1, ti3]
  by_cases hr : 1 ≤ x.toInt ∧ x.toInt ≤ 3
  · rw [if_pos hr, if_pos hr]
    obtain ⟨q, hq, rfl⟩ : ∃ q, (1 ≤ q ∧ q ≤ 3) ∧ x = nI q := ⟨x.toInt.toNat, by omega, nI_toNat (by omega)⟩
    rw [nat_nI (by omega)]
    obtain ⟨u, P, r1, r2⟩ := m_record hL hI hS
    have main : ∃ A', f_X4_turn_18 FUEL (some 1617) (nI q) 0 (mset h (up F 2 u) (upA A 1 P)) = some (some (vI (nI (turnN S.g q).R)), mset h (up F 2 u) A') ∧ MI (up F 2 u) A' (setg (reco S) (turnN S.g q)) := by
      refine loop1 (σ := Nat → Nat → Int32) q (fun n i B => f_X4_turn_18 n (some 1617) (nI q) (nI i) (mset h (up F 2 u) B)) (fun i B => MI (up F 2 u) B (setg (reco S) (turnN S.g i)))
        (fun res => ∃ A', res = some (some (vI (nI (turnN S.g q).R)), mset h (up F 2 u) A') ∧ MI (up F 2 u) A' (setg (reco S) (turnN S.g q))) ?_ ?_ 0 (upA A 1 P) FUEL (by omega) r2 (by simp only [FUEL]; omega)
      · intro B n hB
        refine ⟨B, ?_, hB⟩
        have e : B 0 0 = nI (turnN S.g q).R := hB.1.1
        rw [f_X4_turn_18_s]
        simp only
        rw [if_pos (nI_le (Nat.le_refl _) (by omega)), m_gr0 hL, li0, m_ld0 hL (by omega), e]
      · intro i B n hi hB hk
        rw [f_X4_turn_18_s]
        simp only
        obtain ⟨A', t1, t2, t3, t4, t5, t6, t7⟩ := m_turnOnce hL (F := up F 2 u) (A := B) hB.1 (turnN_GV s1 i) hB.2.1
        rw [if_neg (nI_ge hi (by omega)), m_cv hL t1, o_let_eq, li1, nI_add]
        refine hk A' ?_
        have hh := MI.scr (F' := up F 2 u) (A' := upA A' 0 (B 0)) hB rfl rfl rfl rfl (by rw [upA_n (by omega), t3]) (by rw [upA_n (by omega), t4]) (by rw [upA_n (by omega), t5]) (by rw [upA_n (by omega), t6]) (by rw [upA_n (by omega), t7])
        have := hh.z t2
        rw [upA_upA, upA_self] at this
        exact this
    obtain ⟨A', e1, e2⟩ := main
    exact ⟨up F 2 u, A', (m_cv hL r1).trans e1, e2⟩
  · rw [if_neg hr, if_neg hr]
    exact ⟨F, A, rfl, hI⟩
/-! the coast if one tile were the other kind -/
def tog (G : Gr) (k : Nat) : Gr := (G.R, G.C, G.o, fun j => if j = k then !G.l j else G.l j, G.p)
def a_cic (S : St) (x y : Int32) : Int32 := if inG S.g x.toInt y.toInt then sm (coA (tog S.g (plc S.g x.toInt y.toInt))) S.g.N - sm (coA S.g) S.g.N + nI 100 else -1
theorem tog_MZ {z : Nat → Int32} {G : Gr} (hG : GV G) (hz : MZ z G) {k : Nat} (hk : k < G.N) : MZ (up z (3 + k) (bI (!G.l k))) (tog G k) := by
  obtain ⟨z0, z1, z2, z3⟩ := id hz
  obtain ⟨⟨g1, g2, g3, g4, g5, g6⟩, g7⟩ := id hG
  have hk2 : k < G.C * G.R := hk
  have g5 : G.C * G.R ≤ 144 := g5
  refine ⟨(up_n (by omega)).trans z0, (up_n (by omega)).trans z1, (up_n (by omega)).trans z2, fun j hj => ?_⟩
  have hj2 : j < G.C * G.R := hj
  have hj : j < G.N := hj
  constructor
  · show _ = bI (if j = k then !G.l j else G.l j)
    by_cases e : j = k
    · subst e; rw [up_s, if_pos rfl]
    · rw [up_n (by omega), if_neg e, (z3 j hj).1]
  · rw [up_n (by omega)]; exact (z3 j hj).2
theorem coA_p {G G' : Gr} (hR : G'.R = G.R) (hC : G'.C = G.C) (ho : G'.o = G.o) (hl : ∀ k, k < G.N → G'.l k = G.l k) {k : Nat} (hk : k < G.N) : coA G' k = coA G k := by
  unfold coA
  rw [hl k hk]
  split
  · refine sm_cong (fun d _ => ?_)
    have : nb G' k (2 * d) = nb G k (2 * d) := by
      have e : ∀ x y, inG G' x y = inG G x y := by intro x y; unfold inG; rw [hR, hC]
      unfold nb nbX nbY lat
      rw [hC, e, ho]
      split
      · rename_i q
        have e2 : ∀ x y, plc G' x y = plc G x y := by intro x y; unfold plc; rw [hC]
        rw [e2, hl _ (plc_lt q)]
      · rfl
    rw [this]
  · rfl
theorem m_cic {h : AH} (hL : 608 ≤ h.length) {F : Nat → Int32} {A : Nat → Nat → Int32} {S : St} (hI : MI F A S) (hS : SV S) (x y : Int32) : ∃ F' A', f_X4_coastIfChanged (some 1617) x y (mset h F A) = some (some (vI (a_cic S x y)), mset h F' A') ∧ MI F' A' S := by
  obtain ⟨s1, s2, s3, s4, s5, s6⟩ := id hS
  unfold f_X4_coastIfChanged a_cic
  rw [m_ci hL (m_isTile hL hI.1 s1 x y), ite_bI]
  by_cases hin : inG S.g x.toInt y.toInt = true
  · rw [if_pos hin, if_pos hin]
    obtain ⟨r, c, hr, hc, rfl, rfl, e⟩ := inG_nI hin
    rw [e]
    have hk : S.g.C * r + c < S.g.N := rc_lt hr hc
    have hk3 : S.g.C * r + c < 144 := Nat.lt_of_lt_of_le hk s1.1.2.2.2.2.1
    have hzk := (hI.1.2.2.2 _ hk).1
    have hT := tog_MZ s1 hI.1 hk
    have f1 : ∀ b : Bool, nI 1 - bI b = bI (!b) := by decide
    refine ⟨F, A, ?_, hI⟩
    rw [m_ci hL (m_at hL hI.1 s1 r c), m_ci hL (m_coast hL hI.1 s1), m_gr0 hL, m_gr0 hL, li3, nI_add, m_ld0 hL (by omega), hzk, li1, f1, m_st0 hL (by omega)]
    have hc' : f_X4_coast (some 1617) (mset h F (upA A 0 (up (A 0) (3 + (S.g.C * r + c)) (bI (!S.g.l (S.g.C * r + c)))))) = some (some (vI (sm (coA (tog S.g (S.g.C * r + c))) S.g.N)), mset h F (upA A 0 (up (A 0) (3 + (S.g.C * r + c)) (bI (!S.g.l (S.g.C * r + c)))))) := by
      exact m_coast hL (G := tog S.g (S.g.C * r + c)) hT s1
    rw [m_ci hL hc', m_gr0 hL, m_gr0 hL, m_ld0 hL (by omega), upA_s, up_s, f1, Bool.not_not, m_st0 hL (by omega), upA_upA, upA_s]
    have e2 : up (up (A 0) (3 + (S.g.C * r + c)) (bI (!S.g.l (S.g.C * r + c)))) (3 + (S.g.C * r + c)) (bI (S.g.l (S.g.C * r + c))) = A 0 := by
      rw [up_up, ← hzk]
      funext j; unfold up; split
      · rename_i e; rw [e]
      · rfl
    rw [e2, upA_self]; rfl
  · rw [if_neg hin, if_neg hin]
    exact ⟨F, A, rfl, hI⟩
