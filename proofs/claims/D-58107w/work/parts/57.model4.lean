set_option maxRecDepth 100000
/-! the model's functions that change the state -/
def setg (S : St) (G : Gr) : St := (G, S.hi, S.sv, S.tx)
def lnd (G : Gr) : Int32 := sm (fun k => bI (G.l k)) G.N
theorem setg_SV {S : St} (h : SV S) {G : Gr} (hG : GV G) : SV (setg S G) := ⟨hG, h.2⟩
/-- with other tiles -/
theorem MI.z {F : Nat → Int32} {A : Nat → Nat → Int32} {S : St} (h : MI F A S) {z : Nat → Int32} {G : Gr} (hz : MZ z G) : MI F (upA A 0 z) (setg S G) := ⟨hz, h.2⟩
theorem m_undo_loop {h : AH} (hL : 608 ≤ h.length) {F : Nat → Int32} {A : Nat → Nat → Int32} {m : Nat} (hF : F 2 = nI m) (hm : m < 5) :
    f_X4_undo_22 FUEL (some 1617) 0 (mset h F A) = some (some (vI (nI m)), mset h F (upA A 0 (cpo (A 0) 0 291 (fun j => A 1 (m * 291 + j))))) := by
  refine (congrArg (fun B => f_X4_undo_22 FUEL (some 1617) 0 (mset h F B)) (by rw [cpo_0, upA_self] : A = upA A 0 (cpo (A 0) 0 0 (fun j => A 1 (m * 291 + j))))).trans ?_
  refine loopE 291 (fun n i => f_X4_undo_22 n (some 1617) (nI i) (mset h F (upA A 0 (cpo (A 0) 0 i (fun j => A 1 (m * 291 + j)))))) _ ?_ ?_ 0 FUEL (by omega) (by simp only [FUEL]; omega)
  · intro n
    rw [f_X4_undo_22_s]
    simp (disch := omega) only [li0, li1, li2, li3, li4, li5, li7, li8, li9, li10, li11, li12, li46, li47, li80, li100, li144, li147, li255, li256, li291, li1164, m_tag hL, m_gr0 hL, m_gr1 hL, m_gr3 hL, m_gr5 hL, m_gr7 hL, m_gr8 hL, m_gr9 hL, m_gr10 hL, m_gr11 hL, m_gr13 hL, m_gr14 hL, m_gr15 hL, m_gr16 hL, m_gr17 hL, m_gi2 hL, m_gi4 hL, m_gi6 hL, m_gi12 hL, m_gi18 hL, m_gi19 hL, m_gi20 hL, m_gi21 hL, m_ld0 hL, m_ld1 hL, m_ld3 hL, m_ld5 hL, m_ld7 hL, m_ld8 hL, m_ld9 hL, m_ld10 hL, m_ld11 hL, m_ld13 hL, m_ld14 hL, m_ld15 hL, m_ld16 hL, m_ld17 hL, m_pf2 hL, m_pf4 hL, m_pf6 hL, m_pf12 hL, m_pf18 hL, m_pf19 hL, m_pf20 hL, m_pf21 hL, m_st0 hL, m_st1 hL, m_st3 hL, m_st5 hL, m_st7 hL, m_st8 hL, m_st9 hL, m_st10 hL, m_st11 hL, m_st13 hL, m_st14 hL, m_st15 hL, m_st16 hL, m_st17 hL, nI_add, pk_mul, pk_sub, nI_le', nI_lt', nI_eq', nI_m6, nI_neg, pk_div, pk_rem, idiv_nI, irem_nI, ite_bI, ite_bIn, ite_bI1, ite_bI1n, retz_bI, retz_0, retz_1, retz_0n, retz_1n, o_let_eq, decide_eq_true_eq, ite_retI, bI_ite, if_true, if_false, if_pos, if_neg, hF]
  · intro i n hi hk
    rw [f_X4_undo_22_s, ← hk]
    simp (disch := omega) only [li0, li1, li2, li3, li4, li5, li7, li8, li9, li10, li11, li12, li46, li47, li80, li100, li144, li147, li255, li256, li291, li1164, m_tag hL, m_gr0 hL, m_gr1 hL, m_gr3 hL, m_gr5 hL, m_gr7 hL, m_gr8 hL, m_gr9 hL, m_gr10 hL, m_gr11 hL, m_gr13 hL, m_gr14 hL, m_gr15 hL, m_gr16 hL, m_gr17 hL, m_gi2 hL, m_gi4 hL, m_gi6 hL, m_gi12 hL, m_gi18 hL, m_gi19 hL, m_gi20 hL, m_gi21 hL, m_ld0 hL, m_ld1 hL, m_ld3 hL, m_ld5 hL, m_ld7 hL, m_ld8 hL, m_ld9 hL, m_ld10 hL, m_ld11 hL, m_ld13 hL, m_ld14 hL, m_ld15 hL, m_ld16 hL, m_ld17 hL, m_pf2 hL, m_pf4 hL, m_pf6 hL, m_pf12 hL, m_pf18 hL, m_pf19 hL, m_pf20 hL, m_pf21 hL, m_st0 hL, m_st1 hL, m_st3 hL, m_st5 hL, m_st7 hL, m_st8 hL, m_st9 hL, m_st10 hL, m_st11 hL, m_st13 hL, m_st14 hL, m_st15 hL, m_st16 hL, m_st17 hL, nI_add, pk_mul, pk_sub, nI_le', nI_lt', nI_eq', nI_m6, nI_neg, pk_div, pk_rem, idiv_nI, irem_nI, ite_bI, ite_bIn, ite_bI1, ite_bI1n, retz_bI, retz_0, retz_1, retz_0n, retz_1n, o_let_eq, decide_eq_true_eq, ite_retI, bI_ite, if_true, if_false, if_pos, if_neg, hF, upA_s, upA_upA]
    rw [upA_n (by omega), cpo_up0 (A 0) i (fun j => A 1 (m * 291 + j))]
def a_undo (S : St) : Int32 × St := match S.hi.getLast? with
  | none => (-3, S)
  | some G => (nI (S.hi.length - 1), (G, S.hi.dropLast, S.sv, S.tx))
theorem m_undo {h : AH} (hL : 608 ≤ h.length) {F : Nat → Int32} {A : Nat → Nat → Int32} {S : St} (hI : MI F A S) (hS : SV S) : ∃ F' A', f_X4_undo (some 1617) (mset h F A) = some (some (vI (a_undo S).1), mset h F' A') ∧ MI F' A' (a_undo S).2 := by
  obtain ⟨i1, i2, i3, i4, i5, i6, i7, i8⟩ := id hI
  obtain ⟨s1, s2, s3, s4, s5, s6⟩ := id hS
  unfold f_X4_undo a_undo
  by_cases h0 : S.hi.length = 0
  · have e : S.hi = [] := List.eq_nil_of_length_eq_zero h0
    refine ⟨F, A, ?_, ?_⟩
    · simp (disch := omega) only [li0, li1, li2, li3, li4, li5, li7, li8, li9, li10, li11, li12, li46, li47, li80, li100, li144, li147, li255, li256, li291, li1164, m_tag hL, m_gr0 hL, m_gr1 hL, m_gr3 hL, m_gr5 hL, m_gr7 hL, m_gr8 hL, m_gr9 hL, m_gr10 hL, m_gr11 hL, m_gr13 hL, m_gr14 hL, m_gr15 hL, m_gr16 hL, m_gr17 hL, m_gi2 hL, m_gi4 hL, m_gi6 hL, m_gi12 hL, m_gi18 hL, m_gi19 hL, m_gi20 hL, m_gi21 hL, m_ld0 hL, m_ld1 hL, m_ld3 hL, m_ld5 hL, m_ld7 hL, m_ld8 hL, m_ld9 hL, m_ld10 hL, m_ld11 hL, m_ld13 hL, m_ld14 hL, m_ld15 hL, m_ld16 hL, m_ld17 hL, m_pf2 hL, m_pf4 hL, m_pf6 hL, m_pf12 hL, m_pf18 hL, m_pf19 hL, m_pf20 hL, m_pf21 hL, m_st0 hL, m_st1 hL, m_st3 hL, m_st5 hL, m_st7 hL, m_st8 hL, m_st9 hL, m_st10 hL, m_st11 hL, m_st13 hL, m_st14 hL, m_st15 hL, m_st16 hL, m_st17 hL, nI_add, pk_mul, pk_sub, nI_le', nI_lt', nI_eq', nI_m6, nI_neg, pk_div, pk_rem, idiv_nI, irem_nI, ite_bI, ite_bIn, ite_bI1, ite_bI1n, retz_bI, retz_0, retz_1, retz_0n, retz_1n, o_let_eq, decide_eq_true_eq, ite_retI, bI_ite, if_true, if_false, if_pos, if_neg, i3, e]
      rfl
    · rw [e]; exact hI
  · have hl : S.hi[S.hi.length - 1]? = some (S.hi[S.hi.length - 1]'(by omega)) := List.getElem?_eq_getElem _
    rw [List.getLast?_eq_getElem?, hl]
    refine ⟨up F 2 (nI (S.hi.length - 1)), upA A 0 (cpo (A 0) 0 291 (fun j => A 1 ((S.hi.length - 1) * 291 + j))), ?_, ?_⟩
    · simp (disch := omega) only [li0, li1, li2, li3, li4, li5, li7, li8, li9, li10, li11, li12, li46, li47, li80, li100, li144, li147, li255, li256, li291, li1164, m_tag hL, m_gr0 hL, m_gr1 hL, m_gr3 hL, m_gr5 hL, m_gr7 hL, m_gr8 hL, m_gr9 hL, m_gr10 hL, m_gr11 hL, m_gr13 hL, m_gr14 hL, m_gr15 hL, m_gr16 hL, m_gr17 hL, m_gi2 hL, m_gi4 hL, m_gi6 hL, m_gi12 hL, m_gi18 hL, m_gi19 hL, m_gi20 hL, m_gi21 hL, m_ld0 hL, m_ld1 hL, m_ld3 hL, m_ld5 hL, m_ld7 hL, m_ld8 hL, m_ld9 hL, m_ld10 hL, m_ld11 hL, m_ld13 hL, m_ld14 hL, m_ld15 hL, m_ld16 hL, m_ld17 hL, m_pf2 hL, m_pf4 hL, m_pf6 hL, m_pf12 hL, m_pf18 hL, m_pf19 hL, m_pf20 hL, m_pf21 hL, m_st0 hL, m_st1 hL, m_st3 hL, m_st5 hL, m_st7 hL, m_st8 hL, m_st9 hL, m_st10 hL, m_st11 hL, m_st13 hL, m_st14 hL, m_st15 hL, m_st16 hL, m_st17 hL, nI_add, pk_mul, pk_sub, nI_le', nI_lt', nI_eq', nI_m6, nI_neg, pk_div, pk_rem, idiv_nI, irem_nI, ite_bI, ite_bIn, ite_bI1, ite_bI1n, retz_bI, retz_0, retz_1, retz_0n, retz_1n, o_let_eq, decide_eq_true_eq, ite_retI, bI_ite, if_true, if_false, if_pos, if_neg, i3]
      exact m_undo_loop hL (up_s _ _ _) (by omega)
    · refine ⟨?_, i2, ?_, ?_, i5, i6, i7, i8⟩
      · refine MZ.cong (s2 _ (List.getElem_mem _)) (i4 _ _ hl) ?_
        intro j hj
        show upA A 0 _ 0 _ = _
        rw [upA_s, cpo_in (by omega)]; rfl
      · rw [up_s]; show _ = nI S.hi.dropLast.length; simp
      · intro i G hG
        have : (St.hi (S.hi[S.hi.length - 1]'(by omega), S.hi.dropLast, S.sv, S.tx)) = S.hi.dropLast := rfl
        rw [this, List.getElem?_dropLast] at hG
        split at hG
        · exact i4 i G hG
        · cases hG
theorem a_undo_SV {S : St} (hS : SV S) : SV (a_undo S).2 := by
  obtain ⟨s1, s2, s3, s4, s5, s6⟩ := id hS
  unfold a_undo
  split
  · exact hS
  · rename_i G hG
    exact ⟨s2 G (List.mem_of_getLast? hG), fun G' h => s2 G' (List.dropLast_subset _ h), by show S.hi.dropLast.length ≤ 5; simp; omega, s4, s5, s6⟩
def a_save (S : St) : Int32 × St := (lnd S.g, (S.g, S.hi, some S.g, S.tx))
theorem a_save_SV {S : St} (hS : SV S) : SV (a_save S).2 := ⟨hS.1, hS.2.1, hS.2.2.1, fun G h => by cases h; exact hS.1, hS.2.2.2.2⟩
theorem m_save {h : AH} (hL : 608 ≤ h.length) {F : Nat → Int32} {A : Nat → Nat → Int32} {S : St} (hI : MI F A S) (hS : SV S) : ∃ F' A', f_X4_save (some 1617) (mset h F A) = some (some (vI (a_save S).1), mset h F' A') ∧ MI F' A' (a_save S).2 := by
  obtain ⟨i1, i2, i3, i4, i5, i6, i7, i8⟩ := id hI
  obtain ⟨s1, s2, s3, s4, s5, s6⟩ := id hS
  unfold f_X4_save
  rw [o_pz_eq (by decide) (mset_get hL 0 (by omega) rfl) (by omega) (by show 4 < 22; omega)]
  refine ⟨up F 4 1, upA A 3 (cpo (A 3) 0 291 (A 0)), ?_, ?_⟩
  · refine (congrArg (f_X4_save_7 FUEL (some 1617) 0) (mset_set (F' := up F 4 1) (A' := A) hL 0 (by omega) rfl)).trans ?_
    refine (congrArg (fun B => f_X4_save_7 FUEL (some 1617) 0 (mset h (up F 4 1) B)) (by rw [cpo_0, upA_self] : A = upA A 3 (cpo (A 3) 0 0 (A 0)))).trans ?_
    refine loopE 291 (fun n i => f_X4_save_7 n (some 1617) (nI i) (mset h (up F 4 1) (upA A 3 (cpo (A 3) 0 i (A 0))))) _ ?_ ?_ 0 FUEL (by omega) (by simp only [FUEL]; omega)
    · intro n
      rw [f_X4_save_7_s]
      simp (disch := omega) only [li0, li1, li2, li3, li4, li5, li7, li8, li9, li10, li11, li12, li46, li47, li80, li100, li144, li147, li255, li256, li291, li1164, m_tag hL, m_gr0 hL, m_gr1 hL, m_gr3 hL, m_gr5 hL, m_gr7 hL, m_gr8 hL, m_gr9 hL, m_gr10 hL, m_gr11 hL, m_gr13 hL, m_gr14 hL, m_gr15 hL, m_gr16 hL, m_gr17 hL, m_gi2 hL, m_gi4 hL, m_gi6 hL, m_gi12 hL, m_gi18 hL, m_gi19 hL, m_gi20 hL, m_gi21 hL, m_ld0 hL, m_ld1 hL, m_ld3 hL, m_ld5 hL, m_ld7 hL, m_ld8 hL, m_ld9 hL, m_ld10 hL, m_ld11 hL, m_ld13 hL, m_ld14 hL, m_ld15 hL, m_ld16 hL, m_ld17 hL, m_pf2 hL, m_pf4 hL, m_pf6 hL, m_pf12 hL, m_pf18 hL, m_pf19 hL, m_pf20 hL, m_pf21 hL, m_st0 hL, m_st1 hL, m_st3 hL, m_st5 hL, m_st7 hL, m_st8 hL, m_st9 hL, m_st10 hL, m_st11 hL, m_st13 hL, m_st14 hL, m_st15 hL, m_st16 hL, m_st17 hL, nI_add, pk_mul, pk_sub, nI_le', nI_lt', nI_eq', nI_m6, nI_neg, pk_div, pk_rem, idiv_nI, irem_nI, ite_bI, ite_bIn, ite_bI1, ite_bI1n, retz_bI, retz_0, retz_1, retz_0n, retz_1n, o_let_eq, decide_eq_true_eq, ite_retI, bI_ite, if_true, if_false, if_pos, if_neg, m_ci hL (m_land hL (A := upA A 3 _) (G := S.g) i1 s1)]
      rfl
    · intro i n hi hk
      rw [f_X4_save_7_s, ← hk]
      simp (disch := omega) only [li0, li1, li2, li3, li4, li5, li7, li8, li9, li10, li11, li12, li46, li47, li80, li100, li144, li147, li255, li256, li291, li1164, m_tag hL, m_gr0 hL, m_gr1 hL, m_gr3 hL, m_gr5 hL, m_gr7 hL, m_gr8 hL, m_gr9 hL, m_gr10 hL, m_gr11 hL, m_gr13 hL, m_gr14 hL, m_gr15 hL, m_gr16 hL, m_gr17 hL, m_gi2 hL, m_gi4 hL, m_gi6 hL, m_gi12 hL, m_gi18 hL, m_gi19 hL, m_gi20 hL, m_gi21 hL, m_ld0 hL, m_ld1 hL, m_ld3 hL, m_ld5 hL, m_ld7 hL, m_ld8 hL, m_ld9 hL, m_ld10 hL, m_ld11 hL, m_ld13 hL, m_ld14 hL, m_ld15 hL, m_ld16 hL, m_ld17 hL, m_pf2 hL, m_pf4 hL, m_pf6 hL, m_pf12 hL, m_pf18 hL, m_pf19 hL, m_pf20 hL, m_pf21 hL, m_st0 hL, m_st1 hL, m_st3 hL, m_st5 hL, m_st7 hL, m_st8 hL, m_st9 hL, m_st10 hL, m_st11 hL, m_st13 hL, m_st14 hL, m_st15 hL, m_st16 hL, m_st17 hL, nI_add, pk_mul, pk_sub, nI_le', nI_lt', nI_eq', nI_m6, nI_neg, pk_div, pk_rem, idiv_nI, irem_nI, ite_bI, ite_bIn, ite_bI1, ite_bI1n, retz_bI, retz_0, retz_1, retz_0n, retz_1n, o_let_eq, decide_eq_true_eq, ite_retI, bI_ite, if_true, if_false, if_pos, if_neg, upA_s, upA_upA]
      rw [upA_n (by omega), cpo_up0]
  · refine ⟨i1, i2, i3, i4, rfl, ?_, i7, i8⟩
    intro G h
    cases h
    refine MZ.cong s1 i1 ?_
    intro j hj
    rw [upA_s, cpo_in (by omega)]; rfl
def a_restore (S : St) : Int32 × St := match S.sv with
  | none => (-3, S)
  | some G => (lnd G, setg (reco S) G)
theorem a_restore_SV {S : St} (hS : SV S) : SV (a_restore S).2 := by
  unfold a_restore
  split
  · exact hS
  · rename_i G h
    exact setg_SV (reco_SV hS) (hS.2.2.2.1 G h)
theorem m_restore {h : AH} (hL : 608 ≤ h.length) {F : Nat → Int32} {A : Nat → Nat → Int32} {S : St} (hI : MI F A S) (hS : SV S) : ∃ F' A', f_X4_restore (some 1617) (mset h F A) = some (some (vI (a_restore S).1), mset h F' A') ∧ MI F' A' (a_restore S).2 := by
  obtain ⟨i1, i2, i3, i4, i5, i6, i7, i8⟩ := id hI
  obtain ⟨s1, s2, s3, s4, s5, s6⟩ := id hS
  unfold f_X4_restore a_restore
  rw [m_gi4 hL, i5, ite_bI]
  cases hv : S.sv with
  | none => exact ⟨F, A, rfl, hI⟩
  | some G =>
    obtain ⟨x, P, r1, r2⟩ := m_record hL hI hS
    obtain ⟨j1, j2, j3, j4, j5, j6, j7, j8⟩ := id r2
    have hG := s4 G hv
    refine ⟨up F 2 x, upA (upA A 1 P) 0 (cpo (upA A 1 P 0) 0 291 (upA A 1 P 3)), ?_, r2.z (MZ.cong hG (j6 G hv) ?_)⟩
    · simp only [Option.isSome_some, if_true]
      rw [m_cv hL r1]
      refine (congrArg (fun B => f_X4_restore_16 FUEL (some 1617) 0 (mset h (up F 2 x) B)) (by rw [cpo_0, upA_self] : upA A 1 P = upA (upA A 1 P) 0 (cpo (upA A 1 P 0) 0 0 (upA A 1 P 3)))).trans ?_
      refine loopE 291 (fun n i => f_X4_restore_16 n (some 1617) (nI i) (mset h (up F 2 x) (upA (upA A 1 P) 0 (cpo (upA A 1 P 0) 0 i (upA A 1 P 3))))) _ ?_ ?_ 0 FUEL (by omega) (by simp only [FUEL]; omega)
      · intro n
        rw [f_X4_restore_16_s]
        simp (disch := omega) only [li0, li1, li2, li3, li4, li5, li7, li8, li9, li10, li11, li12, li46, li47, li80, li100, li144, li147, li255, li256, li291, li1164, m_tag hL, m_gr0 hL, m_gr1 hL, m_gr3 hL, m_gr5 hL, m_gr7 hL, m_gr8 hL, m_gr9 hL, m_gr10 hL, m_gr11 hL, m_gr13 hL, m_gr14 hL, m_gr15 hL, m_gr16 hL, m_gr17 hL, m_gi2 hL, m_gi4 hL, m_gi6 hL, m_gi12 hL, m_gi18 hL, m_gi19 hL, m_gi20 hL, m_gi21 hL, m_ld0 hL, m_ld1 hL, m_ld3 hL, m_ld5 hL, m_ld7 hL, m_ld8 hL, m_ld9 hL, m_ld10 hL, m_ld11 hL, m_ld13 hL, m_ld14 hL, m_ld15 hL, m_ld16 hL, m_ld17 hL, m_pf2 hL, m_pf4 hL, m_pf6 hL, m_pf12 hL, m_pf18 hL, m_pf19 hL, m_pf20 hL, m_pf21 hL, m_st0 hL, m_st1 hL, m_st3 hL, m_st5 hL, m_st7 hL, m_st8 hL, m_st9 hL, m_st10 hL, m_st11 hL, m_st13 hL, m_st14 hL, m_st15 hL, m_st16 hL, m_st17 hL, nI_add, pk_mul, pk_sub, nI_le', nI_lt', nI_eq', nI_m6, nI_neg, pk_div, pk_rem, idiv_nI, irem_nI, ite_bI, ite_bIn, ite_bI1, ite_bI1n, retz_bI, retz_0, retz_1, retz_0n, retz_1n, o_let_eq, decide_eq_true_eq, ite_retI, bI_ite, if_true, if_false, if_pos, if_neg]
        rw [m_ci hL (m_land hL (G := G) (MZ.cong hG (j6 G hv) (fun j hj => ?_)) hG)]
        · rfl
        · rw [upA_s, cpo_in (by omega)]; rfl
      · intro i n hi hk
        rw [f_X4_restore_16_s, ← hk]
        simp (disch := omega) only [li0, li1, li2, li3, li4, li5, li7, li8, li9, li10, li11, li12, li46, li47, li80, li100, li144, li147, li255, li256, li291, li1164, m_tag hL, m_gr0 hL, m_gr1 hL, m_gr3 hL, m_gr5 hL, m_gr7 hL, m_gr8 hL, m_gr9 hL, m_gr10 hL, m_gr11 hL, m_gr13 hL, m_gr14 hL, m_gr15 hL, m_gr16 hL, m_gr17 hL, m_gi2 hL, m_gi4 hL, m_gi6 hL, m_gi12 hL, m_gi18 hL, m_gi19 hL, m_gi20 hL, m_gi21 hL, m_ld0 hL, m_ld1 hL, m_ld3 hL, m_ld5 hL, m_ld7 hL, m_ld8 hL, m_ld9 hL, m_ld10 hL, m_ld11 hL, m_ld13 hL, m_ld14 hL, m_ld15 hL, m_ld16 hL, m_ld17 hL, m_pf2 hL, m_pf4 hL, m_pf6 hL, m_pf12 hL, m_pf18 hL, m_pf19 hL, m_pf20 hL, m_pf21 hL, m_st0 hL, m_st1 hL, m_st3 hL, m_st5 hL, m_st7 hL, m_st8 hL, m_st9 hL, m_st10 hL, m_st11 hL, m_st13 hL, m_st14 hL, m_st15 hL, m_st16 hL, m_st17 hL, nI_add, pk_mul, pk_sub, nI_le', nI_lt', nI_eq', nI_m6, nI_neg, pk_div, pk_rem, idiv_nI, irem_nI, ite_bI, ite_bIn, ite_bI1, ite_bI1n, retz_bI, retz_0, retz_1, retz_0n, retz_1n, o_let_eq, decide_eq_true_eq, ite_retI, bI_ite, if_true, if_false, if_pos, if_neg, upA_s, upA_upA]
        rw [upA_n (A := upA A 1 P) (j := 3) (by omega), cpo_up0]
    · intro j hj
      rw [cpo_in (by omega)]; rfl
theorem cpo_upN {P : Nat → Int32} {o i k : Nat} {f : Nat → Int32} {x : Int32} (h : ¬ (o ≤ k ∧ k < o + i)) : up (cpo P o i f) k x = cpo (up P k x) o i f := by
  funext j
  show (if j = k then x else if o ≤ j ∧ j < o + i then f (j - o) else P j) = if o ≤ j ∧ j < o + i then f (j - o) else (if j = k then x else P j)
  by_cases e : j = k
  · subst e; rw [if_pos rfl, if_neg h, if_pos rfl]
  · rw [if_neg e, if_neg e]
def newG (R C : Nat) (o : Bool) : Gr := (R, C, o, fun _ => false, fun _ => -6)
theorem newG_GV {R C : Nat} (o : Bool) (h1 : 1 ≤ R ∧ R ≤ 12) (h2 : 1 ≤ C ∧ C ≤ 12) : GV (newG R C o) := by
  refine ⟨⟨h1.1, h1.2, h2.1, h2.2, Nat.mul_le_mul h2.2 h1.2, Nat.mul_le_mul h2.1 h1.1⟩, fun k _ => .inl rfl⟩
def wat (z : Nat → Int32) : Nat → Int32 := cpo (cpo z 3 144 (fun _ => 0)) 147 144 (fun _ => -6)
theorem wat_step (z : Nat → Int32) {i : Nat} (hi : i < 144) : up (up (cpo (cpo z 3 i (fun _ => 0)) 147 i (fun _ => -6)) (3 + i) (nI 0)) (147 + i) (-6) = cpo (cpo z 3 (i + 1) (fun _ => 0)) 147 (i + 1) (fun _ => -6) := by
  rw [cpo_upN (by omega)]
  have e := cpo_up z 3 i (fun _ => 0)
  rw [← e]
  exact cpo_up _ 147 i (fun _ => -6)
theorem m_water {h : AH} (hL : 608 ≤ h.length) {F : Nat → Int32} {A : Nat → Nat → Int32} : f_X4_water (some 1617) (mset h F A) = some (none, mset h F (upA A 0 (wat (A 0)))) := by
  unfold f_X4_water
  refine (congrArg (fun B => f_X4_water_2 FUEL (some 1617) 0 (mset h F B)) (by rw [cpo_0, cpo_0, upA_self] : A = upA A 0 (cpo (cpo (A 0) 3 0 (fun _ => 0)) 147 0 (fun _ => -6)))).trans ?_
  refine loopE 144 (fun n i => f_X4_water_2 n (some 1617) (nI i) (mset h F (upA A 0 (cpo (cpo (A 0) 3 i (fun _ => 0)) 147 i (fun _ => -6))))) _ ?_ ?_ 0 FUEL (by omega) (by simp only [FUEL]; omega)
  · intro n
    rw [f_X4_water_2_s]
    simp (disch := omega) only [li0, li1, li2, li3, li4, li5, li7, li8, li9, li10, li11, li12, li46, li47, li80, li100, li144, li147, li255, li256, li291, li1164, m_tag hL, m_gr0 hL, m_gr1 hL, m_gr3 hL, m_gr5 hL, m_gr7 hL, m_gr8 hL, m_gr9 hL, m_gr10 hL, m_gr11 hL, m_gr13 hL, m_gr14 hL, m_gr15 hL, m_gr16 hL, m_gr17 hL, m_gi2 hL, m_gi4 hL, m_gi6 hL, m_gi12 hL, m_gi18 hL, m_gi19 hL, m_gi20 hL, m_gi21 hL, m_ld0 hL, m_ld1 hL, m_ld3 hL, m_ld5 hL, m_ld7 hL, m_ld8 hL, m_ld9 hL, m_ld10 hL, m_ld11 hL, m_ld13 hL, m_ld14 hL, m_ld15 hL, m_ld16 hL, m_ld17 hL, m_pf2 hL, m_pf4 hL, m_pf6 hL, m_pf12 hL, m_pf18 hL, m_pf19 hL, m_pf20 hL, m_pf21 hL, m_st0 hL, m_st1 hL, m_st3 hL, m_st5 hL, m_st7 hL, m_st8 hL, m_st9 hL, m_st10 hL, m_st11 hL, m_st13 hL, m_st14 hL, m_st15 hL, m_st16 hL, m_st17 hL, nI_add, pk_mul, pk_sub, nI_le', nI_lt', nI_eq', nI_m6, nI_neg, pk_div, pk_rem, idiv_nI, irem_nI, ite_bI, ite_bIn, ite_bI1, ite_bI1n, retz_bI, retz_0, retz_1, retz_0n, retz_1n, o_let_eq, decide_eq_true_eq, ite_retI, bI_ite, if_true, if_false, if_pos, if_neg]
    rfl
  · intro i n hi hk
    rw [f_X4_water_2_s, ← hk]
    simp (disch := omega) only [li0, li1, li2, li3, li4, li5, li7, li8, li9, li10, li11, li12, li46, li47, li80, li100, li144, li147, li255, li256, li291, li1164, m_tag hL, m_gr0 hL, m_gr1 hL, m_gr3 hL, m_gr5 hL, m_gr7 hL, m_gr8 hL, m_gr9 hL, m_gr10 hL, m_gr11 hL, m_gr13 hL, m_gr14 hL, m_gr15 hL, m_gr16 hL, m_gr17 hL, m_gi2 hL, m_gi4 hL, m_gi6 hL, m_gi12 hL, m_gi18 hL, m_gi19 hL, m_gi20 hL, m_gi21 hL, m_ld0 hL, m_ld1 hL, m_ld3 hL, m_ld5 hL, m_ld7 hL, m_ld8 hL, m_ld9 hL, m_ld10 hL, m_ld11 hL, m_ld13 hL, m_ld14 hL, m_ld15 hL, m_ld16 hL, m_ld17 hL, m_pf2 hL, m_pf4 hL, m_pf6 hL, m_pf12 hL, m_pf18 hL, m_pf19 hL, m_pf20 hL, m_pf21 hL, m_st0 hL, m_st1 hL, m_st3 hL, m_st5 hL, m_st7 hL, m_st8 hL, m_st9 hL, m_st10 hL, m_st11 hL, m_st13 hL, m_st14 hL, m_st15 hL, m_st16 hL, m_st17 hL, nI_add, pk_mul, pk_sub, nI_le', nI_lt', nI_eq', nI_m6, nI_neg, pk_div, pk_rem, idiv_nI, irem_nI, ite_bI, ite_bIn, ite_bI1, ite_bI1n, retz_bI, retz_0, retz_1, retz_0n, retz_1n, o_let_eq, decide_eq_true_eq, ite_retI, bI_ite, if_true, if_false, if_pos, if_neg, upA_s, upA_upA]
    exact congrArg (fun q => f_X4_water_2 n (some 1617) (nI (i + 1)) (mset h F (upA A 0 q))) (wat_step (A 0) (by omega))
theorem wat_MZ {z : Nat → Int32} {R C : Nat} {o : Bool} (hN : C * R ≤ 144) (h0 : z 0 = nI R) (h1 : z 1 = nI C) (h2 : z 2 = bI o) : MZ (wat z) (newG R C o) := by
  refine ⟨h0, h1, h2, fun k hk => ?_⟩
  have hk' : k < C * R := hk
  constructor
  · show cpo _ _ _ _ _ = _
    rw [cpo_out (by omega), cpo_in (by omega)]; rfl
  · show cpo _ _ _ _ _ = _
    rw [cpo_in (by omega)]; rfl
def in12 (x : Int32) : Bool := decide (1 ≤ x.toInt ∧ x.toInt ≤ 12)
theorem in12_ex {x : Int32} (h : in12 x = true) : ∃ n, (1 ≤ n ∧ n ≤ 12) ∧ x = nI n := by
  have := of_decide_eq_true h
  exact ⟨x.toInt.toNat, by omega, nI_toNat (by omega)⟩
def a_begin (S : St) (x y : Int32) : Int32 × St :=
  if in12 x && in12 y then (nI (nat x * nat y), setg (reco S) (newG (nat x) (nat y) S.g.o)) else (-2, S)
theorem a_begin_SV {S : St} (hS : SV S) (x y : Int32) : SV (a_begin S x y).2 := by
  unfold a_begin
  split
  · rename_i h
    rw [Bool.and_eq_true] at h
    obtain ⟨a, ha, rfl⟩ := in12_ex h.1
    obtain ⟨b, hb, rfl⟩ := in12_ex h.2
    rw [nat_nI (by omega), nat_nI (by omega)]
    exact setg_SV (reco_SV hS) (newG_GV _ ha hb)
  · exact hS
theorem m_begin {h : AH} (hL : 608 ≤ h.length) {F : Nat → Int32} {A : Nat → Nat → Int32} {S : St} (hI : MI F A S) (hS : SV S) (x y : Int32) : ∃ F' A', f_X4_begin (some 1617) x y (mset h F A) = some (some (vI (a_begin S x y).1), mset h F' A') ∧ MI F' A' (a_begin S x y).2 := by
  unfold f_X4_begin a_begin
  rw [o_ci_eq (m_in _ _ _ _), ite_bI]
  simp only [decide_eq_true_eq, ti1, ti12]
  by_cases hx : in12 x = true
  · rw [if_pos (of_decide_eq_true hx), o_ci_eq (m_in _ _ _ _), ite_bI]
    simp only [decide_eq_true_eq, ti1, ti12]
    by_cases hy : in12 y = true
    · rw [if_pos (of_decide_eq_true hy), if_pos (by rw [hx, hy]; rfl)]
      obtain ⟨a, ha, rfl⟩ := in12_ex hx
      obtain ⟨b, hb, rfl⟩ := in12_ex hy
      rw [nat_nI (by omega), nat_nI (by omega)]
      obtain ⟨u, P, r1, r2⟩ := m_record hL hI hS
      have hz : MZ (wat (up (up (A 0) 0 (nI a)) 1 (nI b))) (newG a b S.g.o) := wat_MZ (mul_le144 ha.2 hb.2) (by rw [up_n (by omega), up_s]) (by rw [up_s]) (by rw [up_n (by omega), up_n (by omega)]; exact hI.1.2.2.1)
      refine ⟨up F 2 u, upA (upA A 1 P) 0 (wat (up (up (A 0) 0 (nI a)) 1 (nI b))), ?_, r2.z hz⟩
      rw [m_cv hL r1]
      simp (disch := omega) only [li0, li1, li2, li3, li4, li5, li7, li8, li9, li10, li11, li12, li46, li47, li80, li100, li144, li147, li255, li256, li291, li1164, m_tag hL, m_gr0 hL, m_gr1 hL, m_gr3 hL, m_gr5 hL, m_gr7 hL, m_gr8 hL, m_gr9 hL, m_gr10 hL, m_gr11 hL, m_gr13 hL, m_gr14 hL, m_gr15 hL, m_gr16 hL, m_gr17 hL, m_gi2 hL, m_gi4 hL, m_gi6 hL, m_gi12 hL, m_gi18 hL, m_gi19 hL, m_gi20 hL, m_gi21 hL, m_ld0 hL, m_ld1 hL, m_ld3 hL, m_ld5 hL, m_ld7 hL, m_ld8 hL, m_ld9 hL, m_ld10 hL, m_ld11 hL, m_ld13 hL, m_ld14 hL, m_ld15 hL, m_ld16 hL, m_ld17 hL, m_pf2 hL, m_pf4 hL, m_pf6 hL, m_pf12 hL, m_pf18 hL, m_pf19 hL, m_pf20 hL, m_pf21 hL, m_st0 hL, m_st1 hL, m_st3 hL, m_st5 hL, m_st7 hL, m_st8 hL, m_st9 hL, m_st10 hL, m_st11 hL, m_st13 hL, m_st14 hL, m_st15 hL, m_st16 hL, m_st17 hL, nI_add, pk_mul, pk_sub, nI_le', nI_lt', nI_eq', nI_m6, nI_neg, pk_div, pk_rem, idiv_nI, irem_nI, ite_bI, ite_bIn, ite_bI1, ite_bI1n, retz_bI, retz_0, retz_1, retz_0n, retz_1n, o_let_eq, decide_eq_true_eq, ite_retI, bI_ite, if_true, if_false, upA_s, upA_upA, m_cv hL (m_water hL)]
      rw [upA_n (A := A) (by omega), m_ci hL (m_tiles hL (G := newG a b S.g.o) (by rw [upA_s]; exact hz) (newG_GV _ ha hb))]
      show some (some (vI (nI (b * a))), _) = _
      rw [Nat.mul_comm b a]
    · rw [if_neg (fun q => hy (decide_eq_true q)), if_neg (by rw [hx]; simpa using hy)]
      exact ⟨F, A, rfl, hI⟩
  · rw [if_neg (fun q => hx (decide_eq_true q)), if_neg (by simp [hx])]
    exact ⟨F, A, rfl, hI⟩
theorem m_lookShapes {h : AH} (hL : 608 ≤ h.length) {F : Nat → Int32} {A : Nat → Nat → Int32} {G : Gr} (hz : MZ (A 0) G) (hG : GV G) (hm : MC A) : f_X4_lookShapes (some 1617) (mset h F A) = some (none, mset h F (upA A 9 (cpo (A 9) 0 G.N (sha G)))) := by
  obtain ⟨z0, z1, z2, z3⟩ := id hz
  obtain ⟨⟨g1, g2, g3, g4, g5, g6⟩, g7⟩ := id hG
  unfold f_X4_lookShapes
  refine (congrArg (fun B => f_X4_lookShapes_2 FUEL (some 1617) 0 (mset h F B)) (by rw [cpo_0, upA_self] : A = upA A 9 (cpo (A 9) 0 0 (sha G)))).trans ?_
  refine loopE G.N (fun n i => f_X4_lookShapes_2 n (some 1617) (nI i) (mset h F (upA A 9 (cpo (A 9) 0 i (sha G))))) _ ?_ ?_ 0 FUEL (by omega) (by simp only [FUEL]; omega)
  · intro n
    rw [f_X4_lookShapes_2_s]
    simp (disch := omega) only [li0, li1, li2, li3, li4, li5, li7, li8, li9, li10, li11, li12, li46, li47, li80, li100, li144, li147, li255, li256, li291, li1164, m_tag hL, m_gr0 hL, m_gr1 hL, m_gr3 hL, m_gr5 hL, m_gr7 hL, m_gr8 hL, m_gr9 hL, m_gr10 hL, m_gr11 hL, m_gr13 hL, m_gr14 hL, m_gr15 hL, m_gr16 hL, m_gr17 hL, m_gi2 hL, m_gi4 hL, m_gi6 hL, m_gi12 hL, m_gi18 hL, m_gi19 hL, m_gi20 hL, m_gi21 hL, m_ld0 hL, m_ld1 hL, m_ld3 hL, m_ld5 hL, m_ld7 hL, m_ld8 hL, m_ld9 hL, m_ld10 hL, m_ld11 hL, m_ld13 hL, m_ld14 hL, m_ld15 hL, m_ld16 hL, m_ld17 hL, m_pf2 hL, m_pf4 hL, m_pf6 hL, m_pf12 hL, m_pf18 hL, m_pf19 hL, m_pf20 hL, m_pf21 hL, m_st0 hL, m_st1 hL, m_st3 hL, m_st5 hL, m_st7 hL, m_st8 hL, m_st9 hL, m_st10 hL, m_st11 hL, m_st13 hL, m_st14 hL, m_st15 hL, m_st16 hL, m_st17 hL, nI_add, pk_mul, pk_sub, nI_le', nI_lt', nI_eq', nI_m6, nI_neg, pk_div, pk_rem, idiv_nI, irem_nI, ite_bI, ite_bIn, ite_bI1, ite_bI1n, retz_bI, retz_0, retz_1, retz_0n, retz_1n, o_let_eq, decide_eq_true_eq, ite_retI, bI_ite, if_true, if_false, if_pos, if_neg, m_ci hL (m_tiles hL (A := upA A 9 _) hz hG)]
  · intro i n hi hk
    rw [f_X4_lookShapes_2_s, ← hk]
    simp (disch := omega) only [li0, li1, li2, li3, li4, li5, li7, li8, li9, li10, li11, li12, li46, li47, li80, li100, li144, li147, li255, li256, li291, li1164, m_tag hL, m_gr0 hL, m_gr1 hL, m_gr3 hL, m_gr5 hL, m_gr7 hL, m_gr8 hL, m_gr9 hL, m_gr10 hL, m_gr11 hL, m_gr13 hL, m_gr14 hL, m_gr15 hL, m_gr16 hL, m_gr17 hL, m_gi2 hL, m_gi4 hL, m_gi6 hL, m_gi12 hL, m_gi18 hL, m_gi19 hL, m_gi20 hL, m_gi21 hL, m_ld0 hL, m_ld1 hL, m_ld3 hL, m_ld5 hL, m_ld7 hL, m_ld8 hL, m_ld9 hL, m_ld10 hL, m_ld11 hL, m_ld13 hL, m_ld14 hL, m_ld15 hL, m_ld16 hL, m_ld17 hL, m_pf2 hL, m_pf4 hL, m_pf6 hL, m_pf12 hL, m_pf18 hL, m_pf19 hL, m_pf20 hL, m_pf21 hL, m_st0 hL, m_st1 hL, m_st3 hL, m_st5 hL, m_st7 hL, m_st8 hL, m_st9 hL, m_st10 hL, m_st11 hL, m_st13 hL, m_st14 hL, m_st15 hL, m_st16 hL, m_st17 hL, nI_add, pk_mul, pk_sub, nI_le', nI_lt', nI_eq', nI_m6, nI_neg, pk_div, pk_rem, idiv_nI, irem_nI, ite_bI, ite_bIn, ite_bI1, ite_bI1n, retz_bI, retz_0, retz_1, retz_0n, retz_1n, o_let_eq, decide_eq_true_eq, ite_retI, bI_ite, if_true, if_false, if_pos, if_neg, m_ci hL (m_tiles hL (A := upA A 9 _) hz hG), m_ci hL (m_shapeAt hL (A := upA A 9 _) hz hG hm hi), upA_s, upA_upA]
    rw [cpo_up0]
/-- how many tiles are land in both and have other shapes -/
def dif (G G' : Gr) : Int32 := sm (fun k => if G.l k = true ∧ G'.l k = true ∧ sha G' k ≠ sha G k then nI 1 else nI 0) G'.N
theorem m_reshaped {h : AH} (hL : 608 ≤ h.length) {F : Nat → Int32} {A : Nat → Nat → Int32} {G : Gr} (hz : MZ (A 0) G) (hG : GV G) (hm : MC A) {G0 : Gr} (hG0 : GV G0) (hN : G0.N = G.N) (hb : ∀ k, k < G.N → A 9 k = sha G0 k) : f_X4_reshaped (some 1617) (mset h F A) = some (some (vI (dif G0 G)), mset h F A) := by
  obtain ⟨z0, z1, z2, z3⟩ := id hz
  obtain ⟨⟨g1, g2, g3, g4, g5, g6⟩, g7⟩ := id hG
  unfold f_X4_reshaped
  refine loopE G.N (fun n i => f_X4_reshaped_4 n (some 1617) (sm (fun k => if G0.l k = true ∧ G.l k = true ∧ sha G k ≠ sha G0 k then nI 1 else nI 0) i) (nI i) (mset h F A)) _ ?_ ?_ 0 FUEL (by omega) (by simp only [FUEL]; omega)
  · intro n
    rw [f_X4_reshaped_4_s]
    simp (disch := omega) only [li0, li1, li2, li3, li4, li5, li7, li8, li9, li10, li11, li12, li46, li47, li80, li100, li144, li147, li255, li256, li291, li1164, m_tag hL, m_gr0 hL, m_gr1 hL, m_gr3 hL, m_gr5 hL, m_gr7 hL, m_gr8 hL, m_gr9 hL, m_gr10 hL, m_gr11 hL, m_gr13 hL, m_gr14 hL, m_gr15 hL, m_gr16 hL, m_gr17 hL, m_gi2 hL, m_gi4 hL, m_gi6 hL, m_gi12 hL, m_gi18 hL, m_gi19 hL, m_gi20 hL, m_gi21 hL, m_ld0 hL, m_ld1 hL, m_ld3 hL, m_ld5 hL, m_ld7 hL, m_ld8 hL, m_ld9 hL, m_ld10 hL, m_ld11 hL, m_ld13 hL, m_ld14 hL, m_ld15 hL, m_ld16 hL, m_ld17 hL, m_pf2 hL, m_pf4 hL, m_pf6 hL, m_pf12 hL, m_pf18 hL, m_pf19 hL, m_pf20 hL, m_pf21 hL, m_st0 hL, m_st1 hL, m_st3 hL, m_st5 hL, m_st7 hL, m_st8 hL, m_st9 hL, m_st10 hL, m_st11 hL, m_st13 hL, m_st14 hL, m_st15 hL, m_st16 hL, m_st17 hL, nI_add, pk_mul, pk_sub, nI_le', nI_lt', nI_eq', nI_m6, nI_neg, pk_div, pk_rem, idiv_nI, irem_nI, ite_bI, ite_bIn, ite_bI1, ite_bI1n, retz_bI, retz_0, retz_1, retz_0n, retz_1n, o_let_eq, decide_eq_true_eq, ite_retI, bI_ite, if_true, if_false, if_pos, if_neg, m_ci hL (m_tiles hL hz hG)]
    rfl
  · intro i n hi hk
    have e6 : (sha G0 i = -6) = (G0.l i = false) := by
      apply propext
      constructor
      · intro h
        cases hq : G0.l i with
        | false => rfl
        | true =>
          obtain ⟨s, hs, e⟩ := sha_ok hG0 (k := i) (by omega) hq
          rw [e, nI_m6 (by omega)] at h
          exact h.elim
      · intro h
        unfold sha; rw [h]; rfl
    rw [f_X4_reshaped_4_s, ← hk, sm]
    simp (disch := omega) only [li0, li1, li2, li3, li4, li5, li7, li8, li9, li10, li11, li12, li46, li47, li80, li100, li144, li147, li255, li256, li291, li1164, m_tag hL, m_gr0 hL, m_gr1 hL, m_gr3 hL, m_gr5 hL, m_gr7 hL, m_gr8 hL, m_gr9 hL, m_gr10 hL, m_gr11 hL, m_gr13 hL, m_gr14 hL, m_gr15 hL, m_gr16 hL, m_gr17 hL, m_gi2 hL, m_gi4 hL, m_gi6 hL, m_gi12 hL, m_gi18 hL, m_gi19 hL, m_gi20 hL, m_gi21 hL, m_ld0 hL, m_ld1 hL, m_ld3 hL, m_ld5 hL, m_ld7 hL, m_ld8 hL, m_ld9 hL, m_ld10 hL, m_ld11 hL, m_ld13 hL, m_ld14 hL, m_ld15 hL, m_ld16 hL, m_ld17 hL, m_pf2 hL, m_pf4 hL, m_pf6 hL, m_pf12 hL, m_pf18 hL, m_pf19 hL, m_pf20 hL, m_pf21 hL, m_st0 hL, m_st1 hL, m_st3 hL, m_st5 hL, m_st7 hL, m_st8 hL, m_st9 hL, m_st10 hL, m_st11 hL, m_st13 hL, m_st14 hL, m_st15 hL, m_st16 hL, m_st17 hL, nI_add, pk_mul, pk_sub, nI_le', nI_lt', nI_eq', nI_m6, nI_neg, pk_div, pk_rem, idiv_nI, irem_nI, ite_bI, ite_bIn, ite_bI1, ite_bI1n, retz_bI, retz_0, retz_1, retz_0n, retz_1n, o_let_eq, decide_eq_true_eq, ite_retI, bI_ite, if_true, if_false, m_ci hL (m_tiles hL hz hG), m_ci hL (m_isLandAt hL hz hG hi), m_ci hL (m_shapeAt hL hz hG hm hi), hb i hi, e6, f_X4_reshaped_50, f_X4_reshaped_51]
    rw [if_neg (by omega)]
    cases G0.l i
    · simp
    · cases G.l i
      · simp
      · by_cases q : sha G i = sha G0 i
        · simp [q]
        · simp [q]
