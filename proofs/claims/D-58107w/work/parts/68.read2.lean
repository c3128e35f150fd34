set_option maxRecDepth 100000
/-! the model's errorPosition and read -/
theorem RV0 : RV rs0 := ⟨by show 0 ≤ 11; omega, by show 0 ≤ 12; omega, Nat.zero_le _, by show 0 ≤ 12; omega⟩
theorem m_errL {h : AH} (hL : 608 ≤ h.length) {S : St} (hS : SV S) : ∀ (l : List Nat) (k : Nat) (s : RS) (n : Nat) (F : Nat → Int32) (A : Nat → Nat → Int32), S.tx.drop k = l → k ≤ S.tx.length → l.length < n → MI F A S → RM s F A → RV s →
    ∃ (F' : Nat → Int32) (A' : Nat → Nat → Int32), f_X4_errorPosition_22 n (some 1617) (nI k) (mset h F A) = some (some (vI (rdE l k s).1), mset h F' A') ∧ FrR F A F' A' ∧ ((rdE l k s).1 = -6 → RM (rdE l k s).2 F' A' ∧ RV (rdE l k s).2 ∧ (rdE l k s).2.whole = true)
  | l, k, s, 0, F, A, hd, hk, hn, hI, hM, hV => absurd hn (by omega)
  | [], k, s, n + 1, F, A, hd, hk, hn, hI, hM, hV => by
    obtain ⟨s1, s2, s3, s4, s5, s6⟩ := id hS
    have hkl : k = S.tx.length := by
      have := congrArg List.length hd
      simp at this; omega
    refine ⟨F, A, ?_, FrR.rfl' F A, ?_⟩
    · rw [f_X4_errorPosition_22_s]
      simp only
      rw [m_gi6 hL, hI.2.2.2.2.2.2.1, ← hkl, if_pos (nI_le (Nat.le_refl _) (by omega)), m_ci hL (m_isRowWhole hL hM hV), ite_bI, m_gi6 hL, hI.2.2.2.2.2.2.1, ← hkl]
      unfold rdE
      split <;> rfl
    · intro e
      refine ⟨hM, hV, ?_⟩
      unfold rdE at e ⊢
      simp only at e ⊢
      by_cases w : s.whole = true
      · exact w
      · rw [if_neg w, nI_m6 (by omega)] at e
        exact e.elim
  | c :: t, k, s, n + 1, F, A, hd, hk, hn, hI, hM, hV => by
    obtain ⟨s1, s2, s3, s4, s5, s6⟩ := id hS
    have hkl : k < S.tx.length := by
      have := congrArg List.length hd
      simp at this; omega
    have hc : S.tx[k]? = some c := by
      have := congrArg (fun l => l[0]?) hd
      simpa using this
    have hcb := s6 c (List.mem_of_getElem? hc)
    obtain ⟨F1, A1, r1, r2, r3⟩ := m_readOne hL hM hV (c := c) (by omega)
    rw [f_X4_errorPosition_22_s]
    simp only
    rw [m_gi6 hL, hI.2.2.2.2.2.2.1, if_neg (nI_ge hkl (by omega)), m_gr5 hL, m_ld5 hL (by omega), hI.2.2.2.2.2.2.2 k c hc, m_ci hL r1, ite_bI, o_let_eq, li1, nI_add]
    unfold rdE
    cases hs : rstep s c with
    | none =>
      refine ⟨F1, A1, rfl, r2, fun e => ?_⟩
      simp only at e
      rw [nI_m6 (by omega)] at e
      exact e.elim
    | some s' =>
      have hd2 : S.tx.drop (k + 1) = t := by
        have := congrArg List.tail hd
        simpa using this
      obtain ⟨F2, A2, e1, e2, e3⟩ := m_errL hL hS t (k + 1) s' n F1 A1 hd2 (by omega) (by simp at hn; omega) (r2.MI hI) (r3 s' hs) (rstep_RV hV hs)
      exact ⟨F2, A2, e1, r2.trans e2, e3⟩
def a_errpos (S : St) : Int32 := (rdE S.tx 0 rs0).1
theorem m_errpos' {h : AH} (hL : 608 ≤ h.length) {F : Nat → Int32} {A : Nat → Nat → Int32} {S : St} (hI : MI F A S) (hS : SV S) : ∃ (F' : Nat → Int32) (A' : Nat → Nat → Int32), f_X4_errorPosition (some 1617) (mset h F A) = some (some (vI (a_errpos S)), mset h F' A') ∧ MI F' A' S ∧ (a_errpos S = -6 → RM (rdE S.tx 0 rs0).2 F' A' ∧ RV (rdE S.tx 0 rs0).2 ∧ (rdE S.tx 0 rs0).2.whole = true) := by
  obtain ⟨s1, s2, s3, s4, s5, s6⟩ := id hS
  unfold f_X4_errorPosition
  rw [m_pf18 hL, m_pf19 hL, m_pf20 hL, m_pf21 hL]
  have hf : FrR F A (up (up (up (up F 18 0) 19 0) 20 0) 21 0) A := ⟨fun k hk => by rw [up_n (by omega), up_n (by omega), up_n (by omega), up_n (by omega)], fun k _ => rfl⟩
  have h0 : RM rs0 (up (up (up (up F 18 0) 19 0) 20 0) 21 0) A := by
    refine ⟨rfl, rfl, rfl, rfl, fun t ht => ?_⟩
    have ht : (t / 12 < 0 ∧ t % 12 < 0) ∨ (t / 12 = 0 ∧ t % 12 < 0) := ht
    omega
  obtain ⟨F', A', e1, e2, e3⟩ := m_errL hL hS S.tx 0 rs0 FUEL (up (up (up (up F 18 0) 19 0) 20 0) 21 0) A (by simp) (Nat.zero_le _) (by simp only [FUEL]; omega) (hf.MI hI) h0 RV0
  exact ⟨F', A', e1, e2.MI (hf.MI hI), e3⟩
theorem m_errpos {h : AH} (hL : 608 ≤ h.length) {F : Nat → Int32} {A : Nat → Nat → Int32} {S : St} (hI : MI F A S) (hS : SV S) : ∃ (F' : Nat → Int32) (A' : Nat → Nat → Int32), f_X4_errorPosition (some 1617) (mset h F A) = some (some (vI (a_errpos S)), mset h F' A') ∧ MI F' A' S := by
  obtain ⟨F', A', e1, e2, _⟩ := m_errpos' hL hI hS
  exact ⟨F', A', e1, e2⟩
def rdG (s : RS) (o : Bool) : Gr := (s.rr + 1, s.ir, o, fun k => s.rd (12 * (k / s.ir) + k % s.ir), fun _ => -6)
def a_read (S : St) : Int32 × St := if a_errpos S = -6 then (lnd (rdG (rdE S.tx 0 rs0).2 S.g.o), (rdG (rdE S.tx 0 rs0).2 S.g.o, (reco S).hi, S.sv, [])) else (-5, S)
theorem whole_ir {s : RS} (h : s.whole = true) : s.nu = 0 ∧ 0 < s.ir ∧ (s.rr = 0 ∨ s.ir = s.rc) := of_decide_eq_true h
theorem rdG_GV {s : RS} (hV : RV s) (h : s.whole = true) (o : Bool) : GV (rdG s o) := by
  have hw := wid_le hV
  obtain ⟨v1, v2, v3, v4⟩ := hV
  have := whole_ir h
  have g1 : s.rr + 1 ≤ 12 := by omega
  have g2 : s.ir ≤ 12 := by omega
  exact ⟨⟨by show 1 ≤ s.rr + 1; omega, g1, this.2.1, g2, Nat.mul_le_mul g2 g1, Nat.mul_le_mul this.2.1 (show 1 ≤ s.rr + 1 by omega)⟩, fun k _ => .inl rfl⟩
theorem errpos_ok : ∀ (l : List Nat) (k : Nat) (s : RS), RV s → k + l.length < 1000 → (rdE l k s).1 = -6 → RV (rdE l k s).2 ∧ (rdE l k s).2.whole = true
  | [], k, s, hV, hk, e => by
    unfold rdE at e ⊢
    simp only at e ⊢
    refine ⟨hV, ?_⟩
    by_cases w : s.whole = true
    · exact w
    · rw [if_neg w, nI_m6 (by simp at hk; omega)] at e
      exact e.elim
  | c :: t, k, s, hV, hk, e => by
    unfold rdE at e ⊢
    cases hs : rstep s c with
    | none =>
      rw [hs] at e
      simp only at e
      rw [nI_m6 (by simp at hk; omega)] at e
      exact e.elim
    | some s' =>
      rw [hs] at e
      exact errpos_ok t (k + 1) s' (rstep_RV hV hs) (by simp at hk; omega) e
theorem a_read_SV {S : St} (hS : SV S) : SV (a_read S).2 := by
  obtain ⟨s1, s2, s3, s4, s5, s6⟩ := id hS
  unfold a_read
  split
  · rename_i h
    obtain ⟨e1, e2⟩ := errpos_ok S.tx 0 rs0 RV0 (by omega) h
    have := reco_SV hS
    exact ⟨rdG_GV e1 e2 _, this.2.1, this.2.2.1, s4, by show 0 ≤ 80; omega, fun c hc => by cases hc⟩
  · exact hS
theorem m_read {h : AH} (hL : 608 ≤ h.length) {F : Nat → Int32} {A : Nat → Nat → Int32} {S : St} (hI : MI F A S) (hS : SV S) : ∃ (F' : Nat → Int32) (A' : Nat → Nat → Int32), f_X4_read (some 1617) (mset h F A) = some (some (vI (a_read S).1), mset h F' A') ∧ MI F' A' (a_read S).2 := by
  obtain ⟨s1, s2, s3, s4, s5, s6⟩ := id hS
  unfold f_X4_read a_read
  obtain ⟨F1, A1, e1, e2, e3⟩ := m_errpos' hL hI hS
  rw [m_ci hL e1]
  by_cases h6 : a_errpos S = -6
  · rw [if_pos h6, if_pos h6]
    obtain ⟨hM, hV, hwh⟩ := e3 h6
    generalize (rdE S.tx 0 rs0).2 = s at hM hV hwh ⊢
    have hwi := whole_ir hwh
    have hG := rdG_GV hV hwh S.g.o
    have hw := wid_le hV
    obtain ⟨v1, v2, v3, v4⟩ := id hV
    obtain ⟨F2, f1, f2, f3⟩ := m_endRow hL hM hV hwi.2.2
    obtain ⟨u, P, r1, r2⟩ := m_record hL (f3.MI e2) hS
    obtain ⟨p1, p2, p3, p4, p5⟩ := id f2
    have q1 : up F2 2 u 18 = nI (s.rr + 1) := (up_n (by omega)).trans p1
    have q2 : up F2 2 u 19 = nI s.ir := (up_n (by omega)).trans p2
    have hN : s.ir * (s.rr + 1) ≤ 144 := hG.1.2.2.2.2.1
    rw [m_cv hL f1, m_cv hL r1, m_gr0 hL, m_gi18 hL, q1, li0, m_st0 hL (by omega), m_gr0 hL, m_gi19 hL, q2, li1, m_st0 hL (by omega), upA_s, upA_upA, m_cv hL (m_water hL), upA_s, upA_upA]
    have hz0 : MZ (wat (up (up (upA A1 1 P 0) 0 (nI (s.rr + 1))) 1 (nI s.ir))) (newG (s.rr + 1) s.ir S.g.o) := wat_MZ hN (by rw [up_n (by omega), up_s]) (by rw [up_s]) (by rw [up_n (by omega), up_n (by omega)]; exact r2.1.2.2.1)
    generalize wat (up (up (upA A1 1 P 0) 0 (nI (s.rr + 1))) 1 (nI s.ir)) = z0 at hz0 ⊢
    let Gi : Nat → Gr := fun i => (s.rr + 1, s.ir, S.g.o, fun k => if k < i then (rdG s S.g.o).l k else false, fun _ => -6)
    have main : ∃ z : Nat → Int32, f_X4_read_46 FUEL (some 1617) 0 (mset h (up F2 2 u) (upA (upA A1 1 P) 0 z0)) = some (some (vI (lnd (rdG s S.g.o))), mset h (up (up F2 2 u) 6 0) (upA (upA A1 1 P) 0 z)) ∧ MZ z (rdG s S.g.o) := by
      refine loop1 (σ := Nat → Int32) (s.ir * (s.rr + 1)) (fun n i z => f_X4_read_46 n (some 1617) (nI i) (mset h (up F2 2 u) (upA (upA A1 1 P) 0 z))) (fun i z => MZ z (Gi i))
        (fun res => ∃ z : Nat → Int32, res = some (some (vI (lnd (rdG s S.g.o))), mset h (up (up F2 2 u) 6 0) (upA (upA A1 1 P) 0 z)) ∧ MZ z (rdG s S.g.o)) ?_ ?_ 0 z0 FUEL (by omega) ?_ (by simp only [FUEL]; omega)
      · intro z n hz
        have hz' : MZ z (rdG s S.g.o) := by
          obtain ⟨z0, z1, z2, z3⟩ := hz
          refine ⟨z0, z1, z2, fun k hk => ⟨(z3 k hk).1.trans ?_, (z3 k hk).2⟩⟩
          have hk : k < s.ir * (s.rr + 1) := hk
          show bI (if k < s.ir * (s.rr + 1) then (rdG s S.g.o).l k else false) = _
          rw [if_pos hk]
        refine ⟨z, ?_, hz'⟩
        rw [f_X4_read_46_s]
        simp only
        rw [m_ci hL (x := nI (s.ir * (s.rr + 1))) (m_tiles hL (A := upA (upA A1 1 P) 0 z) hz' hG), if_pos (nI_le (Nat.le_refl _) (by omega)), m_pf6 hL, m_ci hL (m_land hL (A := upA (upA A1 1 P) 0 z) hz' hG)]
        rfl
      · intro i z n hi hz hk
        have hGi : GV (Gi i) := ⟨hG.1, fun k _ => .inl rfl⟩
        obtain ⟨a1, a2, a3⟩ := k_rc hi
        have hid : 12 * (i / s.ir) + i % s.ir < 144 := by omega
        have e17 : upA (upA A1 1 P) 0 z 17 (12 * (i / s.ir) + i % s.ir) = bI ((rdG s S.g.o).l i) := by
          have := p5 (12 * (i / s.ir) + i % s.ir) ?_
          · exact this
          · show ((12 * (i / s.ir) + i % s.ir) / 12 < s.rr + 1 ∧ (12 * (i / s.ir) + i % s.ir) % 12 < s.ir) ∨ _
            refine .inl ?_
            rw [rc_div (by omega), rc_mod (by omega)]
            exact ⟨a1, a2⟩
        rw [f_X4_read_46_s]
        simp only
        rw [m_ci hL (x := nI (s.ir * (s.rr + 1))) (m_tiles hL (A := upA (upA A1 1 P) 0 z) hz hGi), if_neg (nI_ge hi (by omega)), m_gr0 hL, m_gr17 hL, m_gi19 hL, q2, idiv_nI (by omega) (by omega) (by omega), m_gi19 hL, q2, irem_nI (by omega) (by omega) (by omega), li12, pk_mul, nI_add, m_ld17 hL hid, e17, li3, nI_add, m_st0 hL (by omega), o_let_eq, li1, nI_add, upA_s, upA_upA]
        refine hk _ ?_
        obtain ⟨z0, z1, z2, z3⟩ := hz
        refine ⟨(up_n (by omega)).trans z0, (up_n (by omega)).trans z1, (up_n (by omega)).trans z2, fun k hk => ?_⟩
        have hk2 : k < s.ir * (s.rr + 1) := hk
        constructor
        · show _ = bI (if k < i + 1 then (rdG s S.g.o).l k else false)
          by_cases e : k = i
          · subst e
            rw [up_s, if_pos (by omega)]
          · rw [up_n (by omega), (z3 k hk2).1]
            show bI (if k < i then (rdG s S.g.o).l k else false) = _
            by_cases e2 : k < i
            · rw [if_pos e2, if_pos (by omega)]
            · rw [if_neg e2, if_neg (by omega)]
        · rw [up_n (by omega)]; exact (z3 k hk2).2
      · obtain ⟨z0', z1', z2', z3'⟩ := hz0
        refine ⟨z0', z1', z2', fun k hk => ⟨(z3' k hk).1.trans ?_, (z3' k hk).2⟩⟩
        show bI false = bI (if k < 0 then (rdG s S.g.o).l k else false)
        rw [if_neg (by omega)]
    obtain ⟨z, g1, g2⟩ := main
    refine ⟨_, _, g1, ?_⟩
    obtain ⟨j1, j2, j3, j4, j5, j6, j7, j8⟩ := r2
    exact ⟨g2, j2, j3, j4, j5, j6, up_s _ _ _, fun i c hc => by cases hc⟩
  · rw [if_neg h6, if_neg h6]
    exact ⟨F1, A1, rfl, e2⟩
