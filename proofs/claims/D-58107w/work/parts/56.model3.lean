set_option maxRecDepth 100000
/-! the state of both sides; the model's record, undo, save, restore, begin, set .. -/
abbrev St : Type := Gr × List Gr × Option Gr × List Nat
abbrev St.g (S : St) : Gr := S.1
abbrev St.hi (S : St) : List Gr := S.2.1
abbrev St.sv (S : St) : Option Gr := S.2.2.1
abbrev St.tx (S : St) : List Nat := S.2.2.2
def SV (S : St) : Prop := GV S.g ∧ (∀ G, G ∈ S.hi → GV G) ∧ S.hi.length ≤ 5 ∧ (∀ G, S.sv = some G → GV G) ∧ S.tx.length ≤ 80 ∧ ∀ c, c ∈ S.tx → 33 ≤ c ∧ c ≤ 126
def MI (F : Nat → Int32) (A : Nat → Nat → Int32) (S : St) : Prop := MZ (A 0) S.g ∧ MC A ∧ F 2 = nI S.hi.length ∧ (∀ i G, S.hi[i]? = some G → MZ (fun j => A 1 (i * 291 + j)) G) ∧
  F 4 = bI S.sv.isSome ∧ (∀ G, S.sv = some G → MZ (A 3) G) ∧ F 6 = nI S.tx.length ∧ ∀ i c, S.tx[i]? = some c → A 5 i = nI c
theorem MI.scr {F F' : Nat → Int32} {A A' : Nat → Nat → Int32} {S : St} (h : MI F A S) (e2 : F' 2 = F 2) (e4 : F' 4 = F 4) (e6 : F' 6 = F 6)
    (a0 : A' 0 = A 0) (a1 : A' 1 = A 1) (a3 : A' 3 = A 3) (a5 : A' 5 = A 5) (a7 : A' 7 = A 7) (a8 : A' 8 = A 8) : MI F' A' S := by
  unfold MI MC
  rw [e2, e4, e6, a0, a1, a3, a5, a7, a8]
  exact h
theorem MZ.cong {z z' : Nat → Int32} {G : Gr} (hG : GV G) (h : MZ z G) (e : ∀ j, j < 291 → z' j = z j) : MZ z' G := by
  obtain ⟨z0, z1, z2, z3⟩ := h
  obtain ⟨⟨g1, g2, g3, g4, g5, g6⟩, g7⟩ := hG
  refine ⟨(e 0 (by omega)).trans z0, (e 1 (by omega)).trans z1, (e 2 (by omega)).trans z2, fun k hk => ⟨(e _ (by omega)).trans (z3 k hk).1, (e _ (by omega)).trans (z3 k hk).2⟩⟩
/-- f copied into P, i places from o on -/
def cpo (P : Nat → Int32) (o i : Nat) (f : Nat → Int32) : Nat → Int32 := fun j => if o ≤ j ∧ j < o + i then f (j - o) else P j
theorem cpo_0 (P : Nat → Int32) (o : Nat) (f : Nat → Int32) : cpo P o 0 f = P := by
  funext j; exact if_neg (by omega)
theorem cpo_up (P : Nat → Int32) (o i : Nat) (f : Nat → Int32) : up (cpo P o i f) (o + i) (f i) = cpo P o (i + 1) f := by
  funext j
  unfold up cpo
  by_cases e : j = o + i
  · subst e; rw [if_pos rfl, if_pos (by omega), show o + i - o = i by omega]
  · rw [if_neg e]
    by_cases e2 : o ≤ j ∧ j < o + i
    · rw [if_pos e2, if_pos (by omega)]
    · rw [if_neg e2, if_neg (by omega)]
theorem cpo_up0 (P : Nat → Int32) (i : Nat) (f : Nat → Int32) : up (cpo P 0 i f) i (f i) = cpo P 0 (i + 1) f := by
  have := cpo_up P 0 i f
  rwa [Nat.zero_add] at this
theorem cpo_in {P : Nat → Int32} {o i j : Nat} {f : Nat → Int32} (h : o ≤ j ∧ j < o + i) : cpo P o i f j = f (j - o) := if_pos h
theorem cpo_out {P : Nat → Int32} {o i j : Nat} {f : Nat → Int32} (h : ¬ (o ≤ j ∧ j < o + i)) : cpo P o i f j = P j := if_neg h
theorem upA_upA (A : Nat → Nat → Int32) (k : Nat) (f g : Nat → Int32) : upA (upA A k f) k g = upA A k g := by
  funext j; unfold upA; split <;> simp [*]
theorem upA_self (A : Nat → Nat → Int32) (k : Nat) : upA A k (A k) = A := by
  funext j; unfold upA; split <;> simp [*]
theorem up_up (F : Nat → Int32) (k : Nat) (x y : Int32) : up (up F k x) k y = up F k y := by
  funext j; unfold up; split <;> rfl
/-- the model's record -/
theorem m_record1 {h : AH} (hL : 608 ≤ h.length) {F : Nat → Int32} {A : Nat → Nat → Int32} {m : Nat} (hF : F 2 = nI m) (hm : m < 5) :
    f_X4_record_49 (some 1617) (mset h F A) = some (none, mset h (up F 2 (nI (m + 1))) (upA A 1 (cpo (A 1) (m * 291) 291 (A 0)))) := by
  unfold f_X4_record_49
  refine (congrArg (fun B => f_X4_record_51 FUEL (some 1617) 0 (mset h F B)) (by rw [cpo_0, upA_self] : A = upA A 1 (cpo (A 1) (m * 291) 0 (A 0)))).trans ?_
  refine loopE 291 (fun n i => f_X4_record_51 n (some 1617) (nI i) (mset h F (upA A 1 (cpo (A 1) (m * 291) i (A 0))))) _ ?_ ?_ 0 FUEL (by omega) (by simp only [FUEL]; omega)
  · intro n
    rw [f_X4_record_51_s]
    simp (disch := omega) only [li0, li1, li2, li3, li4, li5, li7, li8, li9, li10, li11, li12, li46, li47, li80, li100, li144, li147, li255, li256, li291, li1164, m_tag hL, m_gr0 hL, m_gr1 hL, m_gr3 hL, m_gr5 hL, m_gr7 hL, m_gr8 hL, m_gr9 hL, m_gr10 hL, m_gr11 hL, m_gr13 hL, m_gr14 hL, m_gr15 hL, m_gr16 hL, m_gr17 hL, m_gi2 hL, m_gi4 hL, m_gi6 hL, m_gi12 hL, m_gi18 hL, m_gi19 hL, m_gi20 hL, m_gi21 hL, m_ld0 hL, m_ld1 hL, m_ld3 hL, m_ld5 hL, m_ld7 hL, m_ld8 hL, m_ld9 hL, m_ld10 hL, m_ld11 hL, m_ld13 hL, m_ld14 hL, m_ld15 hL, m_ld16 hL, m_ld17 hL, m_pf2 hL, m_pf4 hL, m_pf6 hL, m_pf12 hL, m_pf18 hL, m_pf19 hL, m_pf20 hL, m_pf21 hL, m_st0 hL, m_st1 hL, m_st3 hL, m_st5 hL, m_st7 hL, m_st8 hL, m_st9 hL, m_st10 hL, m_st11 hL, m_st13 hL, m_st14 hL, m_st15 hL, m_st16 hL, m_st17 hL, nI_add, pk_mul, pk_sub, nI_le', nI_lt', nI_eq', nI_m6, nI_neg, pk_div, pk_rem, idiv_nI, irem_nI, ite_bI, ite_bIn, ite_bI1, ite_bI1n, retz_bI, retz_0, retz_1, retz_0n, retz_1n, o_let_eq, decide_eq_true_eq, ite_retI, bI_ite, if_true, if_false, if_pos, if_neg, hF]
  · intro i n hi hk
    rw [f_X4_record_51_s, ← hk]
    simp (disch := omega) only [li0, li1, li2, li3, li4, li5, li7, li8, li9, li10, li11, li12, li46, li47, li80, li100, li144, li147, li255, li256, li291, li1164, m_tag hL, m_gr0 hL, m_gr1 hL, m_gr3 hL, m_gr5 hL, m_gr7 hL, m_gr8 hL, m_gr9 hL, m_gr10 hL, m_gr11 hL, m_gr13 hL, m_gr14 hL, m_gr15 hL, m_gr16 hL, m_gr17 hL, m_gi2 hL, m_gi4 hL, m_gi6 hL, m_gi12 hL, m_gi18 hL, m_gi19 hL, m_gi20 hL, m_gi21 hL, m_ld0 hL, m_ld1 hL, m_ld3 hL, m_ld5 hL, m_ld7 hL, m_ld8 hL, m_ld9 hL, m_ld10 hL, m_ld11 hL, m_ld13 hL, m_ld14 hL, m_ld15 hL, m_ld16 hL, m_ld17 hL, m_pf2 hL, m_pf4 hL, m_pf6 hL, m_pf12 hL, m_pf18 hL, m_pf19 hL, m_pf20 hL, m_pf21 hL, m_st0 hL, m_st1 hL, m_st3 hL, m_st5 hL, m_st7 hL, m_st8 hL, m_st9 hL, m_st10 hL, m_st11 hL, m_st13 hL, m_st14 hL, m_st15 hL, m_st16 hL, m_st17 hL, nI_add, pk_mul, pk_sub, nI_le', nI_lt', nI_eq', nI_m6, nI_neg, pk_div, pk_rem, idiv_nI, irem_nI, ite_bI, ite_bIn, ite_bI1, ite_bI1n, retz_bI, retz_0, retz_1, retz_0n, retz_1n, o_let_eq, decide_eq_true_eq, ite_retI, bI_ite, if_true, if_false, if_pos, if_neg, hF, upA_s, upA_upA]
    rw [upA_n (by omega), cpo_up]
theorem m_record2 {h : AH} (hL : 608 ≤ h.length) {F : Nat → Int32} {A : Nat → Nat → Int32} (hF : F 2 = nI 5) :
    f_X4_record (some 1617) (mset h F A) = f_X4_record_49 (some 1617) (mset h (up F 2 (nI 4)) (upA A 1 (cpo (A 1) 0 1164 (fun j => A 1 (j + 291))))) := by
  unfold f_X4_record
  simp (disch := omega) only [li0, li1, li2, li3, li4, li5, li7, li8, li9, li10, li11, li12, li46, li47, li80, li100, li144, li147, li255, li256, li291, li1164, m_tag hL, m_gr0 hL, m_gr1 hL, m_gr3 hL, m_gr5 hL, m_gr7 hL, m_gr8 hL, m_gr9 hL, m_gr10 hL, m_gr11 hL, m_gr13 hL, m_gr14 hL, m_gr15 hL, m_gr16 hL, m_gr17 hL, m_gi2 hL, m_gi4 hL, m_gi6 hL, m_gi12 hL, m_gi18 hL, m_gi19 hL, m_gi20 hL, m_gi21 hL, m_ld0 hL, m_ld1 hL, m_ld3 hL, m_ld5 hL, m_ld7 hL, m_ld8 hL, m_ld9 hL, m_ld10 hL, m_ld11 hL, m_ld13 hL, m_ld14 hL, m_ld15 hL, m_ld16 hL, m_ld17 hL, m_pf2 hL, m_pf4 hL, m_pf6 hL, m_pf12 hL, m_pf18 hL, m_pf19 hL, m_pf20 hL, m_pf21 hL, m_st0 hL, m_st1 hL, m_st3 hL, m_st5 hL, m_st7 hL, m_st8 hL, m_st9 hL, m_st10 hL, m_st11 hL, m_st13 hL, m_st14 hL, m_st15 hL, m_st16 hL, m_st17 hL, nI_add, pk_mul, pk_sub, nI_le', nI_lt', nI_eq', nI_m6, nI_neg, pk_div, pk_rem, idiv_nI, irem_nI, ite_bI, ite_bIn, ite_bI1, ite_bI1n, retz_bI, retz_0, retz_1, retz_0n, retz_1n, o_let_eq, decide_eq_true_eq, ite_retI, bI_ite, if_true, if_false, hF]
  refine (congrArg (fun B => f_X4_record_10 FUEL (some 1617) 0 (mset h F B)) (by rw [cpo_0, upA_self] : A = upA A 1 (cpo (A 1) 0 0 (fun j => A 1 (j + 291))))).trans ?_
  refine loopE 1164 (fun n i => f_X4_record_10 n (some 1617) (nI i) (mset h F (upA A 1 (cpo (A 1) 0 i (fun j => A 1 (j + 291)))))) _ ?_ ?_ 0 FUEL (by omega) (by simp only [FUEL]; omega)
  · intro n
    rw [f_X4_record_10_s]
    simp (disch := omega) only [li0, li1, li2, li3, li4, li5, li7, li8, li9, li10, li11, li12, li46, li47, li80, li100, li144, li147, li255, li256, li291, li1164, m_tag hL, m_gr0 hL, m_gr1 hL, m_gr3 hL, m_gr5 hL, m_gr7 hL, m_gr8 hL, m_gr9 hL, m_gr10 hL, m_gr11 hL, m_gr13 hL, m_gr14 hL, m_gr15 hL, m_gr16 hL, m_gr17 hL, m_gi2 hL, m_gi4 hL, m_gi6 hL, m_gi12 hL, m_gi18 hL, m_gi19 hL, m_gi20 hL, m_gi21 hL, m_ld0 hL, m_ld1 hL, m_ld3 hL, m_ld5 hL, m_ld7 hL, m_ld8 hL, m_ld9 hL, m_ld10 hL, m_ld11 hL, m_ld13 hL, m_ld14 hL, m_ld15 hL, m_ld16 hL, m_ld17 hL, m_pf2 hL, m_pf4 hL, m_pf6 hL, m_pf12 hL, m_pf18 hL, m_pf19 hL, m_pf20 hL, m_pf21 hL, m_st0 hL, m_st1 hL, m_st3 hL, m_st5 hL, m_st7 hL, m_st8 hL, m_st9 hL, m_st10 hL, m_st11 hL, m_st13 hL, m_st14 hL, m_st15 hL, m_st16 hL, m_st17 hL, nI_add, pk_mul, pk_sub, nI_le', nI_lt', nI_eq', nI_m6, nI_neg, pk_div, pk_rem, idiv_nI, irem_nI, ite_bI, ite_bIn, ite_bI1, ite_bI1n, retz_bI, retz_0, retz_1, retz_0n, retz_1n, o_let_eq, decide_eq_true_eq, ite_retI, bI_ite, if_true, if_false, if_pos, if_neg, hF]
  · intro i n hi hk
    rw [f_X4_record_10_s, ← hk]
    simp (disch := omega) only [li0, li1, li2, li3, li4, li5, li7, li8, li9, li10, li11, li12, li46, li47, li80, li100, li144, li147, li255, li256, li291, li1164, m_tag hL, m_gr0 hL, m_gr1 hL, m_gr3 hL, m_gr5 hL, m_gr7 hL, m_gr8 hL, m_gr9 hL, m_gr10 hL, m_gr11 hL, m_gr13 hL, m_gr14 hL, m_gr15 hL, m_gr16 hL, m_gr17 hL, m_gi2 hL, m_gi4 hL, m_gi6 hL, m_gi12 hL, m_gi18 hL, m_gi19 hL, m_gi20 hL, m_gi21 hL, m_ld0 hL, m_ld1 hL, m_ld3 hL, m_ld5 hL, m_ld7 hL, m_ld8 hL, m_ld9 hL, m_ld10 hL, m_ld11 hL, m_ld13 hL, m_ld14 hL, m_ld15 hL, m_ld16 hL, m_ld17 hL, m_pf2 hL, m_pf4 hL, m_pf6 hL, m_pf12 hL, m_pf18 hL, m_pf19 hL, m_pf20 hL, m_pf21 hL, m_st0 hL, m_st1 hL, m_st3 hL, m_st5 hL, m_st7 hL, m_st8 hL, m_st9 hL, m_st10 hL, m_st11 hL, m_st13 hL, m_st14 hL, m_st15 hL, m_st16 hL, m_st17 hL, nI_add, pk_mul, pk_sub, nI_le', nI_lt', nI_eq', nI_m6, nI_neg, pk_div, pk_rem, idiv_nI, irem_nI, ite_bI, ite_bIn, ite_bI1, ite_bI1n, retz_bI, retz_0, retz_1, retz_0n, retz_1n, o_let_eq, decide_eq_true_eq, ite_retI, bI_ite, if_true, if_false, if_pos, if_neg, hF, upA_s, upA_upA]
    rw [cpo_out (by omega), cpo_up0 (A 1) i (fun j => A 1 (j + 291))]
def reco (S : St) : St := (S.g, (if S.hi.length = 5 then S.hi.tail else S.hi) ++ [S.g], S.sv, S.tx)
theorem reco_hi (S : St) : (reco S).hi = (if S.hi.length = 5 then S.hi.tail else S.hi) ++ [S.g] := rfl
theorem reco_SV {S : St} (h : SV S) : SV (reco S) := by
  obtain ⟨a, b, c, d⟩ := h
  refine ⟨a, ?_, ?_, d⟩
  · intro G hG
    rw [reco_hi, List.mem_append, List.mem_singleton] at hG
    rcases hG with hG | hG
    · split at hG
      · exact b G (List.mem_of_mem_tail hG)
      · exact b G hG
    · subst hG; exact a
  · rw [reco_hi, List.length_append, List.length_singleton]
    split
    · simp; omega
    · omega
theorem m_record {h : AH} (hL : 608 ≤ h.length) {F : Nat → Int32} {A : Nat → Nat → Int32} {S : St} (hI : MI F A S) (hS : SV S) :
    ∃ x P, f_X4_record (some 1617) (mset h F A) = some (none, mset h (up F 2 x) (upA A 1 P)) ∧ MI (up F 2 x) (upA A 1 P) (reco S) := by
  obtain ⟨i1, i2, i3, i4, i5, i6, i7, i8⟩ := id hI
  obtain ⟨s1, s2, s3, s4⟩ := id hS
  by_cases h5 : S.hi.length = 5
  · have e := (m_record2 (F := F) (A := A) hL (by rw [i3, h5])).trans (m_record1 hL (m := 4) (up_s _ _ _) (by omega))
    rw [up_up, upA_upA] at e
    refine ⟨_, _, e, i1, i2, ?_, ?_, i5, i6, i7, i8⟩
    · rw [up_s, reco_hi, if_pos h5]; simp [h5]
    · intro i G hG
      rw [reco_hi, if_pos h5] at hG
      by_cases hi : i < 4
      · rw [List.getElem?_append_left (by simp; omega), List.getElem?_tail] at hG
        refine MZ.cong (s2 G (List.mem_of_getElem? hG)) (i4 (i + 1) G hG) ?_
        intro j hj
        show (upA A 1 _ 1) _ = _
        rw [upA_s, cpo_out (by omega), upA_s, cpo_in (by omega)]
        show A 1 _ = A 1 _
        congr 1; omega
      · have : i < 5 := by
          have := (List.getElem?_eq_some_iff.mp hG).1
          simp at this; omega
        obtain rfl : i = 4 := by omega
        rw [List.getElem?_append_right (by simp; omega)] at hG
        simp [h5] at hG
        subst hG
        refine MZ.cong s1 i1 ?_
        intro j hj
        show (upA A 1 _ 1) _ = _
        rw [upA_s, cpo_in (by omega)]
        show upA A 1 _ 0 _ = A 0 _
        rw [upA_n (by omega)]
        congr 1; omega
  · have e : f_X4_record (some 1617) (mset h F A) = f_X4_record_49 (some 1617) (mset h F A) := by
      unfold f_X4_record
      simp (disch := omega) only [li0, li1, li2, li3, li4, li5, li7, li8, li9, li10, li11, li12, li46, li47, li80, li100, li144, li147, li255, li256, li291, li1164, m_tag hL, m_gr0 hL, m_gr1 hL, m_gr3 hL, m_gr5 hL, m_gr7 hL, m_gr8 hL, m_gr9 hL, m_gr10 hL, m_gr11 hL, m_gr13 hL, m_gr14 hL, m_gr15 hL, m_gr16 hL, m_gr17 hL, m_gi2 hL, m_gi4 hL, m_gi6 hL, m_gi12 hL, m_gi18 hL, m_gi19 hL, m_gi20 hL, m_gi21 hL, m_ld0 hL, m_ld1 hL, m_ld3 hL, m_ld5 hL, m_ld7 hL, m_ld8 hL, m_ld9 hL, m_ld10 hL, m_ld11 hL, m_ld13 hL, m_ld14 hL, m_ld15 hL, m_ld16 hL, m_ld17 hL, m_pf2 hL, m_pf4 hL, m_pf6 hL, m_pf12 hL, m_pf18 hL, m_pf19 hL, m_pf20 hL, m_pf21 hL, m_st0 hL, m_st1 hL, m_st3 hL, m_st5 hL, m_st7 hL, m_st8 hL, m_st9 hL, m_st10 hL, m_st11 hL, m_st13 hL, m_st14 hL, m_st15 hL, m_st16 hL, m_st17 hL, nI_add, pk_mul, pk_sub, nI_le', nI_lt', nI_eq', nI_m6, nI_neg, pk_div, pk_rem, idiv_nI, irem_nI, ite_bI, ite_bIn, ite_bI1, ite_bI1n, retz_bI, retz_0, retz_1, retz_0n, retz_1n, o_let_eq, decide_eq_true_eq, ite_retI, bI_ite, if_true, if_false, i3]
      rw [if_neg h5]
    refine ⟨_, _, e.trans (m_record1 hL i3 (by omega)), i1, i2, ?_, ?_, i5, i6, i7, i8⟩
    · rw [up_s, reco_hi, if_neg h5]; simp
    · intro i G hG
      rw [reco_hi, if_neg h5] at hG
      by_cases hi : i < S.hi.length
      · rw [List.getElem?_append_left hi] at hG
        refine MZ.cong (s2 G (List.mem_of_getElem? hG)) (i4 i G hG) ?_
        intro j hj
        show (upA A 1 _ 1) _ = _
        rw [upA_s, cpo_out (by omega)]
      · have hl : i < S.hi.length + 1 := by
          have := (List.getElem?_eq_some_iff.mp hG).1
          simpa using this
        obtain rfl : i = S.hi.length := by omega
        rw [List.getElem?_append_right (by omega)] at hG
        simp at hG
        subst hG
        refine MZ.cong s1 i1 ?_
        intro j hj
        show (upA A 1 _ 1) _ = _
        rw [upA_s, cpo_in (by omega)]
        congr 1; omega
