set_option maxRecDepth 100000
/-! the reader, as mathematics, and as the model does it -/
/-- rows read, columns, tiles of the row so far, the number that waits, the tiles -/
abbrev RS : Type := Nat × Nat × Nat × Nat × (Nat → Bool)
abbrev RS.rr (s : RS) : Nat := s.1
abbrev RS.rc (s : RS) : Nat := s.2.1
abbrev RS.ir (s : RS) : Nat := s.2.2.1
abbrev RS.nu (s : RS) : Nat := s.2.2.2.1
abbrev RS.rd (s : RS) : Nat → Bool := s.2.2.2.2
def RS.wid (s : RS) : Nat := if s.rr = 0 then 12 else s.rc
def RS.room (s : RS) : Nat := s.wid - s.ir
def RS.whole (s : RS) : Bool := decide (s.nu = 0 ∧ 0 < s.ir ∧ (s.rr = 0 ∨ s.ir = s.rc))
def RV (s : RS) : Prop := s.rr ≤ 11 ∧ s.rc ≤ 12 ∧ s.ir ≤ s.wid ∧ s.nu ≤ 12
def RW (s : RS) (t : Nat) : Prop := (t / 12 < s.rr ∧ t % 12 < s.rc) ∨ (t / 12 = s.rr ∧ t % 12 < s.ir)
def rputs (s : RS) (n : Nat) (b : Bool) : RS := (s.rr, s.rc, s.ir + n, 0, fun t => if 12 * s.rr + s.ir ≤ t ∧ t < 12 * s.rr + s.ir + n then b else s.rd t)
def rstep (s : RS) (c : Nat) : Option RS :=
  if 48 ≤ c ∧ c ≤ 57 then
    (if (s.nu = 0 ∧ 0 < c - 48 ∧ (if c - 48 = 1 then 10 else c - 48) ≤ s.room) ∨ (s.nu = 1 ∧ 10 * s.nu + c - 48 ≤ 12 ∧ 10 * s.nu + c - 48 ≤ s.room) then some (s.rr, s.rc, s.ir, 10 * s.nu + c - 48, s.rd) else none)
  else if c = 46 ∨ c = 35 then
    (if s.nu = 1 ∨ s.room < (if s.nu = 0 then 1 else s.nu) then none else some (rputs s (if s.nu = 0 then 1 else s.nu) (decide (c = 35))))
  else if c = 47 ∧ s.whole = true ∧ s.rr < 11 then some (s.rr + 1, s.ir, 0, s.nu, s.rd) else none
def rdE : List Nat → Nat → RS → Int32 × RS
  | [], k, s => (if s.whole then -6 else nI k, s)
  | c :: t, k, s => match rstep s c with
    | none => (nI k, s)
    | some s' => rdE t (k + 1) s'
def rs0 : RS := (0, 0, 0, 0, fun _ => false)
theorem wid_le {s : RS} (h : RV s) : s.wid ≤ 12 := by
  unfold RS.wid
  split
  · omega
  · exact h.2.1
theorem rstep_RV {s s' : RS} {c : Nat} (h : RV s) (e : rstep s c = some s') : RV s' := by
  have hw := wid_le h
  obtain ⟨h1, h2, h3, h4⟩ := h
  unfold rstep at e
  by_cases a : 48 ≤ c ∧ c ≤ 57
  · rw [if_pos a] at e
    by_cases b : (s.nu = 0 ∧ 0 < c - 48 ∧ (if c - 48 = 1 then 10 else c - 48) ≤ s.room) ∨ (s.nu = 1 ∧ 10 * s.nu + c - 48 ≤ 12 ∧ 10 * s.nu + c - 48 ≤ s.room)
    · rw [if_pos b] at e
      cases e
      refine ⟨h1, h2, h3, ?_⟩
      show 10 * s.nu + c - 48 ≤ 12
      rcases b with c2 | c2
      · rw [c2.1]; omega
      · exact c2.2.1
    · rw [if_neg b] at e
      cases e
  · rw [if_neg a] at e
    by_cases b : c = 46 ∨ c = 35
    · rw [if_pos b] at e
      by_cases q : s.nu = 1 ∨ s.room < (if s.nu = 0 then 1 else s.nu)
      · rw [if_pos q] at e
        cases e
      · rw [if_neg q] at e
        cases e
        refine ⟨h1, h2, ?_, by show 0 ≤ 12; omega⟩
        show s.ir + (if s.nu = 0 then 1 else s.nu) ≤ s.wid
        have q2 : ¬ s.room < (if s.nu = 0 then 1 else s.nu) := fun w => q (.inr w)
        have q3 : s.room = s.wid - s.ir := rfl
        omega
    · rw [if_neg b] at e
      by_cases q : c = 47 ∧ s.whole = true ∧ s.rr < 11
      · rw [if_pos q] at e
        cases e
        have hwh : s.nu = 0 ∧ 0 < s.ir ∧ (s.rr = 0 ∨ s.ir = s.rc) := of_decide_eq_true q.2.1
        exact ⟨by show s.rr + 1 ≤ 11; omega, by show s.ir ≤ 12; omega, Nat.zero_le _, h4⟩
      · rw [if_neg q] at e
        cases e
def RM (s : RS) (F : Nat → Int32) (A : Nat → Nat → Int32) : Prop := F 18 = nI s.rr ∧ F 19 = nI s.rc ∧ F 20 = nI s.ir ∧ F 21 = nI s.nu ∧ ∀ t, RW s t → A 17 t = bI (s.rd t)
/-- what the reader leaves alone -/
def FrR (F : Nat → Int32) (A : Nat → Nat → Int32) (F' : Nat → Int32) (A' : Nat → Nat → Int32) : Prop := (∀ k, k < 18 → F' k = F k) ∧ ∀ k, k ≠ 17 → A' k = A k
theorem FrR.rfl' (F : Nat → Int32) (A : Nat → Nat → Int32) : FrR F A F A := ⟨fun _ _ => rfl, fun _ _ => rfl⟩
theorem FrR.trans {F F' F'' : Nat → Int32} {A A' A'' : Nat → Nat → Int32} (h : FrR F A F' A') (h' : FrR F' A' F'' A'') : FrR F A F'' A'' := ⟨fun k hk => (h'.1 k hk).trans (h.1 k hk), fun k hk => (h'.2 k hk).trans (h.2 k hk)⟩
theorem FrR.MI {F F' : Nat → Int32} {A A' : Nat → Nat → Int32} {S : St} (h : FrR F A F' A') (hI : MI F A S) : MI F' A' S :=
  hI.scr (h.1 2 (by omega)) (h.1 4 (by omega)) (h.1 6 (by omega)) (h.2 0 (by omega)) (h.2 1 (by omega)) (h.2 3 (by omega)) (h.2 5 (by omega)) (h.2 7 (by omega)) (h.2 8 (by omega))
theorem m_room {h : AH} (hL : 608 ≤ h.length) {F : Nat → Int32} {A : Nat → Nat → Int32} {s : RS} (hM : RM s F A) (hV : RV s) : f_X4_room (some 1617) (mset h F A) = some (some (vI (nI s.room)), mset h F A) := by
  obtain ⟨m1, m2, m3, m4, m5⟩ := hM
  obtain ⟨v1, v2, v3, v4⟩ := hV
  unfold f_X4_room RS.room
  unfold RS.wid at v3 ⊢
  rw [m_gi18 hL, m1]
  by_cases e : s.rr = 0
  · rw [if_pos e] at v3
    rw [if_pos (by rw [e]; rfl), m_gi20 hL, m3, li12, if_pos e, pk_sub v3]
  · rw [if_neg (by rw [li0, nI_eq (by omega) (by omega)]; exact e), m_gi19 hL, m_gi20 hL, m2, m3, if_neg e]
    rw [if_neg e] at v3
    rw [pk_sub v3]
theorem m_isRowWhole {h : AH} (hL : 608 ≤ h.length) {F : Nat → Int32} {A : Nat → Nat → Int32} {s : RS} (hM : RM s F A) (hV : RV s) : f_X4_isRowWhole (some 1617) (mset h F A) = some (some (vI (bI s.whole)), mset h F A) := by
  have hw := wid_le hV
  obtain ⟨m1, m2, m3, m4, m5⟩ := hM
  obtain ⟨v1, v2, v3, v4⟩ := hV
  unfold f_X4_isRowWhole RS.whole
  simp (disch := omega) only [m_gi18 hL, m_gi19 hL, m_gi20 hL, m_gi21 hL, m1, m2, m3, m4, li0, nI_eq', nI_le', retz_0n, retz_1, ite_retI, bI_ite]
  refine ret_cong ?_
  by_cases a : s.nu = 0
  · rw [if_pos a]
    by_cases b : s.ir ≤ 0
    · rw [if_pos b, decide_eq_false (by omega)]
    · rw [if_neg b]
      by_cases c : s.rr = 0
      · rw [if_pos c, decide_eq_true (by omega)]
      · rw [if_neg c]
        by_cases d : s.ir = s.rc
        · rw [if_pos d, decide_eq_true (by omega)]
        · rw [if_neg d, decide_eq_false (by omega)]
  · rw [if_neg a, decide_eq_false (by omega)]
theorem m_endRow {h : AH} (hL : 608 ≤ h.length) {F : Nat → Int32} {A : Nat → Nat → Int32} {s : RS} (hM : RM s F A) (hV : RV s) (hw : s.rr = 0 ∨ s.ir = s.rc) :
    ∃ (F' : Nat → Int32), f_X4_endRow (some 1617) (mset h F A) = some (none, mset h F' A) ∧ RM (s.rr + 1, s.ir, 0, s.nu, s.rd) F' A ∧ FrR F A F' A := by
  obtain ⟨m1, m2, m3, m4, m5⟩ := hM
  unfold f_X4_endRow
  rw [m_gi20 hL, m3, m_pf19 hL, m_gi18 hL, up_n (by omega), m1, li1, nI_add, m_pf18 hL, m_pf20 hL]
  refine ⟨_, rfl, ⟨?_, ?_, ?_, ?_, ?_⟩, fun k hk => ?_, fun k _ => rfl⟩
  · rw [up_n (by omega), up_s]
  · rw [up_n (by omega), up_n (by omega), up_s]
  · rw [up_s]; rfl
  · rw [up_n (by omega), up_n (by omega), up_n (by omega)]; exact m4
  · intro t ht
    refine m5 t ?_
    unfold RW
    have ht : (t / 12 < s.rr + 1 ∧ t % 12 < s.ir) ∨ (t / 12 = s.rr + 1 ∧ t % 12 < 0) := ht
    rcases ht with ht | ht
    · by_cases e : t / 12 = s.rr
      · exact .inr ⟨e, ht.2⟩
      · refine .inl ⟨by omega, ?_⟩
        rcases hw with w | w <;> omega
    · omega
  · rw [up_n (by omega), up_n (by omega), up_n (by omega)]
theorem m_puts {h : AH} (hL : 608 ≤ h.length) {F : Nat → Int32} {A : Nat → Nat → Int32} {s : RS} (hM : RM s F A) (hV : RV s) {c m : Nat} (hc : c = 46 ∨ c = 35) (hm : s.ir + m ≤ s.wid) :
    ∃ (F' : Nat → Int32) (A' : Nat → Nat → Int32), f_X4_readOne_155 FUEL (some 1617) (nI c) (nI m) 0 (mset h F A) = some (some (vI (bI true)), mset h F' A') ∧ RM (rputs s m (decide (c = 35))) F' A' ∧ FrR F A F' A' := by
  have hw := wid_le hV
  obtain ⟨v1, v2, v3, v4⟩ := hV
  obtain ⟨m1, m2, m3, m4, m5⟩ := hM
  refine loop1 (σ := (Nat → Int32) × (Nat → Nat → Int32)) m (fun n i p => f_X4_readOne_155 n (some 1617) (nI c) (nI m) (nI i) (mset h p.1 p.2)) (fun i p => (p.1 18 = nI s.rr ∧ p.1 19 = nI s.rc ∧ p.1 20 = nI (s.ir + i) ∧ ∀ t, RW (rputs s i (decide (c = 35))) t → p.2 17 t = bI ((rputs s i (decide (c = 35))).rd t)) ∧ FrR F A p.1 p.2)
    (fun res => ∃ (F' : Nat → Int32) (A' : Nat → Nat → Int32), res = some (some (vI (bI true)), mset h F' A') ∧ RM (rputs s m (decide (c = 35))) F' A' ∧ FrR F A F' A') ?_ ?_ 0 (F, A) FUEL (by omega) ⟨⟨m1, m2, m3, fun t ht => ?_⟩, FrR.rfl' F A⟩ (by simp only [FUEL]; omega)
  · intro p n hp
    obtain ⟨⟨p1, p2, p3, p5⟩, pf⟩ := hp
    rw [f_X4_readOne_155_s]
    simp only
    rw [if_pos (nI_le (Nat.le_refl _) (by omega)), m_pf21 hL, retz_1]
    refine ⟨_, _, rfl, ⟨?_, ?_, ?_, ?_, ?_⟩, fun k hk => ?_, pf.2⟩
    · rw [up_n (by omega)]; exact p1
    · rw [up_n (by omega)]; exact p2
    · rw [up_n (by omega)]; exact p3
    · rw [up_s]; rfl
    · exact p5
    · rw [up_n (by omega)]; exact pf.1 k hk
  · intro i p n hi hp hk
    obtain ⟨⟨p1, p2, p3, p5⟩, pf⟩ := hp
    have hidx : 12 * s.rr + (s.ir + i) < 144 := by omega
    rw [f_X4_readOne_155_s]
    simp only
    rw [if_neg (nI_ge hi (by omega)), m_gr17 hL, m_gi18 hL, m_gi20 hL, p1, p3, li12, pk_mul, nI_add]
    have h187 : ∀ x : Bool, f_X4_readOne_187 (f_X4_readOne_155 n) (some 1617) (nI c) (nI m) (nI i) (some 1631) (nI (12 * s.rr + (s.ir + i))) (bI x) (mset h p.1 p.2) =
        f_X4_readOne_155 n (some 1617) (nI c) (nI m) (nI (i + 1)) (mset h (up p.1 20 (nI (s.ir + i + 1))) (upA p.2 17 (up (p.2 17) (12 * s.rr + (s.ir + i)) (bI x)))) := by
      intro x
      unfold f_X4_readOne_187
      rw [m_st17 hL hidx, m_gi20 hL, p3, li1, nI_add, m_pf20 hL, o_let_eq, nI_add]
    have key := hk (up p.1 20 (nI (s.ir + i + 1)), upA p.2 17 (up (p.2 17) (12 * s.rr + (s.ir + i)) (bI (decide (c = 35))))) ⟨⟨?_, ?_, ?_, ?_⟩, ?_⟩
    · rw [← h187] at key
      rcases hc with e | e
      · subst e
        rw [if_neg (by decide)]; exact key
      · subst e
        rw [if_pos (by decide)]; exact key
    · show up p.1 20 (nI (s.ir + i + 1)) 18 = _
      rw [up_n (by omega)]; exact p1
    · show up p.1 20 (nI (s.ir + i + 1)) 19 = _
      rw [up_n (by omega)]; exact p2
    · exact up_s p.1 20 (nI (s.ir + i + 1))
    · intro t ht
      show up (p.2 17) (12 * s.rr + (s.ir + i)) (bI (decide (c = 35))) t = bI (if 12 * s.rr + s.ir ≤ t ∧ t < 12 * s.rr + s.ir + (i + 1) then decide (c = 35) else s.rd t)
      by_cases e : t = 12 * s.rr + (s.ir + i)
      · subst e
        rw [up_s, if_pos (by omega)]
      · rw [up_n e]
        have ht : (t / 12 < s.rr ∧ t % 12 < s.rc) ∨ (t / 12 = s.rr ∧ t % 12 < s.ir + (i + 1)) := ht
        have hw2 : RW (rputs s i (decide (c = 35))) t := by
          show (t / 12 < s.rr ∧ t % 12 < s.rc) ∨ (t / 12 = s.rr ∧ t % 12 < s.ir + i)
          omega
        rw [p5 t hw2]
        show bI (if 12 * s.rr + s.ir ≤ t ∧ t < 12 * s.rr + s.ir + i then decide (c = 35) else s.rd t) = _
        by_cases q : 12 * s.rr + s.ir ≤ t ∧ t < 12 * s.rr + s.ir + i
        · rw [if_pos q, if_pos (by omega)]
        · rw [if_neg q, if_neg (by omega)]
    · refine pf.trans ⟨fun k hk => up_n (by omega), fun k hk => upA_n hk⟩
  · have ht : RW s t := ht
    show A 17 t = bI (if 12 * s.rr + s.ir ≤ t ∧ t < 12 * s.rr + s.ir + 0 then decide (c = 35) else s.rd t)
    rw [if_neg (by omega)]
    exact m5 t ht
theorem m_readOne {h : AH} (hL : 608 ≤ h.length) {F : Nat → Int32} {A : Nat → Nat → Int32} {s : RS} (hM : RM s F A) (hV : RV s) {c : Nat} (hc : c < 128) :
    ∃ (F' : Nat → Int32) (A' : Nat → Nat → Int32), f_X4_readOne (some 1617) (nI c) (mset h F A) = some (some (vI (bI (rstep s c).isSome)), mset h F' A') ∧ FrR F A F' A' ∧ ∀ s', rstep s c = some s' → RM s' F' A' := by
  have hw := wid_le hV
  obtain ⟨v1, v2, v3, v4⟩ := id hV
  obtain ⟨m1, m2, m3, m4, m5⟩ := id hM
  unfold f_X4_readOne
  rw [o_ci_eq (m_in _ _ _ _), ite_bI]
  simp only [decide_eq_true_eq, ti48, ti57]
  rw [nI_toInt (by omega)]
  -- a number that may stand or not
  have h88 : ∀ (b : Bool) (x : Nat), f_X4_readOne_88 (some 1617) (nI x) (bI b) (mset h F A) = some (some (vI (bI b)), mset h (up F 21 (nI (if b then x else s.nu))) A) := by
    intro b x
    unfold f_X4_readOne_88 f_X4_readOne_102
    rw [ite_bI]
    cases b
    · rw [if_neg (by decide), m_gi21 hL, m4, m_pf21 hL, retz_bI]; rfl
    · rw [if_pos rfl, m_pf21 hL, retz_bI]; rfl
  have hfr : ∀ x, FrR F A (up F 21 x) A := fun x => ⟨fun k hk => up_n (by omega), fun k _ => rfl⟩
  have hrm : ∀ x : Nat, RM (s.rr, s.rc, s.ir, x, s.rd) (up F 21 (nI x)) A := fun x => ⟨(up_n (by omega)).trans m1, (up_n (by omega)).trans m2, (up_n (by omega)).trans m3, up_s _ _ _, m5⟩
  have fin : ∀ (b : Bool) (x : Nat) (res : Res) (o : Option RS), res = f_X4_readOne_88 (some 1617) (nI x) (bI b) (mset h F A) → o = (if b then some (s.rr, s.rc, s.ir, x, s.rd) else none) →
      ∃ (F' : Nat → Int32) (A' : Nat → Nat → Int32), res = some (some (vI (bI o.isSome)), mset h F' A') ∧ FrR F A F' A' ∧ ∀ s', o = some s' → RM s' F' A' := by
    intro b x res o e1 e2
    rw [h88] at e1
    subst e1 e2
    refine ⟨up F 21 (nI (if b then x else s.nu)), A, ?_, hfr _, ?_⟩
    · cases b <;> rfl
    · intro s' h'
      cases b
      · cases h'
      · cases h'; exact hrm x
  by_cases hd : 48 ≤ c ∧ c ≤ 57
  · rw [if_pos (by omega), m_gi21 hL, m4, li10, pk_mul, nI_add, li48, pk_sub (by omega), o_let_eq, m_gi21 hL, m4]
    unfold rstep
    rw [if_pos hd]
    by_cases hn : s.nu = 0
    · rw [if_pos (by rw [hn]; rfl)]
      have e0 : 10 * s.nu + c - 48 = c - 48 := by omega
      rw [e0]
      unfold f_X4_readOne_57 f_X4_readOne_46
      by_cases h1 : c - 48 = 0
      · rw [if_pos (by rw [li0]; exact nI_le (by omega) (by omega))]
        refine fin false (c - 48) _ _ rfl ?_
        rw [if_neg (by omega)]; rfl
      · rw [if_neg (by rw [li0, nI_leI (by omega) (by omega)]; omega)]
        by_cases h2 : c - 48 = 1
        · rw [h2, if_pos (by rfl), m_ci hL (m_room hL hM hV)]
          by_cases h3 : s.room < 10
          · rw [if_pos (nI_lt h3 (by omega))]
            refine fin false 1 _ _ rfl ?_
            rw [if_neg (by simp; omega)]; rfl
          · rw [if_neg (nI_nlt (by omega) (by have : s.room = s.wid - s.ir := rfl
                                              omega))]
            refine fin true 1 _ _ rfl ?_
            rw [if_pos (.inl ⟨hn, by omega, by simp; omega⟩)]; rfl
        · rw [if_neg (by rw [li1, nI_eq (by omega) (by omega)]; exact h2), m_ci hL (m_room hL hM hV)]
          by_cases h3 : s.room < c - 48
          · rw [if_pos (nI_lt h3 (by omega))]
            refine fin false (c - 48) _ _ rfl ?_
            rw [if_neg (by rw [if_neg h2]; omega)]; rfl
          · rw [if_neg (nI_nlt (by omega) (by have : s.room = s.wid - s.ir := rfl
                                              omega))]
            refine fin true (c - 48) _ _ rfl ?_
            rw [if_pos (.inl ⟨hn, by omega, by rw [if_neg h2]; omega⟩)]; rfl
    · rw [if_neg (by rw [li0, nI_eq (by omega) (by omega)]; exact hn), m_gi21 hL, m4]
      unfold f_X4_readOne_87
      by_cases hn1 : s.nu = 1
      · rw [if_pos (by rw [hn1]; rfl), li12]
        have e0 : 10 * s.nu + c - 48 = 10 + c - 48 := by omega
        rw [e0]
        by_cases h1 : 12 < 10 + c - 48
        · rw [if_pos (nI_lt h1 (by omega))]
          refine fin false (10 + c - 48) _ _ rfl ?_
          rw [if_neg (by omega)]; rfl
        · rw [if_neg (nI_nlt (by omega) (by omega)), m_ci hL (m_room hL hM hV)]
          by_cases h3 : s.room < 10 + c - 48
          · rw [if_pos (nI_lt h3 (by omega))]
            refine fin false (10 + c - 48) _ _ rfl ?_
            rw [if_neg (by omega)]; rfl
          · rw [if_neg (nI_nlt (by omega) (by have : s.room = s.wid - s.ir := rfl
                                              omega))]
            refine fin true (10 + c - 48) _ _ rfl ?_
            rw [if_pos (.inr ⟨hn1, by omega, by omega⟩)]; rfl
      · rw [if_neg (by rw [li1, nI_eq (by omega) (by omega)]; exact hn1)]
        refine fin false (10 * s.nu + c - 48) _ _ rfl ?_
        rw [if_neg (by omega)]; rfl
  · rw [if_neg (by omega)]
    unfold rstep
    rw [if_neg hd]
    have hno : ∃ (F' : Nat → Int32) (A' : Nat → Nat → Int32), (some (some (vI (bI false)), mset h F A) : Res) = some (some (vI (bI (none : Option RS).isSome)), mset h F' A') ∧ FrR F A F' A' ∧ ∀ s', (none : Option RS) = some s' → RM s' F' A' :=
      ⟨F, A, rfl, FrR.rfl' F A, fun s' h' => by cases h'⟩
    by_cases hp : c = 46 ∨ c = 35
    · rw [if_pos hp]
      have h134 : ∀ m : Nat, m ≤ 12 → f_X4_readOne_134 (some 1617) (nI c) (nI m) (mset h F A) = (if s.nu = 1 ∨ s.room < m then some (some (vI (bI false)), mset h F A) else f_X4_readOne_155 FUEL (some 1617) (nI c) (nI m) 0 (mset h F A)) := by
        intro m hm
        have hr : s.room = s.wid - s.ir := rfl
        unfold f_X4_readOne_134
        rw [m_gi21 hL, m4]
        by_cases hn1 : s.nu = 1
        · rw [if_pos (by rw [hn1]; rfl), retz_0, if_pos (.inl hn1)]
        · rw [if_neg (by rw [li1, nI_eq (by omega) (by omega)]; exact hn1), m_ci hL (m_room hL hM hV)]
          by_cases h3 : s.room < m
          · rw [if_neg (nI_ge h3 (by omega)), retz_0, if_pos (.inr h3)]
          · rw [if_pos (nI_le (by omega) (by omega)), if_neg (by omega)]
      have h119 : f_X4_readOne_119 (some 1617) (nI c) (mset h F A) = f_X4_readOne_134 (some 1617) (nI c) (nI (if s.nu = 0 then 1 else s.nu)) (mset h F A) := by
        unfold f_X4_readOne_119
        rw [m_gi21 hL, m4]
        by_cases hn : s.nu = 0
        · rw [if_pos (by rw [hn]; rfl), if_pos hn]; rfl
        · rw [if_neg (by rw [li0, nI_eq (by omega) (by omega)]; exact hn), m_gi21 hL, m4, if_neg hn]
      have goal : ∃ (F' : Nat → Int32) (A' : Nat → Nat → Int32), f_X4_readOne_119 (some 1617) (nI c) (mset h F A) = some (some (vI (bI (if s.nu = 1 ∨ s.room < (if s.nu = 0 then 1 else s.nu) then none else some (rputs s (if s.nu = 0 then 1 else s.nu) (decide (c = 35))) : Option RS).isSome)), mset h F' A') ∧ FrR F A F' A' ∧
          ∀ s', (if s.nu = 1 ∨ s.room < (if s.nu = 0 then 1 else s.nu) then none else some (rputs s (if s.nu = 0 then 1 else s.nu) (decide (c = 35))) : Option RS) = some s' → RM s' F' A' := by
        rw [h119, h134 _ (by split <;> omega)]
        by_cases q : s.nu = 1 ∨ s.room < (if s.nu = 0 then 1 else s.nu)
        · rw [if_pos q, if_pos q]; exact hno
        · rw [if_neg q, if_neg q]
          have q2 : ¬ s.room < (if s.nu = 0 then 1 else s.nu) := fun w => q (.inr w)
          have q3 : s.room = s.wid - s.ir := rfl
          obtain ⟨F', A', r1, r2, r3⟩ := m_puts hL hM hV hp (m := if s.nu = 0 then 1 else s.nu) (by omega)
          exact ⟨F', A', r1, r3, fun s' h' => by cases h'; exact r2⟩
      rcases hp with e | e
      · subst e
        rw [if_pos (by decide)]; exact goal
      · subst e
        rw [if_neg (by decide), if_pos (by decide)]; exact goal
    · rw [if_neg hp, if_neg (by rw [li46', nI_eq (by omega) (by omega)]; omega), if_neg (by rw [li35, nI_eq (by omega) (by omega)]; omega)]
      unfold f_X4_readOne_237 f_X4_readOne_238
      by_cases h47 : c = 47
      · rw [if_pos (by rw [h47]; rfl), m_ci hL (m_isRowWhole hL hM hV), ite_bI]
        cases hwh : s.whole with
        | false =>
          rw [if_neg (by decide), if_pos rfl, retz_0, if_neg (by simp)]; exact hno
        | true =>
          rw [if_pos rfl, m_gi18 hL, m1, li11]
          by_cases h11 : 11 ≤ s.rr
          · rw [if_pos (nI_le h11 (by omega)), if_pos rfl, retz_0, if_neg (by omega)]; exact hno
          · rw [if_neg (nI_ge (by omega) (by omega)), if_neg (by decide), if_pos ⟨h47, rfl, by omega⟩]
            have hw' : s.nu = 0 ∧ 0 < s.ir ∧ (s.rr = 0 ∨ s.ir = s.rc) := of_decide_eq_true hwh
            obtain ⟨F', r1, r2, r3⟩ := m_endRow hL hM hV hw'.2.2
            rw [m_cv hL r1, retz_1]
            exact ⟨F', A, rfl, r3, fun s' h' => by cases h'; exact r2⟩
      · rw [if_neg (by rw [show (47 : Int32) = nI 47 from rfl, nI_eq (by omega) (by omega)]; exact h47), if_pos rfl, retz_0, if_neg (fun q => h47 q.1)]; exact hno
