set_option maxRecDepth 100000
/-! the search of a region, as mathematics, and as the model does it -/
theorem nodup_len : ∀ (N : Nat) (l : List Nat), l.Nodup → (∀ x, x ∈ l → x < N) → l.length ≤ N
  | 0, l, _, h => by
    cases l with
    | nil => simp
    | cons a t => exact absurd (h a (by simp)) (by omega)
  | N + 1, l, hn, h => by
    by_cases hm : N ∈ l
    · have h1 := nodup_len N (l.erase N) (hn.erase N) (fun x hx => by
        have h2 := h x (List.mem_of_mem_erase hx)
        have h3 : x ≠ N := fun e => by
          subst e
          exact hn.not_mem_erase hx
        omega)
      have := List.length_erase_of_mem hm
      have h5 : 0 < l.length := List.length_pos_of_mem hm
      omega
    · have := nodup_len N l hn (fun x hx => by
        have h2 := h x hx
        have h3 : x ≠ N := fun e => hm (e ▸ hx)
        omega)
      omega
abbrev BL : Type := List (Nat × Nat)
def bhas (L : BL) (t : Nat) : Bool := L.any (fun p => p.1 == t)
/-- one direction -/
def bst (G : Gr) (t0 : Nat) (q : Nat × Nat) (d : Nat) (L : BL) : BL :=
  if inG G (nbX G q.1 d) (nbY G q.1 d) && (G.l (plc G (nbX G q.1 d) (nbY G q.1 d)) == G.l t0) && !bhas L (plc G (nbX G q.1 d) (nbY G q.1 d)) then L ++ [(plc G (nbX G q.1 d) (nbY G q.1 d), q.2 + 1)] else L
/-- j directions, st apart -/
def bdj (G : Gr) (t0 st : Nat) (q : Nat × Nat) (L : BL) : Nat → BL
  | 0 => L
  | j + 1 => bst G t0 q (st * j) (bdj G t0 st q L j)
/-- how many directions -/
def ndir (st : Nat) : Nat := if st = 1 then 8 else 4
def bgo (G : Gr) (t0 st : Nat) : Nat → Nat → BL → BL
  | 0, _, L => L
  | e + 1, k, L => match L[k]? with
    | none => L
    | some q => bgo G t0 st e (k + 1) (bdj G t0 st q L (ndir st))
def bfs (G : Gr) (t0 st : Nat) : BL := bgo G t0 st 145 0 [(t0, 0)]
def LV (G : Gr) (t0 : Nat) (L : BL) : Prop := (∀ (p : Nat × Nat), p ∈ L → p.1 < G.N ∧ G.l p.1 = G.l t0) ∧ (L.map (fun p => p.1)).Nodup ∧ ∀ (i : Nat) (p : Nat × Nat), L[i]? = some p → p.2 ≤ i
theorem LV.len {G : Gr} {t0 : Nat} {L : BL} (h : LV G t0 L) (hG : GV G) : L.length ≤ 144 := by
  have := nodup_len G.N (L.map (fun p => p.1)) h.2.1 (fun x hx => by
    obtain ⟨p, hp, rfl⟩ := List.mem_map.mp hx
    exact (h.1 p hp).1)
  have := hG.1.2.2.2.2.1
  simp at *
  omega
theorem LV.one {G : Gr} {t0 : Nat} (h : t0 < G.N) : LV G t0 [(t0, 0)] := by
  refine ⟨fun p hp => ?_, by simp, fun i p hp => ?_⟩
  · simp at hp; subst hp; exact ⟨h, rfl⟩
  · cases i with
    | zero => simp at hp; subst hp; omega
    | succ i => simp at hp
theorem LV.st {G : Gr} {t0 : Nat} {L : BL} (h : LV G t0 L) {k : Nat} {q : Nat × Nat} (hq : L[k]? = some q) (d : Nat) : LV G t0 (bst G t0 q d L) := by
  unfold bst
  split
  · rename_i c
    simp only [Bool.and_eq_true, Bool.not_eq_true', beq_iff_eq] at c
    obtain ⟨⟨c1, c2⟩, c3⟩ := c
    have hk : k < L.length := (List.getElem?_eq_some_iff.mp hq).1
    refine ⟨fun p hp => ?_, ?_, fun i p hp => ?_⟩
    · rcases List.mem_append.mp hp with hp | hp
      · exact h.1 p hp
      · simp at hp; subst hp
        exact ⟨plc_lt c1, c2⟩
    · rw [List.map_append, List.nodup_append]
      refine ⟨h.2.1, by simp, fun a ha b hb e => ?_⟩
      simp at hb
      subst e
      obtain ⟨p, hp, e2⟩ := List.mem_map.mp ha
      unfold bhas at c3
      rw [List.any_eq_false] at c3
      exact c3 p hp (by simp [e2, hb])
    · by_cases hi : i < L.length
      · rw [List.getElem?_append_left hi] at hp
        exact h.2.2 i p hp
      · have hl : i < L.length + 1 := by
          have := (List.getElem?_eq_some_iff.mp hp).1
          simpa using this
        obtain rfl : i = L.length := by omega
        rw [List.getElem?_append_right (by omega)] at hp
        simp at hp
        subst hp
        have := h.2.2 k q hq
        show q.2 + 1 ≤ _
        omega
  · exact h
theorem bst_get {G : Gr} {t0 : Nat} {L : BL} {k : Nat} {q q' : Nat × Nat} (hq : L[k]? = some q) (d : Nat) : (bst G t0 q' d L)[k]? = some q := by
  unfold bst
  split
  · rw [List.getElem?_append_left (List.getElem?_eq_some_iff.mp hq).1]; exact hq
  · exact hq
theorem bdj_get {G : Gr} {t0 st : Nat} {L : BL} {k : Nat} {q q' : Nat × Nat} (hq : L[k]? = some q) : ∀ j, (bdj G t0 st q' L j)[k]? = some q
  | 0 => hq
  | j + 1 => bst_get (bdj_get hq j) _
theorem LV.dj {G : Gr} {t0 st : Nat} {L : BL} (h : LV G t0 L) {k : Nat} {q : Nat × Nat} (hq : L[k]? = some q) : ∀ j, LV G t0 (bdj G t0 st q L j)
  | 0 => h
  | j + 1 => (LV.dj h hq j).st (bdj_get hq j) _
def stpO (L : BL) (t : Nat) : Int32 := match L.find? (fun p => p.1 == t) with
  | some p => nI p.2
  | none => -6
theorem find_nodup : ∀ {L : BL} {k : Nat} {q : Nat × Nat}, (L.map (fun p => p.1)).Nodup → L[k]? = some q → L.find? (fun p => p.1 == q.1) = some q
  | [], k, q, _, h => by simp at h
  | a :: t, 0, q, _, h => by
    simp at h
    subst h
    simp
  | a :: t, k + 1, q, hn, h => by
    have h : t[k]? = some q := by simpa using h
    simp only [List.map_cons, List.nodup_cons] at hn
    have : a.1 ≠ q.1 := fun e => hn.1 (by rw [e]; exact List.mem_map.mpr ⟨q, List.mem_of_getElem? h, rfl⟩)
    rw [List.find?_cons_of_neg (by simpa using this)]
    exact find_nodup hn.2 h
theorem stpO_get {L : BL} {k : Nat} {q : Nat × Nat} (hn : (L.map (fun p => p.1)).Nodup) (h : L[k]? = some q) : stpO L q.1 = nI q.2 := by
  unfold stpO
  rw [find_nodup hn h]
theorem stpO_m6 {G : Gr} (hG : GV G) {t0 : Nat} {L : BL} (h : LV G t0 L) (t : Nat) : (stpO L t = -6) ↔ bhas L t = false := by
  unfold stpO bhas
  cases hf : L.find? (fun p => p.1 == t) with
  | none =>
    rw [List.find?_eq_none] at hf
    simp only [true_iff]
    rw [List.any_eq_false]
    exact hf
  | some p =>
    have hp := List.mem_of_find?_eq_some hf
    obtain ⟨i, hi⟩ := List.getElem?_of_mem hp
    have h1 := h.2.2 i p hi
    have h2 := h.len hG
    have h3 := (List.getElem?_eq_some_iff.mp hi).1
    constructor
    · intro e
      simp only at e
      rw [nI_m6 (by omega)] at e
      exact e.elim
    · intro e
      rw [List.any_eq_false] at e
      exact absurd (List.find?_some hf) (e p hp)
theorem stpO_app {L : BL} {q : Nat × Nat} (hq : bhas L q.1 = false) : stpO (L ++ [q]) = up (stpO L) q.1 (nI q.2) := by
  funext t
  unfold stpO up
  rw [List.find?_append]
  by_cases e : t = q.1
  · subst e
    have : L.find? (fun p => p.1 == q.1) = none := by
      rw [List.find?_eq_none]
      unfold bhas at hq
      rw [List.any_eq_false] at hq
      exact hq
    rw [this]
    simp
  · rw [if_neg e]
    have : [q].find? (fun p => p.1 == t) = none := by
      simp [Ne.symm e]
    rw [this, Option.or_none]
/-- what the model's two rows of numbers hold -/
def BR (L : BL) (x : Int32) (fnd stp : Nat → Int32) : Prop := x = nI L.length ∧ (∀ (i : Nat) (p : Nat × Nat), L[i]? = some p → fnd i = nI p.1) ∧ ∀ t, t < 144 → stp t = stpO L t
/-- the heap with them -/
def bset (h : AH) (F : Nat → Int32) (A : Nat → Nat → Int32) (s : Int32 × (Nat → Int32) × (Nat → Int32)) : AH := mset h (up F 12 s.1) (upA (upA A 10 s.2.1) 11 s.2.2)
theorem bA10 (A : Nat → Nat → Int32) (f g : Nat → Int32) : upA (upA A 10 f) 11 g 10 = f := rfl
theorem bA11 (A : Nat → Nat → Int32) (f g : Nat → Int32) : upA (upA A 10 f) 11 g 11 = g := rfl
theorem bA0 (A : Nat → Nat → Int32) (f g : Nat → Int32) : upA (upA A 10 f) 11 g 0 = A 0 := rfl
theorem bA10s (A : Nat → Nat → Int32) (f g f' : Nat → Int32) : upA (upA (upA A 10 f) 11 g) 10 f' = upA (upA A 10 f') 11 g := by
  funext j
  by_cases a : j = 10
  · subst a; rw [upA_s, upA_n (by omega), upA_s]
  · rw [upA_n a]
    by_cases b : j = 11
    · subst b; rw [upA_s, upA_s]
    · rw [upA_n b, upA_n b, upA_n a, upA_n a]
theorem m_bfsS {h : AH} (hL : 608 ≤ h.length) {F : Nat → Int32} {A : Nat → Nat → Int32} {G : Gr} (hz : MZ (A 0) G) (hG : GV G) {t0 st k : Nat} (hst : st = 1 ∨ st = 2) (ht0 : t0 < G.N) {L : BL} (hV : LV G t0 L) {q : Nat × Nat} (hq : L[k]? = some q) {s : Int32 × (Nat → Int32) × (Nat → Int32)} (hB : BR L s.1 s.2.1 s.2.2)
    (k44 : Rf → Int32 → Int32 → Int32 → AH → Res) (n : Nat) {j : Nat} (hj : j < ndir st) (Q : Res → Prop)
    (hk : ∀ s', BR (bst G t0 q (st * j) L) s'.1 s'.2.1 s'.2.2 → Q (f_X4_findRegion_85 k44 n (some 1617) (nI t0) (bI (decide (st = 1))) (nI k) (nI (q.1 / G.C)) (nI (q.1 % G.C)) (nI (st * (j + 1))) (bset h F A s'))) :
    Q (f_X4_findRegion_85 k44 (n + 1) (some 1617) (nI t0) (bI (decide (st = 1))) (nI k) (nI (q.1 / G.C)) (nI (q.1 % G.C)) (nI (st * j)) (bset h F A s)) := by
  obtain ⟨z0, z1, z2, z3⟩ := id hz
  obtain ⟨⟨g1, g2, g3, g4, g5, g6⟩, g7⟩ := id hG
  have hj8 : st * j < 8 := by
    unfold ndir at hj
    rcases hst with e | e <;> subst e <;> simp at hj <;> omega
  have hq1 := hV.1 q (List.mem_of_getElem? hq)
  have hqN : q.1 < G.C * G.R := hq1.1
  obtain ⟨q1, q2, q3⟩ := k_rc hqN
  have hlen := hV.len hG
  have hkl := (List.getElem?_eq_some_iff.mp hq).1
  have hq2 := hV.2.2 k q hq
  have h214 : ∀ s' : Int32 × (Nat → Int32) × (Nat → Int32), f_X4_findRegion_214 k44 (f_X4_findRegion_85 k44 n) (some 1617) (nI t0) (bI (decide (st = 1))) (nI k) (nI (q.1 / G.C)) (nI (q.1 % G.C)) (nI (st * j)) (bset h F A s') =
      f_X4_findRegion_85 k44 n (some 1617) (nI t0) (bI (decide (st = 1))) (nI k) (nI (q.1 / G.C)) (nI (q.1 % G.C)) (nI (st * (j + 1))) (bset h F A s') := by
    intro s'
    unfold f_X4_findRegion_214 f_X4_findRegion_225
    rcases hst with e | e <;> subst e
    · simp only [decide_true, ite_bI, if_true, o_let_eq, li1, nI_add]; rw [Nat.mul_succ]
    · rw [decide_eq_false (by omega)]; simp only [ite_bI, o_let_eq, li2, nI_add]; rw [Nat.mul_succ, if_neg (by decide)]
  have e1 := nbr_t (r := q.1 / G.C) (by omega) (st * j)
  have e2 := nbc_t (r := q.1 % G.C) (by omega) (st * j)
  unfold dRI at e1
  unfold dCI at e2
  have hz' : MZ (upA (upA A 10 s.2.1) 11 s.2.2 0) G := hz
  rw [f_X4_findRegion_85_s]
  simp only
  rw [if_neg (by rw [li8, nI_leI (by omega) (by omega)]; omega), o_ci_eq (m_rowBy _ hj8 _), o_let_eq, o_ci_eq (m_columnBy _ hj8 _), o_let_eq]
  have hlen2 := (hV.st hq (st * j)).len hG
  unfold bst at hk hlen2
  unfold nbX nbY at hk hlen2
  have ht := m_isTile hL (F := up F 12 s.1) hz' hG (nI (q.1 / G.C) + if st * j = 7 ∨ st * j < 2 then -1 else if 3 ≤ st * j ∧ st * j ≤ 5 then 1 else 0) (nI (q.1 % G.C) + if 1 ≤ st * j ∧ st * j ≤ 3 then 1 else if 5 ≤ st * j ∧ st * j ≤ 7 then -1 else 0)
  rw [e1, e2] at ht
  have eb : bset h F A s = mset h (up F 12 s.1) (upA (upA A 10 s.2.1) 11 s.2.2) := rfl
  rw [eb, m_ci hL ht, ite_bI, ← eb]
  by_cases a : inG G (((q.1 / G.C : Nat) : Int) + dR (st * j)) (((q.1 % G.C : Nat) : Int) + dC (st * j)) = true
  · rw [if_pos a]
    rw [nI_toNat (x := nI (q.1 / G.C) + _) (by rw [e1]; have := (inG_iff G _ _).mp a; omega), nI_toNat (x := nI (q.1 % G.C) + _) (by rw [e2]; have := (inG_iff G _ _).mp a; omega), e1, e2]
    have hp := plc_lt a
    generalize hP : plc G (((q.1 / G.C : Nat) : Int) + dR (st * j)) (((q.1 % G.C : Nat) : Int) + dC (st * j)) = P at *
    have hPn : P < 144 := by omega
    have hat : ∀ (F' : Nat → Int32) (A' : Nat → Nat → Int32), MZ (A' 0) G → f_X4_at (some 1617) (nI (((q.1 / G.C : Nat) : Int) + dR (st * j)).toNat) (nI (((q.1 % G.C : Nat) : Int) + dC (st * j)).toNat) (mset h F' A') = some (some (vI (nI P)), mset h F' A') := by
      intro F' A' hz'
      rw [m_at hL hz' hG, ← hP]; rfl
    rw [eb, m_gr11 hL, m_ci hL (hat _ _ hz'), m_ld11 hL hPn, bA11, hB.2.2 P hPn]
    by_cases w : bhas L P = false
    · rw [if_pos ((stpO_m6 hG hV P).mpr w), m_ci hL (hat _ _ hz'), m_ci hL (m_isLandAt hL hz' hG hp), m_ci hL (m_isLandAt hL hz' hG ht0)]
      simp only [bI_inj]
      by_cases v : G.l P = G.l t0
      · rw [if_pos (by rw [a, w, v]; simp)] at hlen2
        simp only [List.length_append, List.length_singleton] at hlen2
        rw [if_pos v, m_gr11 hL, m_ci hL (hat _ _ hz'), m_gr11 hL, m_gr10 hL, m_ld10 hL (by omega), bA10, hB.2.1 k q hq, m_ld11 hL (by omega), bA11, hB.2.2 q.1 (by omega), stpO_get hV.2.1 hq, li1, nI_add, m_st11 hL hPn, bA11, upA_upA, m_gr10 hL, m_gi12 hL, up_s, hB.1]
        rw [m_ci hL (hat (up F 12 (nI L.length)) (upA (upA A 10 s.2.1) 11 (up s.2.2 P (nI (q.2 + 1)))) hz), m_st10 hL (by omega), bA10, bA10s, m_gi12 hL, up_s, nI_add, m_pf12 hL, up_up]
        have := hk (nI (L.length + 1), up s.2.1 L.length (nI P), up s.2.2 P (nI (q.2 + 1))) ?_
        · rw [← h214] at this
          exact this
        · rw [a, w, v]
          simp only [beq_self_eq_true, Bool.and_self, Bool.not_false, if_true]
          refine ⟨by simp, ?_, ?_⟩
          · intro i p hp
            by_cases hi : i < L.length
            · rw [List.getElem?_append_left hi] at hp
              rw [up_n (by omega)]
              exact hB.2.1 i p hp
            · have hl : i < L.length + 1 := by
                have := (List.getElem?_eq_some_iff.mp hp).1
                simpa using this
              obtain rfl : i = L.length := by omega
              rw [List.getElem?_append_right (by omega)] at hp
              simp at hp
              subst hp
              rw [up_s]
          · intro t ht
            rw [stpO_app (q := (P, q.2 + 1)) w]
            unfold up
            show (if t = P then _ else s.2.2 t) = if t = P then _ else stpO L t
            rw [hB.2.2 t ht]
      · rw [if_neg v, ← eb, h214]
        refine hk s ?_
        rw [if_neg (by simp [v])]
        exact hB
    · rw [if_neg (fun e => w ((stpO_m6 hG hV P).mp e)), ← eb, h214]
      refine hk s ?_
      rw [if_neg (by simp [w])]
      exact hB
  · rw [if_neg a, h214]
    refine hk s ?_
    rw [if_neg (fun c => a (by simp only [Bool.and_eq_true] at c; exact c.1.1))]
    exact hB
