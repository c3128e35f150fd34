set_option maxRecDepth 100000
/-! the model's lakes, largestIsland -/
theorem nI_p0 (a : Nat) : nI a + 0 = nI a := nI_add a 0
def insi (G : Gr) (k : Nat) : Bool := decide ((1 ≤ k / G.C ∧ k / G.C + 2 ≤ G.R) ∧ 1 ≤ k % G.C ∧ k % G.C + 2 ≤ G.C)
def ins (G : Gr) (L : BL) : Bool := L.all (fun p => insi G p.1)
theorem in2 {a R : Nat} (ha : a < 1000) (hR : R < 1000) : decide ((1 : Int32).toInt ≤ (nI a).toInt ∧ (nI a).toInt ≤ (nI R - nI 2).toInt) = decide (1 ≤ a ∧ a + 2 ≤ R) := by
  have h2 : (nI 2).toInt = 2 := by decide
  have hR' : (nI R).toInt = R := nI_toInt (by omega)
  have e : (nI R - nI 2).toInt = (R : Int) - 2 := by
    rw [toInt_sub_s (by rw [hR', h2]; omega) (by rw [hR', h2]; omega), hR', h2]
  rw [e, nI_toInt (by omega), ti1]
  rw [decide_eq_decide]
  omega
theorem m_isInside {h : AH} (hL : 608 ≤ h.length) {F : Nat → Int32} {A : Nat → Nat → Int32} {G : Gr} (hz : MZ (A 0) G) (hG : GV G) {t0 : Nat} {L : BL} (hV : LV G t0 L) (h12 : F 12 = nI L.length) (h10 : ∀ (i : Nat) (p : Nat × Nat), L[i]? = some p → A 10 i = nI p.1) :
    f_X4_isInside (some 1617) (mset h F A) = some (some (vI (bI (ins G L))), mset h F A) := by
  obtain ⟨z0, z1, z2, z3⟩ := id hz
  obtain ⟨⟨g1, g2, g3, g4, g5, g6⟩, g7⟩ := id hG
  have hlen := hV.len hG
  unfold f_X4_isInside
  have e0 : (1 : Int32) = bI (ins G (L.take 0)) := by simp [ins, bI]
  rw [e0]
  refine loopE L.length (fun n i => f_X4_isInside_4 n (some 1617) (bI (ins G (L.take i))) (nI i) (mset h F A)) _ ?_ ?_ 0 FUEL (by omega) (by simp only [FUEL]; omega)
  · intro n
    rw [f_X4_isInside_4_s]
    simp only
    rw [m_gi12 hL, h12, if_pos (nI_le (Nat.le_refl _) (by omega)), List.take_length, retz_bI]
  · intro i n hi hk
    have hq : L[i]? = some (L[i]'hi) := List.getElem?_eq_getElem hi
    generalize L[i]'hi = q at hq
    have hq1 := (hV.1 q (List.mem_of_getElem? hq)).1
    have hqN : q.1 < G.C * G.R := hq1
    obtain ⟨q1, q2, q3⟩ := k_rc hqN
    have hq3 : q.1 < 144 := by omega
    have et : ins G (L.take (i + 1)) = (ins G (L.take i) && insi G q.1) := by
      rw [take_app hq]; simp [ins]
    rw [f_X4_isInside_4_s, ← hk, et]
    simp only
    unfold f_X4_isInside_76 f_X4_isInside_77
    rw [m_gi12 hL, h12, if_neg (nI_ge hi (by omega)), ite_bI]
    simp only [o_let_eq, li1, nI_add]
    cases ins G (L.take i)
    · rfl
    · rw [if_pos rfl, m_gr10 hL, m_ld10 hL (by omega), h10 i q hq, m_gr0 hL, m_ld0 hL (by omega), z1, idiv_nI (by omega) (by omega) (by omega), m_gr0 hL, li0, m_ld0 hL (by omega), z0, li2, o_ci_eq (m_in _ _ _ _), ← li1, in2 (by omega) (by omega), ← li0, ite_bI]
      unfold insi
      rw [Bool.true_and]
      by_cases w : 1 ≤ q.1 / G.C ∧ q.1 / G.C + 2 ≤ G.R
      · rw [if_pos (decide_eq_true w), m_gr10 hL, m_ld10 hL (by omega), h10 i q hq, m_gr0 hL, li1, m_ld0 hL (by omega), z1, irem_nI (by omega) (by omega) (by omega), m_gr0 hL, m_ld0 hL (by omega), z1, o_ci_eq (m_in _ _ _ _), ← li1, in2 (by omega) (by omega), ite_bI]
        by_cases v : 1 ≤ q.1 % G.C ∧ q.1 % G.C + 2 ≤ G.C
        · rw [if_pos (decide_eq_true v), decide_eq_true ⟨w, v⟩]; rfl
        · rw [if_neg (fun e => v (of_decide_eq_true e)), decide_eq_false (fun e => v e.2)]; rfl
      · rw [if_neg (fun e => w (of_decide_eq_true e)), decide_eq_false (fun e => w e.1)]; rfl
def lakN (G : Gr) (R : RL2) : Nat := (R.filter (fun r => ins G r.2)).length
def a_lakes (S : St) : Int32 := nI (lakN S.g (rgs S.g false 2 S.g.N))
theorem lakN_app (G : Gr) (R : RL2) (r : Nat × BL) : lakN G (R ++ [r]) = lakN G R + (if ins G r.2 then 1 else 0) := by
  unfold lakN
  rw [List.filter_append, List.length_append]
  congr 1
  by_cases e : ins G r.2 = true <;> simp [e]
theorem m_lakes {h : AH} (hL : 608 ≤ h.length) {F : Nat → Int32} {A : Nat → Nat → Int32} {S : St} (hI : MI F A S) (hS : SV S) : ∃ (F' : Nat → Int32) (A' : Nat → Nat → Int32), f_X4_lakes (some 1617) (mset h F A) = some (some (vI (a_lakes S)), mset h F' A') ∧ MI F' A' S := by
  obtain ⟨s1, s2, s3, s4, s5, s6⟩ := id hS
  have hN := s1.1.2.2.2.2.1
  unfold f_X4_lakes a_lakes
  rw [m_cv hL (m_seeNone hL)]
  refine loop1 (σ := (Nat → Int32) × (Nat → Nat → Int32)) S.g.N (fun n i s => f_X4_lakes_8 n (some 1617) (nI (lakN S.g (rgs S.g false 2 i))) (nI i) (mset h s.1 s.2)) (fun i s => SI S false 2 i s)
    (fun res => ∃ (F' : Nat → Int32) (A' : Nat → Nat → Int32), res = some (some (vI (nI (lakN S.g (rgs S.g false 2 S.g.N)))), mset h F' A') ∧ MI F' A' S) ?_ ?_ 0 (F, upA A 16 (cpo (A 16) 0 144 (fun _ => 0))) FUEL (by omega) (SI_0 hI) (by simp only [FUEL]; omega)
  · intro s n hs
    refine ⟨s.1, s.2, ?_, hs.1⟩
    rw [f_X4_lakes_8_s]
    simp only
    rw [m_ci hL (m_tiles hL hs.1.1 s1), if_pos (nI_le (Nat.le_refl _) (by omega))]
  · intro i s n hi hs hk
    rw [f_X4_lakes_8_s]
    simp only
    rw [m_ci hL (m_tiles hL hs.1.1 s1), if_neg (nI_ge hi (by omega)), m_ci hL (m_isLandAt hL hs.1.1 s1 hi), ite_bI]
    unfold f_X4_lakes_56
    unfold f_X4_lakes_58
    simp only [o_let_eq, li1, nI_add, nI_p0]
    by_cases hl : S.g.l i = true
    · rw [if_pos hl]
      have hc : ((S.g.l i == false) && !sees (rgs S.g false 2 i) i) = false := by simp [hl]
      have := hk s (SI_skip hs hc)
      rw [rgs_no hc] at this
      exact this
    · rw [if_neg hl, m_gr16 hL, m_ld16 hL (by omega), hs.2 i (by omega), ite_bI]
      by_cases hse : sees (rgs S.g false 2 i) i = true
      · rw [if_pos hse]
        have hc : ((S.g.l i == false) && !sees (rgs S.g false 2 i) i) = false := by rw [hse]; simp
        have := hk s (SI_skip hs hc)
        rw [rgs_no hc] at this
        exact this
      · rw [if_neg hse]
        have hc : ((S.g.l i == false) && !sees (rgs S.g false 2 i) i) = true := by
          have e : S.g.l i = false := by simpa using hl
          rw [e]; simpa using hse
        obtain ⟨s', s2, f1, f2, f3, f4, f5⟩ := m_scan hL hS (b1 := false) hi hs hc
        rw [bI_f] at f1
        rw [m_cv hL f1, m_cv hL f2, m_ci hL (m_isInside hL f3.1.1 s1 (bfs_LV hi 2) f4 f5), ite_bI]
        have := hk s' f3
        have hc' : ((S.g.l i == false) && !sees (rgs S.g false (stB false) i) i) = true := hc
        have er : rgs S.g false 2 (i + 1) = rgs S.g false 2 i ++ [(i, bfs S.g i 2)] := rgs_yes hc
        rw [er, lakN_app] at this
        revert this
        show (∃ _, _) → _
        cases ins S.g (bfs S.g i 2)
        · exact fun w => w
        · exact fun w => w
/-- the largest region: what is told of its first tile, and how many tiles it has -/
def lgst (G : Gr) (R : RL2) : Int32 × Nat := R.foldl (fun b r => if b.2 < r.2.length then (told G r.1, r.2.length) else b) (-6, 0)
theorem lgst_app (G : Gr) (R : RL2) (r : Nat × BL) : lgst G (R ++ [r]) = if (lgst G R).2 < r.2.length then (told G r.1, r.2.length) else lgst G R := by
  unfold lgst; rw [List.foldl_append]; rfl
theorem lgst_le {G : Gr} : ∀ {R : RL2}, (∀ (r : Nat × BL), r ∈ R → r.2.length ≤ 144) → (lgst G R).2 ≤ 144 := by
  intro R
  have : ∀ (R : RL2) (b : Int32 × Nat), b.2 ≤ 144 → (∀ (r : Nat × BL), r ∈ R → r.2.length ≤ 144) → (R.foldl (fun b r => if b.2 < r.2.length then (told G r.1, r.2.length) else b) b).2 ≤ 144 := by
    intro R
    induction R with
    | nil => intro b hb _; exact hb
    | cons a t ih =>
      intro b hb h
      refine ih _ ?_ (fun r hr => h r (List.mem_cons_of_mem _ hr))
      show (if b.2 < a.2.length then (told G a.1, a.2.length) else b).2 ≤ 144
      split
      · exact h a List.mem_cons_self
      · exact hb
  exact this R _ (by show 0 ≤ 144; omega)
theorem rgs_len {G : Gr} (hG : GV G) {b : Bool} {st : Nat} : ∀ (n : Nat), n ≤ G.N → ∀ (r : Nat × BL), r ∈ rgs G b st n → r.1 < G.N ∧ r.2 = bfs G r.1 st ∧ r.2.length ≤ 144
  | 0, _, r, hr => by cases hr
  | n + 1, hn, r, hr => by
    by_cases h : ((G.l n == b) && !sees (rgs G b st n) n) = true
    · rw [rgs_yes h] at hr
      rcases List.mem_append.mp hr with hr | hr
      · exact rgs_len hG n (by omega) r hr
      · have : r = (n, bfs G n st) := by simpa using hr
        subst this
        exact ⟨by show n < G.N; omega, rfl, (bfs_LV (by omega) st).len hG⟩
    · rw [rgs_no (by simpa using h)] at hr
      exact rgs_len hG n (by omega) r hr
def a_largest (S : St) : Int32 := (lgst S.g (rgs S.g true 1 S.g.N)).1
theorem m_largest {h : AH} (hL : 608 ≤ h.length) {F : Nat → Int32} {A : Nat → Nat → Int32} {S : St} (hI : MI F A S) (hS : SV S) : ∃ (F' : Nat → Int32) (A' : Nat → Nat → Int32), f_X4_largestIsland (some 1617) (mset h F A) = some (some (vI (a_largest S)), mset h F' A') ∧ MI F' A' S := by
  obtain ⟨s1, s2, s3, s4, s5, s6⟩ := id hS
  have hN := s1.1.2.2.2.2.1
  unfold f_X4_largestIsland a_largest
  rw [m_cv hL (m_seeNone hL)]
  refine loop1 (σ := (Nat → Int32) × (Nat → Nat → Int32)) S.g.N (fun n i s => f_X4_largestIsland_11 n (some 1617) (lgst S.g (rgs S.g true 1 i)).1 (nI (lgst S.g (rgs S.g true 1 i)).2) (nI i) (mset h s.1 s.2)) (fun i s => SI S true 1 i s)
    (fun res => ∃ (F' : Nat → Int32) (A' : Nat → Nat → Int32), res = some (some (vI (lgst S.g (rgs S.g true 1 S.g.N)).1), mset h F' A') ∧ MI F' A' S) ?_ ?_ 0 (F, upA A 16 (cpo (A 16) 0 144 (fun _ => 0))) FUEL (by omega) (SI_0 hI) (by simp only [FUEL]; omega)
  · intro s n hs
    refine ⟨s.1, s.2, ?_, hs.1⟩
    rw [f_X4_largestIsland_11_s]
    simp only
    rw [m_ci hL (m_tiles hL hs.1.1 s1), if_pos (nI_le (Nat.le_refl _) (by omega))]
  · intro i s n hi hs hk
    rw [f_X4_largestIsland_11_s]
    simp only
    rw [m_ci hL (m_tiles hL hs.1.1 s1), if_neg (nI_ge hi (by omega)), m_ci hL (m_isLandAt hL hs.1.1 s1 hi), ite_bI]
    unfold f_X4_largestIsland_63
    unfold f_X4_largestIsland_80
    unfold f_X4_largestIsland_81
    simp only [o_let_eq, li1, nI_add]
    by_cases hl : S.g.l i = true
    · rw [if_pos hl, m_gr16 hL, m_ld16 hL (by omega), hs.2 i (by omega), ite_bI]
      by_cases hse : sees (rgs S.g true 1 i) i = true
      · rw [if_pos hse]
        have hc : ((S.g.l i == true) && !sees (rgs S.g true 1 i) i) = false := by rw [hse]; simp
        have := hk s (SI_skip hs hc)
        rw [rgs_no hc] at this
        exact this
      · rw [if_neg hse]
        have hc : ((S.g.l i == true) && !sees (rgs S.g true 1 i) i) = true := by rw [hl]; simpa using hse
        obtain ⟨s', s2, f1, f2, f3, f4, f5⟩ := m_scan hL hS (b1 := true) hi hs hc
        rw [bI_t, li1] at f1
        have hb : (bfs S.g i (stB true)).length ≤ 144 := (bfs_LV hi _).len s1
        have hle := lgst_le (G := S.g) (fun r hr => (rgs_len s1 (b := true) (st := 1) i (by omega) r hr).2.2)
        rw [m_cv hL f1, m_cv hL f2, m_gi12 hL, f4]
        have := hk s' f3
        have er : rgs S.g true 1 (i + 1) = rgs S.g true 1 i ++ [(i, bfs S.g i 1)] := rgs_yes hc
        rw [er, lgst_app] at this
        have eb : (bfs S.g i (stB true)).length = (bfs S.g i 1).length := rfl
        rw [eb]
        by_cases w : (lgst S.g (rgs S.g true 1 i)).2 < (bfs S.g i 1).length
        · rw [if_neg (by rw [nI_leI (by omega) (by omega)]; omega), m_ci hL (m_told hL f3.1.1 s1 hi), m_gi12 hL, f4, eb, if_neg (by rw [nI_leI (by omega) (by omega)]; omega), m_gi12 hL, f4]
          rw [if_pos w] at this
          exact this
        · rw [if_pos (by rw [nI_leI (by omega) (by omega)]; omega), m_gi12 hL, f4, eb, if_pos (by rw [nI_leI (by omega) (by omega)]; omega)]
          rw [if_neg w] at this
          exact this
    · rw [if_neg hl]
      have hc : ((S.g.l i == true) && !sees (rgs S.g true 1 i) i) = false := by simp [hl]
      have := hk s (SI_skip hs hc)
      rw [rgs_no hc] at this
      exact this
