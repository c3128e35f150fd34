set_option maxRecDepth 100000
/-! the model's search, whole; fill, region, way -/
abbrev B3 : Type := Int32 × (Nat → Int32) × (Nat → Int32)
theorem bgo_LV {G : Gr} {t0 st : Nat} : ∀ (e k : Nat) {L : BL}, LV G t0 L → LV G t0 (bgo G t0 st e k L)
  | 0, _, _, h => h
  | e + 1, k, L, h => by
    unfold bgo
    cases hq : L[k]? with
    | none => exact h
    | some q => exact bgo_LV e (k + 1) (h.dj hq _)
theorem bfs_LV {G : Gr} {t0 : Nat} (h : t0 < G.N) (st : Nat) : LV G t0 (bfs G t0 st) := bgo_LV _ _ (LV.one h)
theorem st_ndir {st : Nat} (hst : st = 1 ∨ st = 2) : st * ndir st = 8 := by rcases hst with e | e <;> subst e <;> rfl
theorem m_bfsD {h : AH} (hL : 608 ≤ h.length) {F : Nat → Int32} {A : Nat → Nat → Int32} {G : Gr} (hz : MZ (A 0) G) (hG : GV G) {t0 st k : Nat} (hst : st = 1 ∨ st = 2) (ht0 : t0 < G.N) {L : BL} (hV : LV G t0 L) {q : Nat × Nat} (hq : L[k]? = some q) {s : B3} (hB : BR L s.1 s.2.1 s.2.2)
    (k44 : Rf → Int32 → Int32 → Int32 → AH → Res) (Q : Res → Prop)
    (hk : ∀ s' : B3, BR (bdj G t0 st q L (ndir st)) s'.1 s'.2.1 s'.2.2 → Q (k44 (some 1617) (nI t0) (bI (decide (st = 1))) (nI (k + 1)) (bset h F A s'))) :
    Q (f_X4_findRegion_85 k44 FUEL (some 1617) (nI t0) (bI (decide (st = 1))) (nI k) (nI (q.1 / G.C)) (nI (q.1 % G.C)) 0 (bset h F A s)) := by
  have hn : ndir st ≤ 8 := by rcases hst with e | e <;> subst e <;> decide
  refine loop1 (σ := B3) (ndir st) (fun n j s => f_X4_findRegion_85 k44 n (some 1617) (nI t0) (bI (decide (st = 1))) (nI k) (nI (q.1 / G.C)) (nI (q.1 % G.C)) (nI (st * j)) (bset h F A s)) (fun j s => BR (bdj G t0 st q L j) s.1 s.2.1 s.2.2) Q ?_ ?_ 0 s FUEL (by omega) hB (by simp only [FUEL]; omega)
  · intro s n hs
    rw [f_X4_findRegion_85_s, st_ndir hst]
    simp only
    rw [if_pos (by decide), o_let_eq, li1, nI_add]
    exact hk s hs
  · intro j s n hj hs hk'
    exact m_bfsS hL hz hG hst ht0 (hV.dj hq j) (bdj_get hq j) hs k44 n hj Q hk'
theorem m_bfsO {h : AH} (hL : 608 ≤ h.length) {F : Nat → Int32} {A : Nat → Nat → Int32} {G : Gr} (hz : MZ (A 0) G) (hG : GV G) {t0 st : Nat} (hst : st = 1 ∨ st = 2) (ht0 : t0 < G.N) : ∀ (e k : Nat), k + e = 145 → ∀ (n : Nat) (L : BL) (s : B3), e < n → k ≤ L.length → LV G t0 L → BR L s.1 s.2.1 s.2.2 →
    ∃ s' : B3, f_X4_findRegion_44 n (some 1617) (nI t0) (bI (decide (st = 1))) (nI k) (bset h F A s) = some (none, bset h F A s') ∧ BR (bgo G t0 st e k L) s'.1 s'.2.1 s'.2.2
  | 0, k, hk, n, L, s, _, hkl, hV, hB => by
    have := hV.len hG
    omega
  | e + 1, k, hk, n, L, s, hn, hkl, hV, hB => by
    obtain ⟨z0, z1, z2, z3⟩ := id hz
    obtain ⟨⟨g1, g2, g3, g4, g5, g6⟩, g7⟩ := id hG
    obtain ⟨n, rfl⟩ : ∃ m, n = m + 1 := ⟨n - 1, by omega⟩
    have hlen := hV.len hG
    have eb : bset h F A s = mset h (up F 12 s.1) (upA (upA A 10 s.2.1) 11 s.2.2) := rfl
    rw [f_X4_findRegion_44_s]
    simp only
    rw [eb, m_gi12 hL, up_s, hB.1]
    unfold bgo
    by_cases h2 : k < L.length
    · have hq : L[k]? = some (L[k]'h2) := List.getElem?_eq_getElem h2
      rw [hq]
      simp only
      generalize L[k]'h2 = q at hq
      have hq1 := hV.1 q (List.mem_of_getElem? hq)
      have hqN : q.1 < G.C * G.R := hq1.1
      have hq3 : q.1 < 144 := by omega
      rw [if_neg (nI_ge h2 (by omega)), m_gr10 hL, m_ld10 hL (by omega), bA10, hB.2.1 k q hq, m_gr0 hL, li1, m_ld0 hL (by omega), bA0, z1, idiv_nI (by omega) (by omega) (by omega), m_gr10 hL, m_ld10 hL (by omega), bA10, hB.2.1 k q hq, m_gr0 hL, m_ld0 hL (by omega), bA0, z1, irem_nI (by omega) (by omega) (by omega)]
      rw [← hB.1, ← eb]
      refine m_bfsD hL hz hG hst ht0 hV hq hB _ (fun res => ∃ s' : B3, res = some (none, bset h F A s') ∧ BR (bgo G t0 st e (k + 1) (bdj G t0 st q L (ndir st))) s'.1 s'.2.1 s'.2.2) ?_
      intro s' hs'
      have hk1 : k + 1 ≤ (bdj G t0 st q L (ndir st)).length := (List.getElem?_eq_some_iff.mp (bdj_get (st := st) (q' := q) (G := G) (t0 := t0) hq (ndir st))).1
      exact m_bfsO hL hz hG hst ht0 e (k + 1) (by omega) n _ s' (by omega) hk1 (hV.dj hq _) hs'
    · rw [if_pos (nI_le (by omega) (by omega)), List.getElem?_eq_none (by omega)]
      refine ⟨s, ?_, hB⟩
      rw [← hB.1]; rfl
theorem m_findRegion {h : AH} (hL : 608 ≤ h.length) {F : Nat → Int32} {A : Nat → Nat → Int32} {G : Gr} (hz : MZ (A 0) G) (hG : GV G) {t0 st : Nat} (hst : st = 1 ∨ st = 2) (ht0 : t0 < G.N) : ∃ s : B3, f_X4_findRegion (some 1617) (nI t0) (bI (decide (st = 1))) (mset h F A) = some (none, bset h F A s) ∧ BR (bfs G t0 st) s.1 s.2.1 s.2.2 := by
  obtain ⟨z0, z1, z2, z3⟩ := id hz
  obtain ⟨⟨g1, g2, g3, g4, g5, g6⟩, g7⟩ := id hG
  have ht2 : t0 < G.C * G.R := ht0
  unfold f_X4_findRegion
  rw [show mset h F A = mset h F (upA A 11 (cpo (A 11) 0 0 (fun _ => -6))) by rw [cpo_0, upA_self]]
  refine loop1 (σ := Unit) 144 (fun n i _ => f_X4_findRegion_2 n (some 1617) (nI t0) (bI (decide (st = 1))) (nI i) (mset h F (upA A 11 (cpo (A 11) 0 i (fun _ => -6))))) (fun _ _ => True)
    (fun res => ∃ s : B3, res = some (none, bset h F A s) ∧ BR (bfs G t0 st) s.1 s.2.1 s.2.2) ?_ ?_ 0 () FUEL (by omega) trivial (by simp only [FUEL]; omega)
  · intro _ n _
    rw [f_X4_findRegion_2_s]
    simp only
    rw [if_pos (by decide), m_gr11 hL, m_st11 hL (by omega), m_gr10 hL, li0, m_st10 hL (by omega), m_pf12 hL, upA_s, upA_upA]
    have e10 : upA A 11 (up (cpo (A 11) 0 144 (fun _ => -6)) t0 (nI 0)) 10 = A 10 := rfl
    have eA : upA (upA A 11 (up (cpo (A 11) 0 144 (fun _ => -6)) t0 (nI 0))) 10 (up (A 10) 0 (nI t0)) = upA (upA A 10 (up (A 10) 0 (nI t0))) 11 (up (cpo (A 11) 0 144 (fun _ => -6)) t0 (nI 0)) := by
      funext j
      by_cases a : j = 10
      · subst a; rw [upA_s, upA_n (by omega), upA_s]
      · rw [upA_n a]
        by_cases b : j = 11
        · subst b; rw [upA_s, upA_s]
        · rw [upA_n b, upA_n b, upA_n a]
    rw [e10, eA]
    refine m_bfsO hL hz hG hst ht0 145 0 (by omega) FUEL [(t0, 0)] (1, up (A 10) 0 (nI t0), up (cpo (A 11) 0 144 (fun _ => -6)) t0 (nI 0)) (by simp only [FUEL]; omega) (by simp) (LV.one ht0) ⟨rfl, ?_, ?_⟩
    · intro i p hp
      cases i with
      | zero => simp at hp; subst hp; exact up_s (A 10) 0 (nI t0)
      | succ i => simp at hp
    · intro t ht
      unfold stpO up
      show (if t = t0 then nI 0 else cpo (A 11) 0 144 (fun _ => -6) t) = _
      by_cases e : t = t0
      · subst e; simp
      · rw [if_neg e, cpo_in (by omega)]
        simp [Ne.symm e]
  · intro i _ n hi _ hk
    rw [f_X4_findRegion_2_s]
    simp only
    rw [if_neg (by rw [li144, nI_leI (by omega) (by omega)]; omega), m_gr11 hL, m_st11 hL (by omega), o_let_eq, li1, nI_add, upA_s, upA_upA]
    have := hk () trivial
    rw [← cpo_up0] at this
    exact this
/-- the state is as before but for the search's rows -/
theorem MI.bset {h : AH} {F : Nat → Int32} {A : Nat → Nat → Int32} {S : St} (hI : MI F A S) (s : B3) : MI (up F 12 s.1) (upA (upA A 10 s.2.1) 11 s.2.2) S :=
  hI.scr rfl rfl rfl rfl rfl rfl rfl rfl rfl
theorem st_of (b : Bool) : ∃ st, (st = 1 ∨ st = 2) ∧ bI b = bI (decide (st = 1)) ∧ st = (if b then 1 else 2) := by
  cases b
  · exact ⟨2, .inr rfl, rfl, rfl⟩
  · exact ⟨1, .inl rfl, rfl, rfl⟩
def stB (b : Bool) : Nat := if b then 1 else 2
theorem stB_ok (b : Bool) : stB b = 1 ∨ stB b = 2 := by cases b <;> simp [stB]
theorem stB_d (b : Bool) : decide (stB b = 1) = b := by cases b <;> rfl
theorem m_findR {h : AH} (hL : 608 ≤ h.length) {F : Nat → Int32} {A : Nat → Nat → Int32} {G : Gr} (hz : MZ (A 0) G) (hG : GV G) {t0 : Nat} (b : Bool) (ht0 : t0 < G.N) : ∃ s : B3, f_X4_findRegion (some 1617) (nI t0) (bI b) (mset h F A) = some (none, bset h F A s) ∧ BR (bfs G t0 (stB b)) s.1 s.2.1 s.2.2 := by
  have := m_findRegion hL hz hG (stB_ok b) ht0 (F := F)
  rw [stB_d] at this
  exact this
def a_region (S : St) (x y : Int32) (b : Bool) : Int32 := if inG S.g x.toInt y.toInt then nI (bfs S.g (plc S.g x.toInt y.toInt) (stB b)).length else -1
theorem m_region {h : AH} (hL : 608 ≤ h.length) {F : Nat → Int32} {A : Nat → Nat → Int32} {S : St} (hI : MI F A S) (hS : SV S) (x y : Int32) (b : Bool) : ∃ F' A', f_X4_region (some 1617) x y (bI b) (mset h F A) = some (some (vI (a_region S x y b)), mset h F' A') ∧ MI F' A' S := by
  obtain ⟨s1, s2, s3, s4, s5, s6⟩ := id hS
  unfold f_X4_region a_region
  rw [m_ci hL (m_isTile hL hI.1 s1 x y), ite_bI]
  by_cases hin : inG S.g x.toInt y.toInt = true
  · rw [if_pos hin, if_pos hin]
    obtain ⟨r, c, hr, hc, rfl, rfl, e⟩ := inG_nI hin
    rw [e]
    obtain ⟨s, e1, e2⟩ := m_findR hL hI.1 s1 b (F := F) (rc_lt hr hc)
    refine ⟨_, _, ?_, hI.bset s (h := h)⟩
    rw [m_ci hL (m_at hL hI.1 s1 r c), m_cv hL e1]
    unfold bset
    rw [m_gi12 hL, up_s, e2.1]
  · rw [if_neg hin, if_neg hin]
    exact ⟨F, A, rfl, hI⟩
def a_way (S : St) (x y x' y' : Int32) : Int32 := if inG S.g x.toInt y.toInt && inG S.g x'.toInt y'.toInt then stpO (bfs S.g (plc S.g x.toInt y.toInt) 2) (plc S.g x'.toInt y'.toInt) else -1
theorem m_way {h : AH} (hL : 608 ≤ h.length) {F : Nat → Int32} {A : Nat → Nat → Int32} {S : St} (hI : MI F A S) (hS : SV S) (x y x' y' : Int32) : ∃ F' A', f_X4_way (some 1617) x y x' y' (mset h F A) = some (some (vI (a_way S x y x' y')), mset h F' A') ∧ MI F' A' S := by
  obtain ⟨s1, s2, s3, s4, s5, s6⟩ := id hS
  unfold f_X4_way a_way
  rw [m_ci hL (m_isTile hL hI.1 s1 x y), ite_bI]
  by_cases hin : inG S.g x.toInt y.toInt = true
  · rw [if_pos hin, m_ci hL (m_isTile hL hI.1 s1 x' y'), ite_bI]
    by_cases hin2 : inG S.g x'.toInt y'.toInt = true
    · rw [if_pos hin2, if_pos (by rw [hin, hin2]; rfl)]
      obtain ⟨r, c, hr, hc, rfl, rfl, e⟩ := inG_nI hin
      obtain ⟨r', c', hr', hc', rfl, rfl, e'⟩ := inG_nI hin2
      rw [e, e']
      obtain ⟨s, e1, e2⟩ := m_findR hL hI.1 s1 false (F := F) (rc_lt hr hc)
      have hk : S.g.C * r' + c' < 144 := Nat.lt_of_lt_of_le (rc_lt hr' hc') s1.1.2.2.2.2.1
      have hz' : MZ (upA (upA A 10 s.2.1) 11 s.2.2 0) S.g := hI.1
      refine ⟨_, _, ?_, hI.bset s (h := h)⟩
      rw [m_ci hL (m_at hL hI.1 s1 r c)]
      rw [bI_f] at e1
      rw [m_cv hL e1]
      unfold bset
      rw [m_gr11 hL, m_ci hL (m_at hL hz' s1 r' c'), m_ld11 hL hk, bA11, e2.2.2 _ hk]
      rfl
    · rw [if_neg hin2, if_neg (by simp [hin2])]
      exact ⟨F, A, rfl, hI⟩
  · rw [if_neg hin, if_neg (by simp [hin])]
    exact ⟨F, A, rfl, hI⟩
