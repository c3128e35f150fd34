set_option maxRecDepth 100000
/-! the model's fill, islands, lakes, largestIsland -/
def filG (G : Gr) (L : BL) (b : Bool) : Gr := (G.R, G.C, G.o, fun j => if bhas L j then b else G.l j, fun j => if bhas L j = true ∧ b = false then -6 else G.p j)
theorem filG_nil (G : Gr) (b : Bool) : filG G [] b = G := by
  show (G.R, G.C, G.o, _, _) = G
  have e2 : (fun j => if bhas [] j = true ∧ b = false then (-6 : Int32) else G.p j) = G.p := by funext j; rw [if_neg (fun q => by simp [bhas] at q)]
  rw [e2]; rfl
theorem bhas_app (L : BL) (q : Nat × Nat) (j : Nat) : bhas (L ++ [q]) j = (bhas L j || q.1 == j) := by simp [bhas]
theorem filG_app (G : Gr) (L : BL) (q : Nat × Nat) (b : Bool) : putG (filG G L b) q.1 b = filG G (L ++ [q]) b := by
  show (G.R, G.C, G.o, _, _) = (G.R, G.C, G.o, _, _)
  congr 4
  · funext j
    show (if j = q.1 then b else if bhas L j then b else G.l j) = if bhas (L ++ [q]) j then b else G.l j
    rw [bhas_app]
    by_cases e : j = q.1
    · subst e; simp
    · rw [if_neg e]
      have : (q.1 == j) = false := by simpa using fun w => e w.symm
      rw [this, Bool.or_false]
  · funext j
    show (if j = q.1 ∧ b = false then -6 else if bhas L j = true ∧ b = false then -6 else G.p j) = if bhas (L ++ [q]) j = true ∧ b = false then -6 else G.p j
    rw [bhas_app]
    by_cases e : j = q.1
    · subst e; cases b <;> simp
    · rw [if_neg (fun w => e w.1)]
      have : (q.1 == j) = false := by simpa using fun w => e w.symm
      rw [this, Bool.or_false]
theorem filG_GV {G : Gr} (h : GV G) (L : BL) (b : Bool) : GV (filG G L b) := by
  obtain ⟨h1, h2⟩ := h
  refine ⟨h1, fun j hj => ?_⟩
  show isP (if bhas L j = true ∧ b = false then -6 else G.p j)
  split
  · exact .inl rfl
  · exact h2 j hj
theorem bhas_take {L : BL} {k : Nat} {q : Nat × Nat} (hn : (L.map (fun p => p.1)).Nodup) (hq : L[k]? = some q) : bhas (L.take k) q.1 = false := by
  unfold bhas
  rw [List.any_eq_false]
  intro p hp
  obtain ⟨i, hi⟩ := List.getElem?_of_mem hp
  have hik : i < k := by
    have := (List.getElem?_eq_some_iff.mp hi).1
    simp at this; omega
  rw [List.getElem?_take_of_lt hik] at hi
  intro e
  have h1 : (L.map (fun p => p.1))[i]? = some q.1 := by rw [List.getElem?_map, hi]; simpa using e
  have h2 : (L.map (fun p => p.1))[k]? = some q.1 := by rw [List.getElem?_map, hq]; rfl
  have hl : i < (L.map (fun p => p.1)).length := (List.getElem?_eq_some_iff.mp h1).1
  have := (List.getElem?_inj hl hn).mp (h1.trans h2.symm)
  omega
theorem take_app {L : BL} {k : Nat} {q : Nat × Nat} (hq : L[k]? = some q) : L.take (k + 1) = L.take k ++ [q] := by
  rw [List.take_succ, hq]; rfl
def filC (G : Gr) (t0 : Nat) (L : BL) (b : Bool) : Int32 := if G.l t0 != b then nI L.length else nI 0
def a_fill (S : St) (x y : Int32) (b : Bool) : Int32 × St :=
  if inG S.g x.toInt y.toInt then (filC S.g (plc S.g x.toInt y.toInt) (bfs S.g (plc S.g x.toInt y.toInt) 2) b, setg (reco S) (filG S.g (bfs S.g (plc S.g x.toInt y.toInt) 2) b)) else (-1, S)
theorem a_fill_SV {S : St} (hS : SV S) (x y : Int32) (b : Bool) : SV (a_fill S x y b).2 := by
  unfold a_fill
  split
  · exact setg_SV (reco_SV hS) (filG_GV hS.1 _ _)
  · exact hS
theorem m_fillL {h : AH} (hL : 608 ≤ h.length) {F : Nat → Int32} {A : Nat → Nat → Int32} {G : Gr} (hz : MZ (A 0) G) (hG : GV G) {t0 : Nat} {L : BL} (hV : LV G t0 L) (b : Bool) (h12 : F 12 = nI L.length) (h10 : ∀ (i : Nat) (p : Nat × Nat), L[i]? = some p → A 10 i = nI p.1) :
    ∃ z : Nat → Int32, f_X4_fill_32 FUEL (some 1617) (bI b) 0 0 (mset h F A) = some (some (vI (filC G t0 L b)), mset h F (upA A 0 z)) ∧ MZ z (filG G L b) := by
  obtain ⟨z0, z1, z2, z3⟩ := id hz
  obtain ⟨⟨g1, g2, g3, g4, g5, g6⟩, g7⟩ := id hG
  have hlen := hV.len hG
  rw [show mset h F A = mset h F (upA A 0 (A 0)) by rw [upA_self]]
  have c0 : nI (if G.l t0 != b then 0 else 0) = (0 : Int32) := by split <;> rfl
  refine Eq.mp (by rw [c0]; rfl) (loop1 (σ := Nat → Int32) L.length (fun n i z => f_X4_fill_32 n (some 1617) (bI b) (nI (if G.l t0 != b then i else 0)) (nI i) (mset h F (upA A 0 z))) (fun i z => MZ z (filG G (L.take i) b))
    (fun res => ∃ z : Nat → Int32, res = some (some (vI (filC G t0 L b)), mset h F (upA A 0 z)) ∧ MZ z (filG G L b)) ?_ ?_ 0 (A 0) FUEL (by omega) (by rw [List.take_zero, filG_nil]; exact hz) (by simp only [FUEL]; omega))
  · intro z n hz'
    rw [List.take_length] at hz'
    refine ⟨z, ?_, hz'⟩
    rw [f_X4_fill_32_s]
    simp only
    rw [m_gi12 hL, h12, if_pos (nI_le (Nat.le_refl _) (by omega))]
    unfold filC
    split <;> rfl
  · intro i z n hi hz' hk
    have hq : L[i]? = some (L[i]'hi) := List.getElem?_eq_getElem hi
    generalize L[i]'hi = q at hq
    have hq1 := hV.1 q (List.mem_of_getElem? hq)
    have hG' := filG_GV hG (L.take i) b
    have hz2 : MZ (upA A 0 z 0) (filG G (L.take i) b) := by rw [upA_s]; exact hz'
    have e10 : upA A 0 z 10 i = nI q.1 := h10 i q hq
    have el : (filG G (L.take i) b).l q.1 = G.l t0 := by
      show (if bhas (L.take i) q.1 then b else G.l q.1) = _
      rw [bhas_take hV.2.1 hq, hq1.2]; rfl
    have hb := m_becomes hL (F := F) (A := upA A 0 z) hz2 hG' (k := q.1) hq1.1 b
    rw [el, upA_s, upA_upA] at hb
    rw [f_X4_fill_32_s]
    simp only
    rw [m_gi12 hL, h12, if_neg (nI_ge hi (by omega)), m_gr10 hL, m_ld10 hL (by omega), e10, m_ci hL hb, ite_bI]
    have := hk (zput z q.1 b) (by rw [take_app hq, ← filG_app]; exact zput_MZ hG' hz' hq1.1 b)
    unfold f_X4_fill_63
    simp only [o_let_eq, li1, li0, nI_add]
    revert this
    cases (G.l t0 != b)
    · exact fun w => w
    · exact fun w => w
theorem m_fill {h : AH} (hL : 608 ≤ h.length) {F : Nat → Int32} {A : Nat → Nat → Int32} {S : St} (hI : MI F A S) (hS : SV S) (x y : Int32) (b : Bool) : ∃ F' A', f_X4_fill (some 1617) x y (bI b) (mset h F A) = some (some (vI (a_fill S x y b).1), mset h F' A') ∧ MI F' A' (a_fill S x y b).2 := by
  obtain ⟨s1, s2, s3, s4, s5, s6⟩ := id hS
  unfold f_X4_fill a_fill
  rw [m_ci hL (m_isTile hL hI.1 s1 x y), ite_bI]
  by_cases hin : inG S.g x.toInt y.toInt = true
  · rw [if_pos hin, if_pos hin]
    obtain ⟨r, c, hr, hc, rfl, rfl, e⟩ := inG_nI hin
    rw [e]
    have hk : S.g.C * r + c < S.g.N := rc_lt hr hc
    obtain ⟨u, P, r1, r2⟩ := m_record hL hI hS
    have hz : MZ (upA A 1 P 0) S.g := r2.1
    obtain ⟨s, e1, e2⟩ := m_findR hL hz s1 false (F := up F 2 u) hk
    rw [bI_f] at e1
    have hz2 : MZ (upA (upA (upA A 1 P) 10 s.2.1) 11 s.2.2 0) S.g := r2.1
    obtain ⟨z, e3, e4⟩ := m_fillL hL (F := up (up F 2 u) 12 s.1) hz2 s1 (bfs_LV hk 2) b ((up_s _ _ _).trans e2.1) e2.2.1
    refine ⟨_, _, ?_, (r2.bset s (h := h)).z e4⟩
    rw [m_cv hL r1, m_ci hL (m_at hL hz s1 r c), m_cv hL e1]
    exact e3
  · rw [if_neg hin, if_neg hin]
    exact ⟨F, A, rfl, hI⟩
/-! the regions of land or of water, in the order of their first tiles, as n tiles show them -/
abbrev RL2 : Type := List (Nat × BL)
def sees (R : RL2) (t : Nat) : Bool := R.any (fun r => bhas r.2 t)
def rgs (G : Gr) (b : Bool) (st : Nat) : Nat → RL2
  | 0 => []
  | n + 1 => if (G.l n == b) && !sees (rgs G b st n) n then rgs G b st n ++ [(n, bfs G n st)] else rgs G b st n
theorem rgs_yes {G : Gr} {b : Bool} {st n : Nat} (h : ((G.l n == b) && !sees (rgs G b st n) n) = true) : rgs G b st (n + 1) = rgs G b st n ++ [(n, bfs G n st)] := if_pos h
theorem rgs_no {G : Gr} {b : Bool} {st n : Nat} (h : ((G.l n == b) && !sees (rgs G b st n) n) = false) : rgs G b st (n + 1) = rgs G b st n := if_neg (by rw [h]; simp)
theorem m_seeNone {h : AH} (hL : 608 ≤ h.length) {F : Nat → Int32} {A : Nat → Nat → Int32} : f_X4_seeNone (some 1617) (mset h F A) = some (none, mset h F (upA A 16 (cpo (A 16) 0 144 (fun _ => 0)))) := by
  unfold f_X4_seeNone
  refine (congrArg (fun B => f_X4_seeNone_2 FUEL (some 1617) 0 (mset h F B)) (by rw [cpo_0, upA_self] : A = upA A 16 (cpo (A 16) 0 0 (fun _ => 0)))).trans ?_
  refine loopE 144 (fun n i => f_X4_seeNone_2 n (some 1617) (nI i) (mset h F (upA A 16 (cpo (A 16) 0 i (fun _ => 0))))) _ ?_ ?_ 0 FUEL (by omega) (by simp only [FUEL]; omega)
  · intro n
    rw [f_X4_seeNone_2_s]
    simp only
    rw [if_pos (by decide)]
  · intro i n hi hk
    rw [f_X4_seeNone_2_s, ← hk]
    simp only
    rw [if_neg (by rw [li144, nI_leI (by omega) (by omega)]; omega), m_gr16 hL, nar0, m_st16 hL (by omega), o_let_eq, li1, nI_add, upA_s, upA_upA]
    exact congrArg (fun q => f_X4_seeNone_2 n (some 1617) (nI (i + 1)) (mset h F (upA A 16 q))) (cpo_up0 (A 16) i (fun _ => 0))
theorem m_seeFound {h : AH} (hL : 608 ≤ h.length) {F : Nat → Int32} {A : Nat → Nat → Int32} {L : BL} (hlen : L.length ≤ 144) (hN : ∀ (p : Nat × Nat), p ∈ L → p.1 < 144) (h12 : F 12 = nI L.length) (h10 : ∀ (i : Nat) (p : Nat × Nat), L[i]? = some p → A 10 i = nI p.1) :
    f_X4_seeFound (some 1617) (mset h F A) = some (none, mset h F (upA A 16 (fun t => if bhas L t then 1 else A 16 t))) := by
  unfold f_X4_seeFound
  have e0 : (fun t => if bhas (L.take 0) t then 1 else A 16 t) = A 16 := by funext t; simp [bhas]
  refine (congrArg (fun B => f_X4_seeFound_2 FUEL (some 1617) 0 (mset h F B)) (by rw [e0, upA_self] : A = upA A 16 (fun t => if bhas (L.take 0) t then 1 else A 16 t))).trans ?_
  refine loopE L.length (fun n i => f_X4_seeFound_2 n (some 1617) (nI i) (mset h F (upA A 16 (fun t => if bhas (L.take i) t then 1 else A 16 t)))) _ ?_ ?_ 0 FUEL (by omega) (by simp only [FUEL]; omega)
  · intro n
    rw [f_X4_seeFound_2_s]
    simp only
    rw [m_gi12 hL, h12, if_pos (nI_le (Nat.le_refl _) (by omega)), List.take_length]
  · intro i n hi hk
    have hq : L[i]? = some (L[i]'hi) := List.getElem?_eq_getElem hi
    generalize L[i]'hi = q at hq
    have hq1 := hN q (List.mem_of_getElem? hq)
    have e10 : ∀ Y, upA A 16 Y 10 i = nI q.1 := fun _ => h10 i q hq
    rw [f_X4_seeFound_2_s, ← hk]
    simp only
    rw [m_gi12 hL, h12, if_neg (nI_ge hi (by omega)), m_gr16 hL, m_gr10 hL, m_ld10 hL (by omega), e10, nar1, m_st16 hL hq1, o_let_eq, li1, nI_add, upA_s, upA_upA]
    refine congrArg (fun q => f_X4_seeFound_2 n (some 1617) (nI (i + 1)) (mset h F (upA A 16 q))) ?_
    funext t
    show (if t = q.1 then (1 : Int32) else if bhas (L.take i) t then 1 else A 16 t) = if bhas (L.take (i + 1)) t then 1 else A 16 t
    rw [take_app hq, bhas_app]
    by_cases e : t = q.1
    · subst e; simp
    · rw [if_neg e]
      have : (q.1 == t) = false := by simpa using fun w => e w.symm
      rw [this, Bool.or_false]
/-- what the model's scan for regions keeps to -/
def SI (S : St) (b : Bool) (st i : Nat) (s : (Nat → Int32) × (Nat → Nat → Int32)) : Prop := MI s.1 s.2 S ∧ ∀ t, t < 144 → s.2 16 t = bI (sees (rgs S.g b st i) t)
theorem sees_app (R : RL2) (r : Nat × BL) (t : Nat) : sees (R ++ [r]) t = (sees R t || bhas r.2 t) := by simp [sees]
theorem m_scan {h : AH} (hL : 608 ≤ h.length) {S : St} (hS : SV S) {b b1 : Bool} {i : Nat} (hi : i < S.g.N) {s : (Nat → Int32) × (Nat → Nat → Int32)} (hs : SI S b (stB b1) i s) (hc : (S.g.l i == b) && !sees (rgs S.g b (stB b1) i) i) :
    ∃ s' s2 : (Nat → Int32) × (Nat → Nat → Int32), f_X4_findRegion (some 1617) (nI i) (bI b1) (mset h s.1 s.2) = some (none, mset h s2.1 s2.2) ∧ f_X4_seeFound (some 1617) (mset h s2.1 s2.2) = some (none, mset h s'.1 s'.2) ∧ SI S b (stB b1) (i + 1) s' ∧
      s'.1 12 = nI (bfs S.g i (stB b1)).length ∧ ∀ (j : Nat) (p : Nat × Nat), (bfs S.g i (stB b1))[j]? = some p → s'.2 10 j = nI p.1 := by
  obtain ⟨s1, e1, e2⟩ := m_findR hL hs.1.1 hS.1 b1 (F := s.1) hi
  have hV := bfs_LV hi (stB b1)
  have hf := m_seeFound hL (F := up s.1 12 s1.1) (A := upA (upA s.2 10 s1.2.1) 11 s1.2.2) (hV.len hS.1) (fun p hp => Nat.lt_of_lt_of_le (hV.1 p hp).1 hS.1.1.2.2.2.2.1) ((up_s _ _ _).trans e2.1) e2.2.1
  refine ⟨(up s.1 12 s1.1, upA (upA (upA s.2 10 s1.2.1) 11 s1.2.2) 16 (fun t => if bhas (bfs S.g i (stB b1)) t then 1 else upA (upA s.2 10 s1.2.1) 11 s1.2.2 16 t)), (up s.1 12 s1.1, upA (upA s.2 10 s1.2.1) 11 s1.2.2), e1, hf, ⟨?_, ?_⟩, (up_s s.1 12 s1.1).trans e2.1, e2.2.1⟩
  · exact hs.1.scr rfl rfl rfl rfl rfl rfl rfl rfl rfl
  · intro t ht
    show (if bhas (bfs S.g i (stB b1)) t then 1 else s.2 16 t) = _
    rw [hs.2 t ht]
    rw [rgs_yes hc, sees_app]
    show _ = bI (_ || bhas (bfs S.g i (stB b1)) t)
    cases bhas (bfs S.g i (stB b1)) t
    · simp
    · simp [bI]
theorem SI_skip {S : St} {b : Bool} {st i : Nat} {s : (Nat → Int32) × (Nat → Nat → Int32)} (hs : SI S b st i s) (hc : ((S.g.l i == b) && !sees (rgs S.g b st i) i) = false) : SI S b st (i + 1) s := by
  refine ⟨hs.1, fun t ht => ?_⟩
  rw [rgs_no hc]
  exact hs.2 t ht
theorem SI_0 {S : St} {b : Bool} {st : Nat} {F : Nat → Int32} {A : Nat → Nat → Int32} (hI : MI F A S) : SI S b st 0 (F, upA A 16 (cpo (A 16) 0 144 (fun _ => 0))) := by
  refine ⟨hI.scr rfl rfl rfl rfl rfl rfl rfl rfl rfl, fun t ht => ?_⟩
  show cpo (A 16) 0 144 (fun _ => 0) t = _
  rw [cpo_in (by omega)]; rfl
def a_islands (S : St) : Int32 := nI (rgs S.g true 1 S.g.N).length
theorem m_islands {h : AH} (hL : 608 ≤ h.length) {F : Nat → Int32} {A : Nat → Nat → Int32} {S : St} (hI : MI F A S) (hS : SV S) : ∃ F' A', f_X4_islands (some 1617) (mset h F A) = some (some (vI (a_islands S)), mset h F' A') ∧ MI F' A' S := by
  obtain ⟨s1, s2, s3, s4, s5, s6⟩ := id hS
  have hN := s1.1.2.2.2.2.1
  unfold f_X4_islands a_islands
  rw [m_cv hL (m_seeNone hL)]
  refine loop1 (σ := (Nat → Int32) × (Nat → Nat → Int32)) S.g.N (fun n i s => f_X4_islands_8 n (some 1617) (nI (rgs S.g true 1 i).length) (nI i) (mset h s.1 s.2)) (fun i s => SI S true 1 i s)
    (fun res => ∃ (F' : Nat → Int32) (A' : Nat → Nat → Int32), res = some (some (vI (nI (rgs S.g true 1 S.g.N).length)), mset h F' A') ∧ MI F' A' S) ?_ ?_ 0 (F, upA A 16 (cpo (A 16) 0 144 (fun _ => 0))) FUEL (by omega) (SI_0 hI) (by simp only [FUEL]; omega)
  · intro s n hs
    refine ⟨s.1, s.2, ?_, hs.1⟩
    rw [f_X4_islands_8_s]
    simp only
    rw [m_ci hL (m_tiles hL hs.1.1 s1), if_pos (nI_le (Nat.le_refl _) (by omega))]
  · intro i s n hi hs hk
    have hk2 : ∀ s', SI S true 1 (i + 1) s' → _ := hk
    rw [f_X4_islands_8_s]
    simp only
    rw [m_ci hL (m_tiles hL hs.1.1 s1), if_neg (nI_ge hi (by omega)), m_ci hL (m_isLandAt hL hs.1.1 s1 hi), ite_bI]
    unfold f_X4_islands_46
    simp only [o_let_eq, li1, nI_add]
    by_cases hl : S.g.l i = true
    · rw [if_pos hl, m_gr16 hL, m_ld16 hL (by omega), hs.2 i (by omega), ite_bI]
      by_cases hse : sees (rgs S.g true 1 i) i = true
      · rw [if_pos hse]
        have hc : ((S.g.l i == true) && !sees (rgs S.g true 1 i) i) = false := by rw [hse]; simp
        have := hk s (SI_skip hs hc)
        rw [rgs_no hc] at this
        exact this
      · rw [if_neg hse]
        have hc : ((S.g.l i == true) && !sees (rgs S.g true 1 i) i) = true := by rw [hl]; simpa using hse
        obtain ⟨s', s2, f1, f2, f3, f4, f5⟩ := m_scan hL hS (b1 := true) hi hs hc
        rw [bI_t, li1] at f1
        rw [m_cv hL f1, m_cv hL f2]
        have := hk s' f3
        rw [rgs_yes hc, List.length_append] at this
        exact this
    · rw [if_neg hl]
      have hc : ((S.g.l i == true) && !sees (rgs S.g true 1 i) i) = false := by simp [hl]
      have := hk s (SI_skip hs hc)
      rw [rgs_no hc] at this
      exact this
