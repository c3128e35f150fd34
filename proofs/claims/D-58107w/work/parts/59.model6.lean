set_option maxRecDepth 100000
/-! the model's pin, unpin, brush, smooth, turn, coastIfChanged, text -/
def pinG (G : Gr) (k : Nat) (x : Int32) : Gr := (G.R, G.C, G.o, G.l, up G.p k x)
theorem pinG_GV {G : Gr} (h : GV G) {k : Nat} {x : Int32} (hx : isP x) : GV (pinG G k x) := by
  obtain ⟨h1, h2⟩ := h
  refine ⟨h1, fun j hj => ?_⟩
  show isP (up G.p k x j)
  unfold up
  split
  · exact hx
  · exact h2 j hj
theorem zpin_MZ {z : Nat → Int32} {G : Gr} (hG : GV G) (hz : MZ z G) {k : Nat} (hk : k < G.N) (x : Int32) : MZ (up z (147 + k) x) (pinG G k x) := by
  obtain ⟨z0, z1, z2, z3⟩ := id hz
  obtain ⟨⟨g1, g2, g3, g4, g5, g6⟩, g7⟩ := id hG
  have hk2 : k < G.C * G.R := hk
  refine ⟨(up_n (by omega)).trans z0, (up_n (by omega)).trans z1, (up_n (by omega)).trans z2, fun j hj => ?_⟩
  have hj : j < G.N := hj
  have hj2 : j < G.C * G.R := hj
  constructor
  · rw [up_n (by omega)]; exact (z3 j hj).1
  · show _ = up G.p k x j
    by_cases e : j = k
    · subst e; rw [up_s, up_s]
    · rw [up_n (by omega), up_n e, (z3 j hj).2]
def a_pin (S : St) (x y s : Int32) : Int32 × St :=
  if inG S.g x.toInt y.toInt ∧ 0 ≤ s.toInt ∧ s.toInt ≤ 46 then
    (if S.g.l (plc S.g x.toInt y.toInt) then (nI (flt (pinG S.g (plc S.g x.toInt y.toInt) s) (plc S.g x.toInt y.toInt)), setg (reco S) (pinG S.g (plc S.g x.toInt y.toInt) s)) else (-3, S))
  else (-1, S)
theorem a_pin_SV {S : St} (hS : SV S) (x y s : Int32) : SV (a_pin S x y s).2 := by
  unfold a_pin
  split
  · rename_i h
    split
    · rename_i hl
      exact setg_SV (reco_SV hS) (pinG_GV hS.1 (.inr (shp_or.mp h.2)))
    · exact hS
  · exact hS
theorem m_pin {h : AH} (hL : 608 ≤ h.length) {F : Nat → Int32} {A : Nat → Nat → Int32} {S : St} (hI : MI F A S) (hS : SV S) (x y s : Int32) : ∃ F' A', f_X4_pin (some 1617) x y s (mset h F A) = some (some (vI (a_pin S x y s).1), mset h F' A') ∧ MI F' A' (a_pin S x y s).2 := by
  obtain ⟨s1, s2, s3, s4, s5, s6⟩ := id hS
  unfold f_X4_pin a_pin
  rw [m_ci hL (m_isTile hL hI.1 s1 x y), ite_bI]
  by_cases hin : inG S.g x.toInt y.toInt = true
  · rw [if_pos hin, o_ci_eq (m_isShape _ _), ite_bI]
    by_cases hsh : 0 ≤ s.toInt ∧ s.toInt ≤ 46
    · rw [if_pos (decide_eq_true hsh), if_pos ⟨hin, hsh⟩]
      obtain ⟨r, c, hr, hc, rfl, rfl, e⟩ := inG_nI hin
      rw [e]
      have hk : S.g.C * r + c < S.g.N := rc_lt hr hc
      have hk2 : S.g.C * r + c < S.g.C * S.g.R := hk
      have hN := s1.1.2.2.2.2.1
      rw [m_ci hL (m_at hL hI.1 s1 r c), m_ci hL (m_isLandAt hL hI.1 s1 hk), ite_bI]
      by_cases hl : S.g.l (S.g.C * r + c) = true
      · rw [if_pos hl, if_pos hl]
        obtain ⟨u, P, r1, r2⟩ := m_record hL hI hS
        obtain ⟨j1, j2, j3, j4, j5, j6, j7, j8⟩ := id r2
        have hz : MZ (upA A 1 P 0) S.g := j1
        have hzO := zpin_MZ s1 hz hk s
        have hp : GV (pinG S.g (S.g.C * r + c) s) := pinG_GV s1 (.inr (shp_or.mp hsh))
        refine ⟨up F 2 u, upA (upA A 1 P) 0 (up (upA A 1 P 0) (147 + (S.g.C * r + c)) s), ?_, r2.z hzO⟩
        rw [m_cv hL r1]
        simp (disch := omega) only [li0, li1, li2, li3, li4, li5, li7, li8, li9, li10, li11, li12, li46, li47, li80, li100, li144, li147, li255, li256, li291, li1164, m_tag hL, m_gr0 hL, m_gr1 hL, m_gr3 hL, m_gr5 hL, m_gr7 hL, m_gr8 hL, m_gr9 hL, m_gr10 hL, m_gr11 hL, m_gr13 hL, m_gr14 hL, m_gr15 hL, m_gr16 hL, m_gr17 hL, m_gi2 hL, m_gi4 hL, m_gi6 hL, m_gi12 hL, m_gi18 hL, m_gi19 hL, m_gi20 hL, m_gi21 hL, m_ld0 hL, m_ld1 hL, m_ld3 hL, m_ld5 hL, m_ld7 hL, m_ld8 hL, m_ld9 hL, m_ld10 hL, m_ld11 hL, m_ld13 hL, m_ld14 hL, m_ld15 hL, m_ld16 hL, m_ld17 hL, m_pf2 hL, m_pf4 hL, m_pf6 hL, m_pf12 hL, m_pf18 hL, m_pf19 hL, m_pf20 hL, m_pf21 hL, m_st0 hL, m_st1 hL, m_st3 hL, m_st5 hL, m_st7 hL, m_st8 hL, m_st9 hL, m_st10 hL, m_st11 hL, m_st13 hL, m_st14 hL, m_st15 hL, m_st16 hL, m_st17 hL, nI_add, pk_mul, pk_sub, nI_le', nI_lt', nI_eq', nI_m6, nI_neg, pk_div, pk_rem, idiv_nI, irem_nI, ite_bI, ite_bIn, ite_bI1, ite_bI1n, retz_bI, retz_0, retz_1, retz_0n, retz_1n, o_let_eq, decide_eq_true_eq, ite_retI, bI_ite, if_true, if_false]
        rw [m_ci hL (m_faultsAt hL (A := upA (upA A 1 P) 0 _) (by rw [upA_s]; exact hzO) hp (j2.up (by omega) (by omega)) hk)]
      · rw [if_neg hl, if_neg hl]
        exact ⟨F, A, rfl, hI⟩
    · rw [if_neg (fun q => hsh (of_decide_eq_true q)), if_neg (fun q => hsh q.2)]
      exact ⟨F, A, rfl, hI⟩
  · rw [if_neg hin, if_neg (fun q => hin q.1)]
    exact ⟨F, A, rfl, hI⟩
def a_unpin (S : St) (x y : Int32) : Int32 × St :=
  if inG S.g x.toInt y.toInt then
    (if S.g.p (plc S.g x.toInt y.toInt) = -6 then (-3, S) else (S.g.p (plc S.g x.toInt y.toInt), setg (reco S) (pinG S.g (plc S.g x.toInt y.toInt) (-6))))
  else (-1, S)
theorem a_unpin_SV {S : St} (hS : SV S) (x y : Int32) : SV (a_unpin S x y).2 := by
  unfold a_unpin
  split
  · split
    · exact hS
    · exact setg_SV (reco_SV hS) (pinG_GV hS.1 (.inl rfl))
  · exact hS
theorem m_unpin {h : AH} (hL : 608 ≤ h.length) {F : Nat → Int32} {A : Nat → Nat → Int32} {S : St} (hI : MI F A S) (hS : SV S) (x y : Int32) : ∃ F' A', f_X4_unpin (some 1617) x y (mset h F A) = some (some (vI (a_unpin S x y).1), mset h F' A') ∧ MI F' A' (a_unpin S x y).2 := by
  obtain ⟨s1, s2, s3, s4, s5, s6⟩ := id hS
  unfold f_X4_unpin a_unpin
  rw [m_ci hL (m_isTile hL hI.1 s1 x y), ite_bI]
  by_cases hin : inG S.g x.toInt y.toInt = true
  · rw [if_pos hin, if_pos hin]
    obtain ⟨r, c, hr, hc, rfl, rfl, e⟩ := inG_nI hin
    rw [e]
    have hk : S.g.C * r + c < S.g.N := rc_lt hr hc
    have hN := s1.1.2.2.2.2.1
    have hk3 : S.g.C * r + c < 144 := Nat.lt_of_lt_of_le hk hN
    rw [m_gr0 hL, m_ci hL (m_at hL hI.1 s1 r c), li147, nI_add, m_ld0 hL (by omega), (hI.1.2.2.2 _ hk).2]
    by_cases hp : S.g.p (S.g.C * r + c) = -6
    · rw [if_pos hp, if_pos hp]
      exact ⟨F, A, rfl, hI⟩
    · rw [if_neg hp, if_neg hp]
      obtain ⟨u, P, r1, r2⟩ := m_record hL hI hS
      obtain ⟨j1, j2, j3, j4, j5, j6, j7, j8⟩ := id r2
      have hz : MZ (upA A 1 P 0) S.g := j1
      have hzO := zpin_MZ s1 hz hk (-6)
      refine ⟨up F 2 u, upA (upA A 1 P) 0 (up (upA A 1 P 0) (147 + (S.g.C * r + c)) (-6)), ?_, r2.z hzO⟩
      rw [m_cv hL r1, m_gr0 hL, m_ci hL (m_at hL (A := upA A 1 P) hz s1 r c), nI_add, m_st0 hL (by omega)]
  · rw [if_neg hin, if_neg hin]
    exact ⟨F, A, rfl, hI⟩
/-! many tiles made land or water: f says of each what it is made -/
def apG (G : Gr) (f : Nat → Option Bool) (n : Nat) : Gr := (G.R, G.C, G.o, fun j => if j < n then (f j).getD (G.l j) else G.l j, fun j => if j < n ∧ f j = some false then -6 else G.p j)
def apC (G : Gr) (f : Nat → Option Bool) (n : Nat) : Int32 := sm (fun k => match f k with
  | some b => bI (G.l k != b)
  | none => bI false) n
theorem apG_0 (G : Gr) (f : Nat → Option Bool) : apG G f 0 = G := by
  show (G.R, G.C, G.o, _, _) = G
  have e1 : (fun j => if j < 0 then (f j).getD (G.l j) else G.l j) = G.l := by funext j; rw [if_neg (by omega)]
  have e2 : (fun j => if j < 0 ∧ f j = some false then (-6 : Int32) else G.p j) = G.p := by funext j; rw [if_neg (by omega)]
  rw [e1, e2]
theorem apG_some {G : Gr} {f : Nat → Option Bool} {n : Nat} {b : Bool} (h : f n = some b) : putG (apG G f n) n b = apG G f (n + 1) := by
  show (G.R, G.C, G.o, _, _) = (G.R, G.C, G.o, _, _)
  congr 4
  · funext j
    show (if j = n then b else if j < n then (f j).getD (G.l j) else G.l j) = if j < n + 1 then (f j).getD (G.l j) else G.l j
    by_cases e : j = n
    · subst e; rw [if_pos rfl, if_pos (by omega), h]; rfl
    · rw [if_neg e]
      by_cases e2 : j < n
      · rw [if_pos e2, if_pos (by omega)]
      · rw [if_neg e2, if_neg (by omega)]
  · funext j
    show (if j = n ∧ b = false then -6 else if j < n ∧ f j = some false then -6 else G.p j) = if j < n + 1 ∧ f j = some false then -6 else G.p j
    by_cases e : j = n
    · subst e
      rw [h]
      cases b
      · rw [if_pos ⟨rfl, rfl⟩, if_pos ⟨by omega, rfl⟩]
      · rw [if_neg (by simp), if_neg (by simp), if_neg (by simp)]
    · rw [if_neg (fun q => e q.1)]
      by_cases e2 : j < n
      · by_cases e3 : f j = some false
        · rw [if_pos ⟨e2, e3⟩, if_pos ⟨by omega, e3⟩]
        · rw [if_neg (fun q => e3 q.2), if_neg (fun q => e3 q.2)]
      · rw [if_neg (fun q => e2 q.1), if_neg (fun q => e2 (by omega))]
theorem apG_none {G : Gr} {f : Nat → Option Bool} {n : Nat} (h : f n = none) : apG G f (n + 1) = apG G f n := by
  show (G.R, G.C, G.o, _, _) = (G.R, G.C, G.o, _, _)
  congr 4
  · funext j
    show (if j < n + 1 then (f j).getD (G.l j) else G.l j) = if j < n then (f j).getD (G.l j) else G.l j
    by_cases e : j = n
    · subst e; rw [if_pos (by omega), if_neg (by omega), h]; rfl
    · by_cases e2 : j < n
      · rw [if_pos e2, if_pos (by omega)]
      · rw [if_neg e2, if_neg (by omega)]
  · funext j
    show (if j < n + 1 ∧ f j = some false then -6 else G.p j) = if j < n ∧ f j = some false then -6 else G.p j
    by_cases e : j = n
    · subst e
      rw [h, if_neg (by simp), if_neg (by simp)]
    · by_cases e2 : j < n
      · by_cases e3 : f j = some false
        · rw [if_pos ⟨by omega, e3⟩, if_pos ⟨e2, e3⟩]
        · rw [if_neg (fun q => e3 q.2), if_neg (fun q => e3 q.2)]
      · rw [if_neg (fun q => e2 (by omega)), if_neg (fun q => e2 q.1)]
theorem apG_l (G : Gr) (f : Nat → Option Bool) (n : Nat) : (apG G f n).l n = G.l n := if_neg (by omega)
theorem apG_GV {G : Gr} (h : GV G) (f : Nat → Option Bool) : ∀ n, GV (apG G f n)
  | 0 => by rw [apG_0]; exact h
  | n + 1 => by
    cases e : f n with
    | none => rw [apG_none e]; exact apG_GV h f n
    | some b => rw [← apG_some e]; exact putG_GV (apG_GV h f n) n b
theorem apC_some {G : Gr} {f : Nat → Option Bool} {n : Nat} {b : Bool} (h : f n = some b) : apC G f (n + 1) = apC G f n + bI (G.l n != b) := by
  unfold apC
  rw [sm, h]
theorem apC_none {G : Gr} {f : Nat → Option Bool} {n : Nat} (h : f n = none) : apC G f (n + 1) = apC G f n + bI false := by
  unfold apC
  rw [sm, h]
def nearF (G : Gr) (x y rad : Int32) (b : Bool) (k : Nat) : Option Bool :=
  if rad * rad < (nI (k / G.C) - x) * (nI (k / G.C) - x) + (nI (k % G.C) - y) * (nI (k % G.C) - y) then none else some b
def a_brush (S : St) (x y rad : Int32) (b : Bool) : Int32 × St :=
  if inG S.g x.toInt y.toInt then (if 0 ≤ rad.toInt ∧ rad.toInt ≤ 5 then (apC S.g (nearF S.g x y rad b) S.g.N, setg (reco S) (apG S.g (nearF S.g x y rad b) S.g.N)) else (-2, S)) else (-1, S)
theorem a_brush_SV {S : St} (hS : SV S) (x y rad : Int32) (b : Bool) : SV (a_brush S x y rad b).2 := by
  unfold a_brush
  split
  · split
    · exact setg_SV (reco_SV hS) (apG_GV hS.1 _ _)
    · exact hS
  · exact hS
theorem m_brushL {h : AH} (hL : 608 ≤ h.length) {F : Nat → Int32} {A : Nat → Nat → Int32} {G : Gr} (hz : MZ (A 0) G) (hG : GV G) (x y rad : Int32) (b : Bool) :
    ∃ z, f_X4_brush_33 FUEL (some 1617) x y rad (bI b) 0 0 (mset h F A) = some (some (vI (apC G (nearF G x y rad b) G.N)), mset h F (upA A 0 z)) ∧ MZ z (apG G (nearF G x y rad b) G.N) := by
  obtain ⟨z0, z1, z2, z3⟩ := id hz
  obtain ⟨⟨g1, g2, g3, g4, g5, g6⟩, g7⟩ := id hG
  rw [show mset h F A = mset h F (upA A 0 (A 0)) by rw [upA_self]]
  refine loop1 (σ := Nat → Int32) G.N (fun n i z => f_X4_brush_33 n (some 1617) x y rad (bI b) (apC G (nearF G x y rad b) i) (nI i) (mset h F (upA A 0 z))) (fun i z => MZ z (apG G (nearF G x y rad b) i))
    (fun res => ∃ z, res = some (some (vI (apC G (nearF G x y rad b) G.N)), mset h F (upA A 0 z)) ∧ MZ z (apG G (nearF G x y rad b) G.N)) ?_ ?_ 0 (A 0) FUEL (by omega) (by rw [apG_0]; exact hz) (by simp only [FUEL]; omega)
  · intro z n hz'
    refine ⟨z, ?_, hz'⟩
    rw [f_X4_brush_33_s]
    have hG' := apG_GV hG (nearF G x y rad b) G.N
    simp only
    rw [m_ci hL (x := nI G.N) (m_tiles hL (F := F) (A := upA A 0 z) (G := apG G (nearF G x y rad b) G.N) (by rw [upA_s]; exact hz') hG'), if_pos (show nI G.N ≤ nI G.N from nI_le (Nat.le_refl _) (by omega))]
  · intro i z n hi hz' hk
    have hG' := apG_GV hG (nearF G x y rad b) i
    have hz2 : MZ (upA A 0 z 0) (apG G (nearF G x y rad b) i) := by rw [upA_s]; exact hz'
    have hi2 : i < G.C * G.R := hi
    have e1 : z 1 = nI G.C := hz'.2.1
    rw [f_X4_brush_33_s]
    simp only
    rw [m_ci hL (x := nI G.N) (m_tiles hL (F := F) (A := upA A 0 z) (G := apG G (nearF G x y rad b) i) hz2 hG'), if_neg (show ¬ nI G.N ≤ nI i from nI_ge hi (by omega))]
    simp (disch := omega) only [li0, li1, li2, li3, li4, li5, li7, li8, li9, li10, li11, li12, li46, li47, li80, li100, li144, li147, li255, li256, li291, li1164, m_tag hL, m_gr0 hL, m_gr1 hL, m_gr3 hL, m_gr5 hL, m_gr7 hL, m_gr8 hL, m_gr9 hL, m_gr10 hL, m_gr11 hL, m_gr13 hL, m_gr14 hL, m_gr15 hL, m_gr16 hL, m_gr17 hL, m_gi2 hL, m_gi4 hL, m_gi6 hL, m_gi12 hL, m_gi18 hL, m_gi19 hL, m_gi20 hL, m_gi21 hL, m_ld0 hL, m_ld1 hL, m_ld3 hL, m_ld5 hL, m_ld7 hL, m_ld8 hL, m_ld9 hL, m_ld10 hL, m_ld11 hL, m_ld13 hL, m_ld14 hL, m_ld15 hL, m_ld16 hL, m_ld17 hL, m_pf2 hL, m_pf4 hL, m_pf6 hL, m_pf12 hL, m_pf18 hL, m_pf19 hL, m_pf20 hL, m_pf21 hL, m_st0 hL, m_st1 hL, m_st3 hL, m_st5 hL, m_st7 hL, m_st8 hL, m_st9 hL, m_st10 hL, m_st11 hL, m_st13 hL, m_st14 hL, m_st15 hL, m_st16 hL, m_st17 hL, nI_add, pk_mul, pk_sub, nI_le', nI_lt', nI_eq', nI_m6, nI_neg, pk_div, pk_rem, idiv_nI, irem_nI, ite_bI, ite_bIn, ite_bI1, ite_bI1n, retz_bI, retz_0, retz_1, retz_0n, retz_1n, o_let_eq, decide_eq_true_eq, ite_retI, bI_ite, if_true, if_false, upA_s, e1, m_ci hL (m_becomes hL (F := F) (A := upA A 0 z) (G := apG G (nearF G x y rad b) i) hz2 hG' (k := i) hi b), f_X4_brush_102, f_X4_brush_103, upA_upA]
    by_cases q : rad * rad < (nI (i / G.C) - x) * (nI (i / G.C) - x) + (nI (i % G.C) - y) * (nI (i % G.C) - y)
    · have e : nearF G x y rad b i = none := if_pos q
      rw [if_pos q]
      have := hk z (by rw [apG_none e]; exact hz')
      rw [apC_none e] at this
      exact this
    · have e : nearF G x y rad b i = some b := if_neg q
      rw [if_neg q, apG_l]
      have := hk (zput z i b) (by rw [← apG_some e]; exact zput_MZ hG' hz' hi b)
      rw [apC_some e] at this
      revert this
      cases (G.l i != b)
      · exact fun q => q
      · exact fun q => q
