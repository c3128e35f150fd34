set_option maxRecDepth 100000
/-! sums over the land with a question; faults, count, firstFault, needs -/
theorem ifTag_y {h : AH} {i t : Nat} {vs : List Value} (hg : hget h i = some (t, vs)) {A B : AH → Res} : ifTag t (some i) A B h = A h := by simp [ifTag, hg]
theorem ifTag_n {h : AH} {i t t' : Nat} {vs : List Value} (hg : hget h i = some (t, vs)) (ne : t ≠ t') {A B : AH → Res} : ifTag t' (some i) A B h = B h := by simp [ifTag, hg, ne]
theorem lamF_I {h h1 : AH} {i t : Nat} {vs : List Value} (hg : hget h i = some (t, vs)) {G : List Value → AH → Res} {x : Int32} (hG : G vs h = some (some (vI x), h1)) : lamF true t (some i) G h = some (some (vI x), h1) := by
  simp [lamF, hg, hG, okR]
theorem lamF_V {h h1 : AH} {i t : Nat} {vs : List Value} (hg : hget h i = some (t, vs)) {G : List Value → AH → Res} (hG : G vs h = some (none, h1)) : lamF false t (some i) G h = some (none, h1) := by
  simp [lamF, hg, hG, okR]
theorem o_lam_eq {h : AH} {t : Nat} {tys : List FieldType} {vs : List TV} {K : Rf → AH → Res} (hf : (tys.zip vs).all (fun q => fits q.1 (lamV q.2)) = true) (hr : sz h + vs.length < 1200000) : o_lam t tys vs K h = K (some (1024 + h.length)) (h ++ [(t, vs.map lamV)]) := by
  unfold o_lam
  rw [if_pos hf]
  exact new_eq (by simpa using hr)
theorem fits_b (b : Bool) : fits .boolean (.int (bI b)) = true := by cases b <;> rfl
/-- what a question asks, as the code calls it -/
noncomputable def askQ (l : Rf) (x y : Int32) : AH → Res := ifTag 102 l (lamF true 102 l (g6 x y)) (ifTag 103 l (lamF true 103 l (g7 x y)) (ifTag 104 l (lamF true 104 l (g8 x y)) (noF)))
theorem x_sumI {D : CD} {G : Gr} {l : Rf} {q : Nat → Int32} {P : Nat → AH → Prop} (hG : GV G) (hP : ∀ k h', P k h' → XC h' D G)
    (hs : ∀ r c h', r < G.R → c < G.C → P (G.C * r + c) h' → G.l (G.C * r + c) = true → ∃ h'', askQ l (nI r) (nI c) h' = some (some (vI (q (G.C * r + c))), h'') ∧ P (G.C * r + c + 1) h'')
    (hn : ∀ k h', k < G.N → P k h' → G.l k = false → P (k + 1) h') {h : AH} (h0 : P 0 h) :
    ∃ h', f_X0_sum (some 1024) l h = some (some (vI (sm (fun k => if G.l k then q k else nI 0) G.N)), h') ∧ P G.N h' := by
  obtain ⟨⟨g1, g2, g3, g4, g5, g6⟩, g7⟩ := id hG
  unfold f_X0_sum
  let f : Nat → Int32 := fun k => if G.l k then q k else nI 0
  refine loop2 (σ := AH) G.R G.C (by omega) (by omega) (fun n r s => f_X0_sum_4 n (some 1024) l (sm f (G.C * r)) (nI r) s)
    (fun n m r k s => f_X0_sum_18 (f_X0_sum_4 n) m (some 1024) l (sm f (G.C * r + k)) (nI r) (nI k) s) P (fun res => ∃ h', res = some (some (vI (sm f G.N)), h') ∧ P G.N h') ?_ ?_ ?_ ?_ h h0
  · intro s n hs
    have x := hP _ s hs
    rw [f_X0_sum_4_s]
    simp only
    rw [t_gr1 x, c_gi0 x.cr, if_pos (nI_le (Nat.le_refl _) (by omega))]
    exact ⟨s, rfl, hs⟩
  · intro r s n hr hs hk
    have x := hP _ s hs
    rw [f_X0_sum_4_s]
    simp only
    rw [t_gr1 x, c_gi0 x.cr, if_neg (nI_ge hr (by omega))]
    exact hk s hs
  · intro r s n m hr hs hk
    have x := hP _ s hs
    rw [f_X0_sum_18_s]
    simp only
    rw [t_gr1 x, c_gi1 x.cr, if_pos (nI_le (Nat.le_refl _) (by omega)), o_let_eq, li1, nI_add]
    exact hk s (by rw [Nat.mul_succ]; exact hs)
  · intro r k s n m hr hk hkN hss hnx
    have x := hP _ s hss
    rw [f_X0_sum_18_s]
    simp only
    rw [t_gr1 x, c_gi1 x.cr, if_neg (nI_ge hk (by omega)), t_gr1 x, c_gr3 x.cr, c_row x.cr hG hr, c_l x.cr hG hr hk, ite_bI]
    have e : sm f (G.C * r + (k + 1)) = sm f (G.C * r + k) + f (G.C * r + k) := rfl
    have h59 : ∀ (y : Int32) s', f_X0_sum_59 (f_X0_sum_4 n) (f_X0_sum_18 (f_X0_sum_4 n) m) (some 1024) l (nI r) (nI k) (sm f (G.C * r + k)) y s' = f_X0_sum_18 (f_X0_sum_4 n) m (some 1024) l (sm f (G.C * r + k) + y) (nI r) (nI (k + 1)) s' := by
      intro y s'
      unfold f_X0_sum_59
      simp only [o_let_eq, li1, nI_add]
    by_cases hl : G.l (G.C * r + k) = true
    · rw [if_pos hl]
      obtain ⟨h'', e1, p1⟩ := hs r k s hr hk hss hl
      have e1' := e1
      unfold askQ at e1'
      rw [o_ci_eq e1', h59]
      have := hnx h'' p1
      have ef : f (G.C * r + k) = q (G.C * r + k) := if_pos hl
      rw [e, ef] at this
      exact this
    · rw [if_neg hl, h59]
      have := hnx s (hn _ s hkN hss (by simpa using hl))
      have ef : f (G.C * r + k) = nI 0 := if_neg hl
      rw [e, ef] at this
      exact this
/-- the same, where the question only reads -/
theorem x_sumA {h : AH} {D : CD} {G : Gr} (x : XC h D G) {l : Rf} {q : Nat → Int32} {n : Nat} (hn : n ≤ 8) (hz : sz h + n * 144 ≤ 1200000)
    (hs : ∀ r c h', Pf h h' → sz h' + n ≤ 1200000 → r < G.R → c < G.C → G.l (G.C * r + c) = true → Al n h' (askQ l (nI r) (nI c) h') (some (vI (q (G.C * r + c))))) :
    Al (n * 144) h (f_X0_sum (some 1024) l h) (some (vI (sm (fun k => if G.l k then q k else nI 0) G.N))) := by
  have hG := x.gv
  have hN : G.N ≤ 144 := hG.1.2.2.2.2.1
  obtain ⟨h', e, p, z⟩ := x_sumI (D := D) (l := l) (q := q) (P := fun k s => Pf h s ∧ sz s ≤ sz h + n * k) hG (fun k h' p => x.pf p.1) (fun r c h' hr hc p hl => by
    have hk : G.C * r + c < G.N := rc_lt hr hc
    have hm : n * (G.C * r + c) ≤ n * 143 := Nat.mul_le_mul_left n (by omega)
    obtain ⟨h'', e1, p1, z1⟩ := hs r c h' p.1 (by have := p.2; omega) hr hc hl
    exact ⟨h'', e1, p.1.trans p1, by have := p.2; rw [Nat.mul_succ]; omega⟩) (fun k h' _ p _ => ⟨p.1, by have := p.2; rw [Nat.mul_succ]; omega⟩) (h := h) ⟨Pf.refl h, by omega⟩
  have hm : n * G.N ≤ n * 144 := Nat.mul_le_mul_left n hN
  exact ⟨h', e, p, by omega⟩
theorem ask6 {h : AH} {D : CD} {G : Gr} (x : XC h D G) {i r c : Nat} (hi : hget h i = some (102, [.ref 1024])) (hz : sz h + 8 ≤ 1200000) (hr : r < G.R) (hc : c < G.C) : Al 8 h (askQ (some i) (nI r) (nI c) h) (some (vI (nI (flt G (G.C * r + c))))) := by
  obtain ⟨h1, e1, p1, z1⟩ := x_flt x.cr x.gv x.bs hr hc hz
  refine ⟨h1, ?_, p1, z1⟩
  unfold askQ
  rw [ifTag_y hi]
  refine lamF_I hi ?_
  show tagIs 0 (some 1024) (f_X0_lambda_faults_6 (some 1024) (nI r) (nI c)) h = _
  rw [t_tag x]
  unfold f_X0_lambda_faults_6
  rw [t_gr1 x, c_ci x.cr e1]
theorem sm_flt (G : Gr) : sm (fun k => if G.l k then nI (flt G k) else nI 0) G.N = sm (fun k => nI (flt G k)) G.N := by
  refine sm_cong (fun k _ => ?_)
  unfold flt
  split
  · rfl
  · rfl
theorem xo_faults {h : AH} {D : CD} {G : Gr} (x : XC h D G) (hz : sz h + 1154 ≤ 1200000) : Al 1154 h (f_X0_faults (some 1024) h) (some (vI (sm (fun k => nI (flt G k)) G.N))) := by
  unfold f_X0_faults
  rw [o_lam_eq (by rfl) (by show sz h + 1 < _; omega)]
  have p : Pf h (h ++ [(102, [.ref 1024])]) := Pf.app _ _
  have z : sz (h ++ [(102, [.ref 1024])]) = sz h + 2 := by rw [sz_app, sz_one]; rfl
  have x' := x.pf p
  obtain ⟨h1, e1, p1, z1⟩ := x_sumA x' (l := some (1024 + h.length)) (q := fun k => nI (flt G k)) (n := 8) (by omega) (by omega) (fun r c h' pp zz hr hc hl => ask6 (x'.pf pp) (pp.get (hget_last h _)) zz hr hc)
  rw [sm_flt] at e1
  show Al 1154 h (o_ci (tagIs 0 (some 1024) (f_X0_sum (some 1024) (some (1024 + h.length)))) _ (h ++ [(102, [.ref 1024])])) _
  rw [o_ci_eq ((t_tag x').trans e1)]
  exact ⟨h1, rfl, p.trans p1, by omega⟩
theorem ask7 {h : AH} {D : CD} {G : Gr} (x : XC h D G) {i r c : Nat} {s : Int32} (hi : hget h i = some (103, [.ref 1024, .int s])) (hz : sz h + 8 ≤ 1200000) (hr : r < G.R) (hc : c < G.C) : Al 4 h (askQ (some i) (nI r) (nI c) h) (some (vI (if sha G (G.C * r + c) = s then nI 1 else nI 0))) := by
  obtain ⟨h1, e1, p1, z1⟩ := x_sha x.cr x.gv x.bs hr hc (by omega)
  refine ⟨h1, ?_, p1, z1⟩
  unfold askQ
  rw [ifTag_n hi (by omega), ifTag_y hi]
  refine lamF_I hi ?_
  show tagIs 0 (some 1024) (f_X0_lambda_count_7 (some 1024) s (nI r) (nI c)) h = _
  rw [t_tag x]
  unfold f_X0_lambda_count_7
  rw [t_gr1 x, c_ci x.cr e1]
  split <;> rfl
theorem sm_cnt {G : Gr} {s : Nat} (hs : s < 47) : sm (fun k => if G.l k then (if sha G k = nI s then nI 1 else nI 0) else nI 0) G.N = cnt G (nI s) := by
  refine sm_cong (fun k _ => ?_)
  by_cases hl : G.l k = true
  · rw [if_pos hl]
  · rw [if_neg hl]
    have : sha G k = -6 := if_neg hl
    rw [this, if_neg]
    intro e
    have := nI_m6 (show s < 2 ^ 31 by omega)
    rw [← e] at this
    simp at this
theorem xo_count {h : AH} {D : CD} {G : Gr} (x : XC h D G) (s : Int32) (hz : sz h + 1155 ≤ 1200000) : Al 1155 h (f_X0_count (some 1024) s h) (some (vI (if 0 ≤ s.toInt ∧ s.toInt ≤ 46 then cnt G s else -1))) := by
  unfold f_X0_count
  rw [o_ci_eq (x_isShape _ _), ite_bI]
  simp only [decide_eq_true_eq]
  split
  · rename_i q
    obtain ⟨s, hs, rfl⟩ := shp_or.mp q
    rw [o_lam_eq (by rfl) (by show sz h + 2 < _; omega)]
    have p : Pf h (h ++ [(103, [.ref 1024, .int (nI s)])]) := Pf.app _ _
    have z : sz (h ++ [(103, [.ref 1024, .int (nI s)])]) = sz h + 3 := by rw [sz_app, sz_one]; rfl
    have x' := x.pf p
    obtain ⟨h1, e1, p1, z1⟩ := x_sumA x' (l := some (1024 + h.length)) (q := fun k => if sha G k = nI s then nI 1 else nI 0) (n := 8) (by omega) (by omega) (fun r c h' pp zz hr hc hl => (ask7 (x'.pf pp) (pp.get (hget_last h _)) zz hr hc).mono (by omega))
    rw [sm_cnt hs] at e1
    show Al 1155 h (o_ci (tagIs 0 (some 1024) (f_X0_sum (some 1024) (some (1024 + h.length)))) _ (h ++ [(103, [.ref 1024, .int (nI s)])])) _
    rw [o_ci_eq ((t_tag x').trans e1)]
    exact ⟨h1, rfl, p.trans p1, by omega⟩
  · exact Al.ret
theorem fst_none {f : Nat → Bool} : ∀ (d i : Nat), (∀ k, i ≤ k → k < i + d → f k = false) → fst f d i = none
  | 0, _, _ => rfl
  | d + 1, i, h => by
    rw [fst, h i (by omega) (by omega)]
    exact fst_none d (i + 1) (fun k a b => h k (by omega) (by omega))
theorem fst_some {f : Nat → Bool} {k : Nat} (hk : f k = true) : ∀ (d i : Nat), i ≤ k → k < i + d → (∀ j, i ≤ j → j < k → f j = false) → fst f d i = some k
  | 0, i, h1, h2, _ => by omega
  | d + 1, i, h1, h2, h => by
    by_cases e : i = k
    · subst e
      rw [fst, hk]; rfl
    · rw [fst, h i (by omega) (by omega)]
      exact fst_some hk d (i + 1) (by omega) (by omega) (fun j a b => h j (by omega) b)
theorem xo_firstFault {h : AH} {D : CD} {G : Gr} (x : XC h D G) (hz : sz h + 1152 ≤ 1200000) : Al 1152 h (f_X0_firstFault (some 1024) h) (some (vI (ffault G))) := by
  have hG := x.gv
  obtain ⟨⟨g1, g2, g3, g4, g5, g6⟩, g7⟩ := id hG
  have g5' : G.C * G.R ≤ 144 := g5
  unfold f_X0_firstFault
  refine loop2 (σ := AH) G.R G.C (by omega) (by omega) (fun n r s => f_X0_firstFault_2 n (some 1024) (nI r) s)
    (fun n m r k s => f_X0_firstFault_15 (f_X0_firstFault_2 n) m (some 1024) (nI r) (nI k) s) (fun k s => Pf h s ∧ sz s ≤ sz h + 8 * k ∧ ∀ j, j < k → flt G j = 0) (fun res => Al 1152 h res (some (vI (ffault G)))) ?_ ?_ ?_ ?_ h ⟨Pf.refl h, by omega, fun j hj => absurd hj (by omega)⟩
  · intro s n hs
    have x' := x.pf hs.1
    rw [f_X0_firstFault_2_s]
    simp only
    rw [t_gr1 x', c_gi0 x'.cr, if_pos (nI_le (Nat.le_refl _) (by omega))]
    have e : ffault G = -6 := by
      unfold ffault
      rw [fst_none _ _ (fun k _ hk => by rw [hs.2.2 k (by have : k < 0 + G.C * G.R := hk; omega)]; rfl)]
    rw [e]
    exact ⟨s, rfl, hs.1, by have := hs.2.1; omega⟩
  · intro r s n hr hs hk
    have x' := x.pf hs.1
    rw [f_X0_firstFault_2_s]
    simp only
    rw [t_gr1 x', c_gi0 x'.cr, if_neg (nI_ge hr (by omega))]
    exact hk s hs
  · intro r s n m hr hs hk
    have x' := x.pf hs.1
    rw [f_X0_firstFault_15_s]
    simp only
    rw [t_gr1 x', c_gi1 x'.cr, if_pos (nI_le (Nat.le_refl _) (by omega)), o_let_eq, li1, nI_add]
    exact hk s (by rw [Nat.mul_succ]; exact hs)
  · intro r k s n m hr hk hkN hs hn
    have x' := x.pf hs.1
    have hsz := hs.2.1
    have hle := flt_le hG (show G.C * r + k < G.N from hkN)
    rw [f_X0_firstFault_15_s]
    simp only
    obtain ⟨h1, e1, p1, z1⟩ := x_flt x'.cr hG x'.bs hr hk (by omega)
    rw [t_gr1 x', c_gi1 x'.cr, if_neg (nI_ge hk (by omega)), t_gr1 x', c_ci x'.cr e1]
    by_cases q : flt G (G.C * r + k) = 0
    · rw [q, if_pos (by decide), o_let_eq, li1, nI_add]
      refine hn h1 ⟨hs.1.trans p1, by omega, fun j hj => ?_⟩
      by_cases e : j = G.C * r + k
      · subst e; exact q
      · exact hs.2.2 j (by omega)
    · rw [if_neg (by rw [li0, nI_leI (by omega) (by omega)]; omega), li100, pk_mul, nI_add]
      have e : ffault G = told G (G.C * r + k) := by
        unfold ffault
        rw [fst_some (k := G.C * r + k) (by simp; omega) G.N 0 (by omega) (by have : G.C * r + k < G.N := hkN; omega) (fun j _ hj => by rw [hs.2.2 j hj]; rfl)]
      rw [e]
      unfold told
      rw [rc_div hk, rc_mod hk]
      exact ⟨h1, rfl, hs.1.trans p1, by omega⟩
