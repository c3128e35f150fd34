set_option maxRecDepth 100000
/-! the component: what changes nothing (without regions) -/
def XC (h : AH) (D : CD) (G : Gr) : Prop := Cat h ∧ 608 ≤ h.length ∧ (∃ sv, hget h 1024 = some (0, [.ref 1025, .ref D.c, sv, .ref 1614, .ref 1615])) ∧ CR h D G ∧ GV G
theorem XC.pf {h h' : AH} {D : CD} {G : Gr} (p : Pf h h') (x : XC h D G) : XC h' D G := by
  obtain ⟨x1, x2, ⟨sv, x3⟩, x4, x5⟩ := x
  have := p.len
  exact ⟨x1.pf p (by omega), by omega, ⟨sv, p.get x3⟩, x4.pf p, x5⟩
theorem XC.bs {h : AH} {D : CD} {G : Gr} (x : XC h D G) : Bs h := ⟨x.1, x.2.1, x.2.2.1.elim (fun sv e => ⟨_, sv, e⟩)⟩
theorem XC.cr {h : AH} {D : CD} {G : Gr} (x : XC h D G) : CR h D G := x.2.2.2.1
theorem XC.gv {h : AH} {D : CD} {G : Gr} (x : XC h D G) : GV G := x.2.2.2.2
theorem t_gr1 {h : AH} {D : CD} {G : Gr} (x : XC h D G) {K : Rf → AH → Res} : o_gr 0 (some 1024) 1 K h = K (some D.c) h := by
  obtain ⟨sv, e⟩ := x.2.2.1
  exact o_gr_eq e rfl
theorem t_tag {h : AH} {D : CD} {G : Gr} (x : XC h D G) {F : AH → Res} : tagIs 0 (some 1024) F h = F h := by
  obtain ⟨sv, e⟩ := x.2.2.1
  exact tagIs_eq e
theorem x_in (x a b : Int32) (h : AH) : f_X0_isIn x a b h = some (some (vI (bI (decide (a.toInt ≤ x.toInt ∧ x.toInt ≤ b.toInt)))), h) := m_in x a b h
theorem x_isShape (x : Int32) (h : AH) : f_X0_isShape x h = some (some (vI (bI (decide (0 ≤ x.toInt ∧ x.toInt ≤ 46)))), h) := m_isShape x h
theorem xo_rows {h : AH} {D : CD} {G : Gr} (x : XC h D G) : f_X0_rows (some 1024) h = some (some (vI (nI G.R)), h) := by
  unfold f_X0_rows
  rw [t_gr1 x, c_gi0 x.cr]
theorem xo_columns {h : AH} {D : CD} {G : Gr} (x : XC h D G) : f_X0_columns (some 1024) h = some (some (vI (nI G.C)), h) := by
  unfold f_X0_columns
  rw [t_gr1 x, c_gi1 x.cr]
theorem xo_land {h : AH} {D : CD} {G : Gr} (x : XC h D G) : f_X0_land (some 1024) h = some (some (vI (lnd G)), h) := by
  unfold f_X0_land
  rw [t_gr1 x, c_ci x.cr (x_land x.cr x.gv)]
theorem xo_share {h : AH} {D : CD} {G : Gr} (x : XC h D G) : f_X0_landShare (some 1024) h = some (some (vI (a_share G)), h) := by
  unfold f_X0_landShare
  have e : lnd G = nI (cntN G.l G.N) := sm_cntN G.l G.N
  have e2 : nI G.R * nI G.C = nI G.N := by rw [pk_mul, Nat.mul_comm]
  rw [t_gr1 x, c_ci x.cr (x_land x.cr x.gv), t_gr1 x, c_gi0 x.cr, t_gr1 x, c_gi1 x.cr, e, e2, c_share x.gv, o_ci_eq (c_bits x.gv h)]
theorem xo_maskOf {h : AH} {D : CD} {G : Gr} (x : XC h D G) (s : Int32) : f_X0_maskOf (some 1024) s h = some (some (vI (if 0 ≤ s.toInt ∧ s.toInt ≤ 46 then nI (msk (nat s)) else -1)), h) := by
  unfold f_X0_maskOf
  rw [o_ci_eq (x_isShape _ _), ite_bI]
  simp only [decide_eq_true_eq]
  split
  · rename_i q
    obtain ⟨s, hs, rfl⟩ := shp_or.mp q
    obtain ⟨m1, m2⟩ := x_mask x.1 hs
    rw [x.bs.cat, o_cr_eq ((cat_tag1 x.bs).trans m1), o_gi_eq m2 rfl, nat_nI (by omega)]
  · rfl
theorem xo_shapeOf {h : AH} {D : CD} {G : Gr} (x : XC h D G) (s : Int32) (hz : sz h + 2 ≤ 1200000) : Al 2 h (f_X0_shapeOf (some 1024) s h) (some (vI (if 0 ≤ s.toInt ∧ s.toInt ≤ 255 then shp (nat s) else -2))) := by
  unfold f_X0_shapeOf
  rw [o_ci_eq (x_in _ _ _ _), ite_bI]
  simp only [decide_eq_true_eq, ti0, ti255]
  split
  · rename_i q
    obtain ⟨m, hm, rfl⟩ : ∃ m, m < 256 ∧ s = nI m := ⟨s.toInt.toNat, by omega, nI_toNat q.1⟩
    rw [x.bs.cat, new_mask hz]
    have p : Pf h (h ++ [(2, [.int (nI m)])]) := Pf.app _ _
    rw [o_ci_eq ((cat_tag1 (x.bs.pf p)).trans (x_shape (x.bs.pf p).1 (mk_new h m) hm)), nat_nI (by omega)]
    exact ⟨_, rfl, p, by rw [sz_mask]; omega⟩
  · exact Al.ret
theorem xo_turned {h : AH} {D : CD} {G : Gr} (x : XC h D G) (s y : Int32) (hz : sz h + 2 ≤ 1200000) : Al 2 h (f_X0_turned (some 1024) s y h) (some (vI (if 0 ≤ s.toInt ∧ s.toInt ≤ 46 then (if 0 ≤ y.toInt ∧ y.toInt ≤ 3 then shp (trn (msk (nat s)) (nat y)) else -2) else -1))) := by
  unfold f_X0_turned
  rw [o_ci_eq (x_isShape _ _), ite_bI]
  simp only [decide_eq_true_eq]
  split
  · rename_i q
    obtain ⟨s, hs, rfl⟩ := shp_or.mp q
    rw [o_ci_eq (x_in _ _ _ _), ite_bI]
    simp only [decide_eq_true_eq, ti0, ti3]
    split
    · rename_i q
      obtain ⟨t, ht, rfl⟩ : ∃ m, m < 4 ∧ y = nI m := ⟨y.toInt.toNat, by omega, nI_toNat q.1⟩
      obtain ⟨m1, m2⟩ := x_mask x.1 hs
      rw [x.bs.cat, x.bs.cat, o_cr_eq ((cat_tag1 x.bs).trans m1), o_cr_eq (x_turned m2 (msk_lt s hs) ht hz)]
      have p : Pf h (h ++ [(2, [.int (nI (trn (msk s) t))])]) := Pf.app _ _
      rw [o_ci_eq ((cat_tag1 (x.bs.pf p)).trans (x_shape (x.bs.pf p).1 (mk_new h _) (trn_lt _ (msk_lt s hs) t ht))), nat_nI (by omega), nat_nI (by omega)]
      exact ⟨_, rfl, p, by rw [sz_mask]; omega⟩
    · exact Al.ret
  · exact Al.ret
theorem xo_mirrored {h : AH} {D : CD} {G : Gr} (x : XC h D G) (s : Int32) (hz : sz h + 2 ≤ 1200000) : Al 2 h (f_X0_mirrored (some 1024) s h) (some (vI (a_mirrored s))) := by
  unfold f_X0_mirrored a_mirrored
  rw [o_ci_eq (x_isShape _ _), ite_bI]
  simp only [decide_eq_true_eq]
  split
  · rename_i q
    obtain ⟨s, hs, rfl⟩ := shp_or.mp q
    obtain ⟨m1, m2⟩ := x_mask x.1 hs
    rw [x.bs.cat, x.bs.cat, o_cr_eq ((cat_tag1 x.bs).trans m1), o_cr_eq (x_mirrored m2 (msk_lt s hs) hz)]
    have p : Pf h (h ++ [(2, [.int (nI (mir (msk s)))])]) := Pf.app _ _
    rw [o_ci_eq ((cat_tag1 (x.bs.pf p)).trans (x_shape (x.bs.pf p).1 (mk_new h _) (mir_lt _))), nat_nI (by omega)]
    exact ⟨_, rfl, p, by rw [sz_mask]; omega⟩
  · exact Al.ret
theorem xo_tile {h : AH} {D : CD} {G : Gr} (x : XC h D G) (a b z : Int32) (hz : sz h + 8 ≤ 1200000) : Al 8 h (f_X0_tile (some 1024) a b z h) (some (vI (a_tile G a b z))) := by
  unfold f_X0_tile a_tile
  rw [t_gr1 x, c_ci x.cr (x_isTile x.cr x.gv a b), ite_bI]
  by_cases hin : inG G a.toInt b.toInt = true
  · rw [if_pos hin, if_pos hin]
    obtain ⟨r, k, hr, hk, rfl, rfl, e⟩ := inG_nI hin
    rw [e, tsw6, t_gr1 x, t_gr1 x, t_gr1 x, t_gr1 x, t_gr1 x, t_gr1 x]
    have c := x.cr
    have hG := x.gv
    split
    · rw [c_gr3 c, c_row c hG hr, c_l c hG hr hk, ite_bI]
      cases G.l (G.C * r + k)
      · exact Al.ret
      · exact Al.ret
    · split
      · rw [c_cr c (x_sur c hG hr hk (by omega)), o_gi_eq (mk_new h _) rfl]
        exact ⟨_, rfl, Pf.app _ _, by rw [sz_mask]; omega⟩
      · split
        · obtain ⟨h1, e1, p1, z1⟩ := x_rsh c hG x.bs hr hk (by omega)
          rw [c_ci c e1]
          exact ⟨h1, rfl, p1, by omega⟩
        · split
          · obtain ⟨h1, e1, p1, z1⟩ := x_sha c hG x.bs hr hk (by omega)
            rw [c_ci c e1]
            exact ⟨h1, rfl, p1, by omega⟩
          · split
            · rw [c_gr4 c, c_rowp c hG hr, c_p c hG hr hk]
              split
              · exact Al.ret
              · exact Al.ret
            · split
              · obtain ⟨h1, e1, p1, z1⟩ := x_flt c hG x.bs hr hk (by omega)
                rw [c_ci c e1]
                exact ⟨h1, rfl, p1, by omega⟩
              · exact Al.ret
  · rw [if_neg hin, if_neg hin]
    exact Al.ret
theorem x_coast {h : AH} {D : CD} {G : Gr} (c : CR h D G) (hG : GV G) : f_X3_coast (some D.c) h = some (some (vI (sm (coA G) G.N)), h) := by
  obtain ⟨⟨g1, g2, g3, g4, g5, g6⟩, g7⟩ := id hG
  unfold f_X3_coast
  refine loop2 (σ := Unit) G.R G.C (by omega) (by omega) (fun n r _ => f_X3_coast_4 n (some D.c) (sm (coA G) (G.C * r)) (nI r) h)
    (fun n m r k _ => f_X3_coast_14 (f_X3_coast_4 n) m (some D.c) (sm (coA G) (G.C * r + k)) (nI r) (nI k) h) (fun _ _ => True) (fun res => res = some (some (vI (sm (coA G) G.N)), h)) ?_ ?_ ?_ ?_ () trivial
  · intro _ n _
    rw [f_X3_coast_4_s]
    simp only
    rw [c_gi0 c, if_pos (nI_le (Nat.le_refl _) (by omega))]
  · intro r _ n hr _ hk
    show f_X3_coast_4 (n + 1) _ _ _ _ = _
    rw [f_X3_coast_4_s]
    simp only
    rw [c_gi0 c, if_neg (nI_ge hr (by omega))]
    exact hk () trivial
  · intro r _ n m hr _ hk
    show f_X3_coast_14 _ (m + 1) _ _ _ _ _ = _
    rw [f_X3_coast_14_s]
    simp only
    rw [c_gi1 c, if_pos (nI_le (Nat.le_refl _) (by omega)), o_let_eq, li1, nI_add]
    exact hk () trivial
  · intro r k _ n m hr hk hk2 _ hn
    show f_X3_coast_14 _ (m + 1) _ _ _ _ _ = _
    rw [f_X3_coast_14_s]
    simp only
    rw [c_gi1 c, if_neg (nI_ge hk (by omega))]
    have hn := hn () trivial
    have h68 : ∀ x : Int32, f_X3_coast_68 (f_X3_coast_4 n) (f_X3_coast_14 (f_X3_coast_4 n) m) (some D.c) x (nI r) (nI k) h = f_X3_coast_14 (f_X3_coast_4 n) m (some D.c) x (nI r) (nI (k + 1)) h := by
      intro x
      unfold f_X3_coast_68
      rw [o_let_eq, li1, nI_add]
    have e : sm (coA G) (G.C * r + (k + 1)) = sm (coA G) (G.C * r + k) + coA G (G.C * r + k) := rfl
    have ec : coA G (G.C * r + k) = if G.l (G.C * r + k) then sm (fun d => if nb G (G.C * r + k) (2 * d) then nI 0 else nI 1) 4 else nI 0 := rfl
    rw [e, ec] at hn
    by_cases hl : G.l (G.C * r + k) = true
    · rw [if_pos hl] at hn
      have s0 : sm (coA G) (G.C * r + k) = sm (coA G) (G.C * r + k) + sm (fun d => if nb G (G.C * r + k) (2 * d) then nI 0 else nI 1) 0 := (Int32.add_zero _).symm
      rw [s0]
      refine loopE 4 (fun q i => f_X3_coast_25 (f_X3_coast_4 n) (f_X3_coast_14 (f_X3_coast_4 n) m) q (some D.c) (sm (coA G) (G.C * r + k) + sm (fun d => if nb G (G.C * r + k) (2 * d) then nI 0 else nI 1) i) (nI r) (nI k) (nI (2 * i)) h) _ ?_ ?_ 0 FUEL (by omega) (by simp only [FUEL]; omega)
      · intro q
        rw [f_X3_coast_25_s]
        simp only
        rw [if_pos (by decide), h68]
        exact hn
      · intro i q hi hq
        rw [f_X3_coast_25_s, ← hq]
        simp only
        rw [if_neg (by rw [li8, nI_leI (by omega) (by omega)]; omega), c_gr3 c, c_row c hG hr, c_l c hG hr hk, ite_bI, if_pos hl, c_ci c (x_isLandIn c hG hr hk (show 2 * i < 8 by omega)), ite_bI]
        unfold f_X3_coast_60
        simp only [o_let_eq, li2, nI_add]
        rw [sm, ← Int32.add_assoc, show 2 * (i + 1) = 2 * i + 2 by omega]
        split <;> rfl
    · rw [if_neg hl] at hn
      show f_X3_coast_25 _ _ (99999 + 1) _ _ _ _ _ _ = _
      rw [f_X3_coast_25_s]
      simp only
      rw [if_neg (by decide), c_gr3 c, c_row c hG hr, c_l c hG hr hk, ite_bI, if_neg hl, h68]
      have : sm (coA G) (G.C * r + k) + nI 0 = sm (coA G) (G.C * r + k) := Int32.add_zero _
      rw [this] at hn
      exact hn
theorem xo_coast {h : AH} {D : CD} {G : Gr} (x : XC h D G) : f_X0_coast (some 1024) h = some (some (vI (sm (coA G) G.N)), h) := by
  unfold f_X0_coast
  rw [t_gr1 x, c_ci x.cr (x_coast x.cr x.gv)]
theorem x_dif {h : AH} {D D' : CD} {G G' : Gr} (c : CR h D G) (c' : CR h D' G') (hG : GV G) (hG' : GV G') (b : Bs h) (hR : G'.R = G.R) (hC : G'.C = G.C) (hz : sz h + 1152 ≤ 1200000) : Al 1152 h (f_X3_differences (some D.c) (some D'.c) h) (some (vI (dif G' G))) := by
  obtain ⟨⟨g1, g2, g3, g4, g5, g6⟩, g7⟩ := id hG
  unfold f_X3_differences
  let f : Nat → Int32 := fun k => if G'.l k = true ∧ G.l k = true ∧ sha G k ≠ sha G' k then nI 1 else nI 0
  have g5' : G.C * G.R ≤ 144 := g5
  refine loop2 (σ := AH) G.R G.C (by omega) (by omega) (fun n r s => f_X3_differences_4 n (some D.c) (some D'.c) (sm f (G.C * r)) (nI r) s)
    (fun n m r k s => f_X3_differences_15 (f_X3_differences_4 n) m (some D.c) (some D'.c) (sm f (G.C * r + k)) (nI r) (nI k) s) (fun k s => Pf h s ∧ sz s ≤ sz h + 8 * k) (fun res => Al 1152 h res (some (vI (dif G' G)))) ?_ ?_ ?_ ?_ h ⟨Pf.refl h, by omega⟩
  · intro s n hs
    rw [f_X3_differences_4_s]
    simp only
    rw [c_gi0 (c.pf hs.1), if_pos (nI_le (Nat.le_refl _) (by omega))]
    exact ⟨s, rfl, hs.1, by have := hs.2; omega⟩
  · intro r s n hr hs hk
    rw [f_X3_differences_4_s]
    simp only
    rw [c_gi0 (c.pf hs.1), if_neg (nI_ge hr (by omega))]
    exact hk s hs
  · intro r s n m hr hs hk
    rw [f_X3_differences_15_s]
    simp only
    rw [c_gi1 (c.pf hs.1), if_pos (nI_le (Nat.le_refl _) (by omega)), o_let_eq, li1, nI_add]
    exact hk s ⟨hs.1, by rw [Nat.mul_succ]; exact hs.2⟩
  · intro r k s n m hr hk hkN hs hn
    have hc := c.pf hs.1
    have hc' := c'.pf hs.1
    have hr' : r < G'.R := by omega
    have hk' : k < G'.C := by omega
    have hbs := b.pf hs.1
    have hsz := hs.2
    have e : sm f (G.C * r + (k + 1)) = sm f (G.C * r + k) + f (G.C * r + k) := rfl
    rw [f_X3_differences_15_s]
    simp only
    have d82 : ∀ s', f_X3_differences_82 (f_X3_differences_4 n) (f_X3_differences_15 (f_X3_differences_4 n) m) (some D.c) (some D'.c) (nI r) (nI k) (sm f (G.C * r + k)) s' = f_X3_differences_15 (f_X3_differences_4 n) m (some D.c) (some D'.c) (sm f (G.C * r + k) + nI 0) (nI r) (nI (k + 1)) s' := by
      intro s'
      unfold f_X3_differences_82 f_X3_differences_83
      simp only [o_let_eq, li1, li0, nI_add]
    have d83 : ∀ s', f_X3_differences_83 (f_X3_differences_4 n) (f_X3_differences_15 (f_X3_differences_4 n) m) (some D.c) (some D'.c) (nI r) (nI k) (sm f (G.C * r + k)) 1 s' = f_X3_differences_15 (f_X3_differences_4 n) m (some D.c) (some D'.c) (sm f (G.C * r + k) + nI 1) (nI r) (nI (k + 1)) s' := by
      intro s'
      unfold f_X3_differences_83
      simp only [o_let_eq, li1, nI_add]
    rw [c_gi1 hc, if_neg (nI_ge hk (by omega)), c_gr3 hc, c_row hc hG hr, c_l hc hG hr hk, ite_bI, c_gr3 hc', c_row hc' hG' hr', c_l hc' hG' hr' hk', ite_bI]
    unfold f_X3_differences_52 f_X3_differences_53
    by_cases l1 : G.l (G.C * r + k) = true
    · rw [if_pos l1, hC]
      by_cases l2 : G'.l (G.C * r + k) = true
      · rw [if_pos l2, if_neg (by decide)]
        obtain ⟨h1, e1, p1, z1⟩ := x_sha hc hG hbs hr hk (by omega)
        rw [c_ci hc e1]
        obtain ⟨h2, e2, p2, z2⟩ := x_sha (hc'.pf p1) hG' (hbs.pf p1) hr' hk' (by omega)
        rw [c_ci (hc'.pf p1) e2, hC]
        have hs2 : Pf h h2 ∧ sz h2 ≤ sz h + 8 * (G.C * r + k + 1) := ⟨(hs.1.trans p1).trans p2, by omega⟩
        have := hn h2 hs2
        rw [e] at this
        by_cases q : sha G (G.C * r + k) = sha G' (G.C * r + k)
        · rw [if_pos q, d82]
          have ef : f (G.C * r + k) = nI 0 := if_neg (fun w => w.2.2 q)
          rw [ef] at this
          exact this
        · rw [if_neg q, d83]
          have ef : f (G.C * r + k) = nI 1 := if_pos ⟨l2, l1, q⟩
          rw [ef] at this
          exact this
      · rw [if_neg l2, if_pos rfl, d82]
        have := hn s ⟨hs.1, by omega⟩
        have ef : f (G.C * r + k) = nI 0 := if_neg (fun w => l2 w.1)
        rw [e, ef] at this
        exact this
    · rw [if_neg l1, if_pos rfl, d82]
      have := hn s ⟨hs.1, by omega⟩
      have ef : f (G.C * r + k) = nI 0 := if_neg (fun w => l1 w.2.1)
      rw [e, ef] at this
      exact this
