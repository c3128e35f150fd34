set_option maxRecDepth 100000
/-! brush, smooth, fill -/
theorem xo_brush {h : AH} {S : St} (X : XS h S) (hS : SV S) (x y rad : Int32) (b : Bool) (hz : sz h + 6000 < 1200000) : Wr 3000 h (f_X0_brush (some 1024) x y rad (bI b) h) (a_brush S x y rad b).1 (a_brush S x y rad b).2 := by
  have X0 := X
  obtain ⟨P, H, Z, e, n, s1, s2, s3, X, l⟩ := X
  unfold f_X0_brush a_brush
  have hG := l.h.2.1
  have hgb := hG.1
  rw [b_gr1 X, c_ci l.h.1 (x_isTile l.h.1 hG x y), ite_bI, ← s1]
  by_cases hin : inG P.2 x.toInt y.toInt = true
  · rw [if_pos hin, if_pos hin, o_ci_eq (x_in _ _ _ _), ite_bI]
    simp only [decide_eq_true_eq, ti0, ti5]
    by_cases q : 0 ≤ rad.toInt ∧ rad.toInt ≤ 5
    · rw [if_pos q, if_pos q, o_lam_eq (by cases b <;> rfl) (by show sz h + 5 < _; omega)]
      have p0 : Pf h (h ++ [(98, [vR (some 1024), vI x, vI y, vI rad, vI (bI b)].map lamV)]) := Pf.app _ _
      have z0 : sz (h ++ [(98, [vR (some 1024), vI x, vI y, vI rad, vI (bI b)].map lamV)]) = sz h + 6 := by rw [sz_app, sz_one]; rfl
      have gl : hget (h ++ [(98, [vR (some 1024), vI x, vI y, vI rad, vI (bI b)].map lamV)]) (1024 + h.length) = some (98, [.ref 1024, .int x, .int y, .int rad, .int (bI b)]) := hget_last h _
      generalize h ++ [(98, [vR (some 1024), vI x, vI y, vI rad, vI (bI b)].map lamV)] = h0 at p0 z0 gl ⊢
      have X1 := X.pf p0
      have l1 := l.keep (fun Q hQ => (l.1 Q hQ).pf p0)
      obtain ⟨am, ham, eam⟩ := apC_nat P.2 (nearF P.2 x y rad b) P.2.N
      have ch := x_change s1 s2 s3 X1 l1 hS (lid := 1024 + h.length) (N := 8) (x := apC P.2 (nearF P.2 x y rad b) P.2.N) (G := apG P.2 (nearF P.2 x y rad b) P.2.N) (by omega) rfl (apG_GV hG _ _) (by rw [eam]; exact nI_pos (by omega)) (fun h1 p1 Y c1 z1 => by
        obtain ⟨h2, w1, w2, w3, w4⟩ := x_brushE Y c1 x y rad b
        have g1 := p1.get gl
        refine ⟨h2, ?_, w2, w3, by omega⟩
        unfold edQ
        rw [ifTag_n g1 (by omega), ifTag_y g1]
        refine lamF_I g1 ?_
        show tagIs 0 (some 1024) (f_X0_lambda_brush_2 (some 1024) x y rad (bI b)) h1 = _
        rw [b_tag Y, w1])
      obtain ⟨hh, c1, c2⟩ := ch
      rw [o_ci_eq ((b_tag X1).trans c1)]
      exact Wr.pf p0 X.2.1 (a := 6) (by omega) (by omega) (N := 808) ⟨hh, rfl, c2⟩
    · rw [if_neg q, if_neg q]
      exact Wr.no X0 _
  · rw [if_neg hin, if_neg hin]
    exact Wr.no X0 _
theorem xo_smooth {h : AH} {S : St} (X : XS h S) (hS : SV S) (x : Int32) (hz : sz h + 9000 < 1200000) : Wr 3000 h (f_X0_smooth (some 1024) x h) (a_smooth S x).1 (a_smooth S x).2 := by
  have X0 := X
  obtain ⟨P, H, Z, e, n, s1, s2, s3, X, l⟩ := X
  unfold f_X0_smooth a_smooth
  have hG := l.h.2.1
  have hgb := hG.1
  rw [o_ci_eq (x_in _ _ _ _), ite_bI, ← s1]
  simp only [decide_eq_true_eq, ti1, ti9]
  by_cases q : 1 ≤ x.toInt ∧ x.toInt ≤ 9
  · rw [if_pos q, if_pos q, o_lam_eq (by rfl) (by show sz h + 2 < _; omega)]
    have p0 : Pf h (h ++ [(99, [vR (some 1024), vI x].map lamV)]) := Pf.app _ _
    have z0 : sz (h ++ [(99, [vR (some 1024), vI x].map lamV)]) = sz h + 3 := by rw [sz_app, sz_one]; rfl
    have gl : hget (h ++ [(99, [vR (some 1024), vI x].map lamV)]) (1024 + h.length) = some (99, [.ref 1024, .int x]) := hget_last h _
    generalize h ++ [(99, [vR (some 1024), vI x].map lamV)] = h0 at p0 z0 gl ⊢
    have X1 := X.pf p0
    have l1 := l.keep (fun Q hQ => (l.1 Q hQ).pf p0)
    obtain ⟨am, ham, eam⟩ := apC_nat P.2 (smoF P.2 x) P.2.N
    have ch := x_change s1 s2 s3 X1 l1 hS (lid := 1024 + h.length) (N := 1100) (x := apC P.2 (smoF P.2 x) P.2.N) (G := apG P.2 (smoF P.2 x) P.2.N) (by omega) rfl (apG_GV hG _ _) (by rw [eam]; exact nI_pos (by omega)) (fun h1 p1 Y c1 z1 => by
      obtain ⟨h2, w1, w2, w3, w4⟩ := x_smoothE Y c1 x (by omega)
      have g1 := p1.get gl
      refine ⟨h2, ?_, w2, w3, by omega⟩
      unfold edQ
      rw [ifTag_n g1 (by omega), ifTag_n g1 (by omega), ifTag_y g1]
      refine lamF_I g1 ?_
      show tagIs 0 (some 1024) (f_X0_lambda_smooth_3 (some 1024) x) h1 = _
      rw [b_tag Y, w1])
    obtain ⟨hh, c1, c2⟩ := ch
    rw [o_ci_eq ((b_tag X1).trans c1)]
    exact Wr.pf p0 X.2.1 (a := 3) (by omega) (by omega) (N := 1900) ⟨hh, rfl, c2⟩
  · rw [if_neg q, if_neg q]
    exact Wr.no X0 _
/-- the tiles whose bits are below K were put -/
def filB (G : Gr) (f : Nat → Bool) (b : Bool) (K : Nat) : Gr := (G.R, G.C, G.o, fun j => if f (bof G j) && decide (bof G j < K) then b else G.l j, fun j => if (f (bof G j) && decide (bof G j < K)) = true ∧ b = false then -6 else G.p j)
theorem filB_0 (G : Gr) (f : Nat → Bool) (b : Bool) : filB G f b 0 = G := by
  show (G.R, G.C, G.o, _, _) = G
  have e1 : (fun j => if f (bof G j) && decide (bof G j < 0) then b else G.l j) = G.l := by funext j; rw [if_neg (by simp)]
  have e2 : (fun j => if (f (bof G j) && decide (bof G j < 0)) = true ∧ b = false then (-6 : Int32) else G.p j) = G.p := by funext j; rw [if_neg (by simp)]
  rw [e1, e2]
theorem filB_GV {G : Gr} (h : GV G) (f : Nat → Bool) (b : Bool) (K : Nat) : GV (filB G f b K) := by
  obtain ⟨h1, h2⟩ := h
  refine ⟨h1, fun j hj => ?_⟩
  show isP (if (f (bof G j) && decide (bof G j < K)) = true ∧ b = false then -6 else G.p j)
  split
  · exact .inl rfl
  · exact h2 j hj
theorem lt_succ_b (f : Nat → Bool) (x t : Nat) (h : ¬ (x = t ∧ f t = true)) : (f x && decide (x < t + 1)) = (f x && decide (x < t)) := by
  by_cases e : x = t
  · subst e
    have : f x = false := by simpa using h
    rw [this]; rfl
  · have : decide (x < t + 1) = decide (x < t) := by
      apply Bool.eq_iff_iff.mpr
      simp only [decide_eq_true_eq]
      omega
    rw [this]
theorem filB_skip {G : Gr} {f : Nat → Bool} {b : Bool} {t : Nat} (h : f t = false) : filB G f b (t + 1) = filB G f b t := by
  have e : ∀ j, (f (bof G j) && decide (bof G j < t + 1)) = (f (bof G j) && decide (bof G j < t)) := fun j => lt_succ_b f _ _ (fun q => by rw [h] at q; exact absurd q.2 (by decide))
  show (G.R, G.C, G.o, _, _) = (G.R, G.C, G.o, _, _)
  simp only [e]
theorem bof_dm {G : Gr} (hG : GV G) {j : Nat} (hj : j < G.N) : bof G j / 12 = j / G.C ∧ bof G j % 12 = j % G.C := by
  obtain ⟨a, b, c⟩ := k_rc (show j < G.C * G.R from hj)
  have := hG.1
  unfold bof
  revert a b
  generalize j / G.C = q
  generalize j % G.C = m
  intro a b
  omega
/-- the put of one bit's tile -/
theorem filB_put {h : AH} {D : CD} {G : Gr} (hG : GV G) {f : Nat → Bool} {b : Bool} {j : Nat} (hj : j < G.N) (hf : f (bof G j) = true) (c : CR h D (putG (filB G f b (bof G j)) j b)) : CR h D (filB G f b (bof G j + 1)) := by
  refine c.cong rfl rfl rfl (fun k hk => ?_) (fun k hk => ?_)
  · have hk : k < G.N := hk
    show (if f (bof G k) && decide (bof G k < bof G j + 1) then b else G.l k) = if k = j then b else (if f (bof G k) && decide (bof G k < bof G j) then b else G.l k)
    by_cases e : k = j
    · subst e
      rw [if_pos rfl, if_pos (by rw [hf]; simp)]
    · rw [if_neg e, lt_succ_b f _ _ (fun q => e (bof_inj hG hk hj q.1))]
  · have hk : k < G.N := hk
    show (if (f (bof G k) && decide (bof G k < bof G j + 1)) = true ∧ b = false then -6 else G.p k) = if k = j ∧ b = false then -6 else (if (f (bof G k) && decide (bof G k < bof G j)) = true ∧ b = false then -6 else G.p k)
    by_cases e : k = j
    · subst e
      have e1 : (f (bof G k) && decide (bof G k < bof G k + 1)) = true := by rw [hf]; simp
      have e2 : (f (bof G k) && decide (bof G k < bof G k)) = false := by simp
      rw [e1, e2]
      cases b <;> simp
    · rw [lt_succ_b f _ _ (fun q => e (bof_inj hG hk hj q.1))]
      by_cases w : (f (bof G k) && decide (bof G k < bof G j)) = true ∧ b = false
      · rw [if_pos w, if_neg (fun q => e q.1)]
      · rw [if_neg w, if_neg (fun q => e q.1)]
theorem BS.kr {h h' : AH} {b wa : Nat} {f : Nat → Bool} (B : BS h b wa f) {D : CD} {R : Nat} (k : Kf (rowW D R) h h') : BS h' b wa f := by
  obtain ⟨u, L, W, B0, hf⟩ := id B
  exact B.of ((k.2.1 _ _ _ B0.1 (fun w => by rcases w with w | w <;> omega)).trans B0.1.symm) ((k.2.1 _ _ _ B0.2.1 (fun w => by rcases w with w | w <;> omega)).trans B0.2.1.symm)
theorem x_fillE {h1 : AH} {P : CG} {z : Value} {hh : List Nat} {e n : Nat} {tx : List Nat} (X : XB h1 P.1.c z hh e n tx) (c1 : CK h1 P) {r k : Nat} (hr : r < P.2.R) (hk : k < P.2.C) (b : Bool) (hz : sz h1 + 6000 < 1200000) :
    ∃ h2, f_X0_lambda_fill_1 (some 1024) (nI r) (nI k) (bI b) h1 = some (some (vI (filC P.2 (P.2.C * r + k) (bfs P.2 (P.2.C * r + k) 2) b)), h2) ∧ CR h2 P.1 (filG P.2 (bfs P.2 (P.2.C * r + k) 2) b) ∧ Kf (rowW P.1 P.2.R) h1 h2 ∧ sz h2 ≤ sz h1 + 2500 := by
  have hG := c1.2.1
  have hV := bfs_LV (show P.2.C * r + k < P.2.N from rc_lt hr hk) 2
  have hlen := hV.len hG
  obtain ⟨h0, bs, wa, e1, e2, e3, e4, e5, e6, e7, e8⟩ := x_search c1.1 hG (vis5 h1 P.2) false hr hk (Pf.refl h1) trivial (by omega)
  have e3 : BS h0 bs wa (bitsL P.2 (bfs P.2 (P.2.C * r + k) 2)) := e3
  have e7 : sz h0 ≤ sz h1 + 32 + 17 * (bfs P.2 (P.2.C * r + k) 2).length := e7
  have e1 : f_X3_search (some P.1.c) (nI r) (nI k) 0 (some 5) h1 = some (some (vR (some bs)), h0) := e1
  unfold f_X0_lambda_fill_1 filC
  rw [b_gr1 X, c_cr c1.1 e1, show (0 : Int32) = nI 0 from rfl, o_ci_eq (b_next e3 (by omega))]
  generalize P.2.C * r + k = t0 at *
  generalize bfs P.2 t0 2 = L at *
  have hcnt := cnt_bfs hG hV
  have hft : ∀ t, bitsL P.2 L t = true → ∃ j, j < P.2.N ∧ bof P.2 j = t ∧ P.2.l j = P.2.l t0 := by
    intro t ht
    unfold bitsL at ht
    obtain ⟨p, hp, ep⟩ := List.any_eq_true.mp ht
    exact ⟨p.1, (hV.1 p hp).1, beq_iff_eq.mp ep, (hV.1 p hp).2⟩
  have X0 := X.pf e2
  have c0 := c1.pf e2
  have k0 : Kf (rowW P.1 P.2.R) h1 h0 := Kf.of_pf e2 X.2.1
  refine bits_iter (σ := AH × Int32) (bitsL P.2 L) (fun n' x s => f_X0_lambda_fill_1_28 n' (some 1024) (bI b) (some bs) s.2 x s.1)
    (fun K s => CR s.1 P.1 (filB P.2 (bitsL P.2 L) b K) ∧ Kf (rowW P.1 P.2.R) h0 s.1 ∧ sz s.1 ≤ sz h0 ∧ s.2 = if P.2.l t0 != b then nI (cntN (bitsL P.2 L) K) else nI 0)
    (fun res => ∃ h2, res = some (some (vI (if P.2.l t0 != b then nI L.length else nI 0)), h2) ∧ CR h2 P.1 (filG P.2 L b) ∧ Kf (rowW P.1 P.2.R) h1 h2 ∧ sz h2 ≤ sz h1 + 2500) ?_ ?_ ?_ (h0, nI 0) ⟨by rw [filB_0]; exact c0.1, Kf.rfl' _ _, Nat.le_refl _, ?_⟩
  · rintro ⟨s, x⟩ n' ⟨q1, q2, q3, q4⟩
    rw [f_X0_lambda_fill_1_28_s]
    simp only
    rw [if_pos (by decide)]
    have q4 : x = if P.2.l t0 != b then nI (cntN (bitsL P.2 L) 192) else nI 0 := q4
    rw [q4, hcnt]
    refine ⟨s, rfl, q1.cong rfl rfl rfl (fun j hj => ?_) (fun j hj => ?_), k0.trans q2, by have q3 : sz s ≤ sz h0 := q3; omega⟩
    · have hj : j < P.2.N := hj
      show (if bhas L j then b else P.2.l j) = if bitsL P.2 L (bof P.2 j) && decide (bof P.2 j < 192) then b else P.2.l j
      rw [bitsL_has hG hV hj, decide_eq_true (show bof P.2 j < 192 by have := bof_lt hG hj; omega), Bool.and_true]
    · have hj : j < P.2.N := hj
      show (if bhas L j = true ∧ b = false then -6 else P.2.p j) = if (bitsL P.2 L (bof P.2 j) && decide (bof P.2 j < 192)) = true ∧ b = false then -6 else P.2.p j
      rw [bitsL_has hG hV hj, decide_eq_true (show bof P.2 j < 192 by have := bof_lt hG hj; omega), Bool.and_true]
  · rintro t ⟨s, x⟩ n' ht hft' ⟨q1, q2, q3, q4⟩ hn
    obtain ⟨j, hj, ej, el⟩ := hft t hft'
    obtain ⟨d1, d2⟩ := bof_dm hG hj
    obtain ⟨a1, a2, a3⟩ := k_rc (show j < P.2.C * P.2.R from hj)
    have Y := X0.kr q2
    subst ej
    obtain ⟨s', u1, u2, u3, u4⟩ := e_put (Gk := filB P.2 (bitsL P.2 L) b (bof P.2 j)) c0 rfl (filB_GV hG _ _ _) q1 q2 (show j / P.2.C < P.2.R from a1) (show j % P.2.C < P.2.C from a2) b
    have a3' : (filB P.2 (bitsL P.2 L) b (bof P.2 j)).C * (j / P.2.C) + j % P.2.C = j := a3
    rw [a3'] at u1 u2
    have el2 : (filB P.2 (bitsL P.2 L) b (bof P.2 j)).l j = P.2.l t0 := by
      show (if bitsL P.2 L (bof P.2 j) && decide (bof P.2 j < bof P.2 j) then b else P.2.l j) = _
      rw [if_neg (by simp), el]
    rw [el2] at u1
    have q4 : x = if P.2.l t0 != b then nI (cntN (bitsL P.2 L) (bof P.2 j)) else nI 0 := q4
    rw [f_X0_lambda_fill_1_28_s]
    simp only
    have hbof : bof P.2 j < 2 ^ 31 := by omega
    rw [if_neg (nI_pos hbof), b_gr1 Y, show (12 : Int32) = nI 12 from rfl, idiv_nI hbof (by omega) (by omega), irem_nI hbof (by omega) (by omega), d1, d2, o_ci_eq u1]
    have Bs' := e3.kr u3
    have d61 : ∀ v : Int32, f_X0_lambda_fill_1_61 (f_X0_lambda_fill_1_28 n') (some 1024) (bI b) (some bs) (nI (bof P.2 j)) x v s' = f_X0_lambda_fill_1_28 n' (some 1024) (bI b) (some bs) (x + v) (nsb (bitsL P.2 L) (bof P.2 j + 1)) s' := by
      intro v
      unfold f_X0_lambda_fill_1_61
      rw [o_let_eq, li1, nI_add, o_ci_eq (b_next Bs' (by omega))]
    have fin := hn (s', x + bI (P.2.l t0 != b)) ⟨filB_put hG hj hft' u2, u3, by show sz s' ≤ sz h0; have q3 : sz s ≤ sz h0 := q3; omega, by
      show x + bI (P.2.l t0 != b) = if P.2.l t0 != b then nI (cntN (bitsL P.2 L) (bof P.2 j + 1)) else nI 0
      rw [q4, cntN, if_pos hft']
      cases (P.2.l t0 != b)
      · rfl
      · show nI _ + nI 1 = nI _
        rw [nI_add]⟩
    rw [ite_bI, d61, d61]
    revert fin
    cases (P.2.l t0 != b)
    · exact fun w => w
    · exact fun w => w
  · rintro t ⟨s, x⟩ ht hf ⟨q1, q2, q3, q4⟩
    refine ⟨by rw [filB_skip hf]; exact q1, q2, q3, ?_⟩
    have q4 : x = if P.2.l t0 != b then nI (cntN (bitsL P.2 L) t) else nI 0 := q4
    show x = if P.2.l t0 != b then nI (cntN (bitsL P.2 L) (t + 1)) else nI 0
    rw [q4, cntN, hf]
    rfl
  · show nI 0 = if P.2.l t0 != b then nI 0 else nI 0
    split <;> rfl
theorem xo_fill {h : AH} {S : St} (X : XS h S) (hS : SV S) (x y : Int32) (b : Bool) (hz : sz h + 9000 < 1200000) : Wr 4000 h (f_X0_fill (some 1024) x y (bI b) h) (a_fill S x y b).1 (a_fill S x y b).2 := by
  have X0 := X
  obtain ⟨P, H, Z, e, n, s1, s2, s3, X, l⟩ := X
  unfold f_X0_fill a_fill
  have hG := l.h.2.1
  have hgb := hG.1
  rw [b_gr1 X, c_ci l.h.1 (x_isTile l.h.1 hG x y), ite_bI, ← s1]
  by_cases hin : inG P.2 x.toInt y.toInt = true
  · rw [if_pos hin, if_pos hin]
    obtain ⟨r, k, hr, hk, rfl, rfl, ep⟩ := inG_nI hin
    rw [ep, o_lam_eq (by cases b <;> rfl) (by show sz h + 4 < _; omega)]
    have p0 : Pf h (h ++ [(96, [vR (some 1024), vI (nI r), vI (nI k), vI (bI b)].map lamV)]) := Pf.app _ _
    have z0 : sz (h ++ [(96, [vR (some 1024), vI (nI r), vI (nI k), vI (bI b)].map lamV)]) = sz h + 5 := by rw [sz_app, sz_one]; rfl
    have gl : hget (h ++ [(96, [vR (some 1024), vI (nI r), vI (nI k), vI (bI b)].map lamV)]) (1024 + h.length) = some (96, [.ref 1024, .int (nI r), .int (nI k), .int (bI b)]) := hget_last h _
    generalize h ++ [(96, [vR (some 1024), vI (nI r), vI (nI k), vI (bI b)].map lamV)] = h0 at p0 z0 gl ⊢
    have X1 := X.pf p0
    have l1 := l.keep (fun Q hQ => (l.1 Q hQ).pf p0)
    have hV := bfs_LV (show P.2.C * r + k < P.2.N from rc_lt hr hk) 2
    have hlen := hV.len hG
    have ch := x_change s1 s2 s3 X1 l1 hS (lid := 1024 + h.length) (N := 2500) (x := filC P.2 (P.2.C * r + k) (bfs P.2 (P.2.C * r + k) 2) b) (G := filG P.2 (bfs P.2 (P.2.C * r + k) 2) b) (by omega) rfl (filG_GV hG _ _) (by
      unfold filC
      split
      · exact nI_pos (by omega)
      · exact nI_pos (by omega)) (fun h1 p1 Y c1 z1 => by
      obtain ⟨h2, w1, w2, w3, w4⟩ := x_fillE Y c1 hr hk b (by omega)
      have g1 := p1.get gl
      refine ⟨h2, ?_, w2, w3, by omega⟩
      unfold edQ
      rw [ifTag_y g1]
      refine lamF_I g1 ?_
      show tagIs 0 (some 1024) (f_X0_lambda_fill_1 (some 1024) (nI r) (nI k) (bI b)) h1 = _
      rw [b_tag Y, w1])
    obtain ⟨hh, c1, c2⟩ := ch
    rw [o_ci_eq ((b_tag X1).trans c1)]
    exact Wr.pf p0 X.2.1 (a := 5) (by omega) (by omega) (N := 3300) ⟨hh, rfl, c2⟩
  · rw [if_neg hin, if_neg hin]
    exact Wr.no X0 _
