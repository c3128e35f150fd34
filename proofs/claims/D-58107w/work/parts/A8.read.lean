set_option maxRecDepth 100000
/-! errorPosition and read -/
theorem rx_new {h : AH} {K : Rf → AH → Res} (hz : sz h + 100 < 1200000) :
    ∃ (s : AH) (b wa : Nat), (∀ K : Rf → AH → Res, o_new 7 [.null, .int 0, .int 0, .int 0, .int 0, .null] (fun r1 h => o_cv (nnF r1 (f_X7_init r1 (some 1024))) (fun h => K r1 h) h) h = K (some (1024 + h.length)) s) ∧ RX h s (1024 + h.length) b wa 0 0 0 0 (fun _ => false) ∧ sz s ≤ sz h + 20 := by
  have p1 : Pf h (h ++ [(7, ([.null, .int 0, .int 0, .int 0, .int 0, .ref 1024] : List Value))]) := Pf.app _ _
  have g1 : hget (h ++ [(7, ([.null, .int 0, .int 0, .int 0, .int 0, .ref 1024] : List Value))]) (1024 + h.length) = some (7, [.null, .int 0, .int 0, .int 0, .int 0, .ref 1024]) := hget_last h _
  have z1 : sz (h ++ [(7, ([.null, .int 0, .int 0, .int 0, .int 0, .ref 1024] : List Value))]) = sz h + 7 := by rw [sz_app, sz_one]; rfl
  have l1 : (h ++ [(7, ([.null, .int 0, .int 0, .int 0, .int 0, .ref 1024] : List Value))]).length = h.length + 1 := by simp
  have ei : nnF (some (1024 + h.length)) (f_X7_init (some (1024 + h.length)) (some 1024)) (h ++ [(7, [.null, .int 0, .int 0, .int 0, .int 0, .null])]) = o_new 12 [.null, .int 0, .int 0] (fun r1 h' => o_cv (nnF r1 (f_J23_init r1)) (fun h' => o_pf 7 (some (1024 + h.length)) 0 (va_rf r1) (fun h => some (none, h)) h') h') (h ++ [(7, ([.null, .int 0, .int 0, .int 0, .int 0, .ref 1024] : List Value))]) := by
    rw [nnF_eq]
    unfold f_X7_init
    rw [o_pf_eq (hget_last h _) (by omega) (by show 5 < 6; omega), hset_new, o_nn_eq]
    rfl
  generalize h ++ [(7, ([.null, .int 0, .int 0, .int 0, .int 0, .ref 1024] : List Value))] = h1 at p1 g1 z1 l1 ei
  rw [new_bits (by omega)] at ei
  have p2 : Pf h1 (h1 ++ [(12, [.ref (1024 + h1.length + 1), .int (nI 0), .int 0]), (66, loW 1 (fun _ => 0))]) := Pf.app _ _
  have z2 := sz_bits h1
  have B2 := new_bits_BS h1
  generalize h1 ++ [(12, [.ref (1024 + h1.length + 1), .int (nI 0), .int 0]), (66, loW 1 (fun _ => 0))] = h2 at p2 z2 B2 ei
  have g2 := p2.get g1
  have hlt := hget_some_lt g2
  rw [o_pf_eq g2 (by omega) (by show 0 < 6; omega)] at ei
  refine ⟨_, 1024 + h1.length, 1024 + h1.length + 1, fun K => ?_, ⟨(p1.trans p2).set (7, [.ref (1024 + h1.length), .int (nI 0), .int (nI 0), .int (nI 0), .int (nI 0), .ref 1024]) (by omega), hget_set_same (by omega) hlt, B2.of (hget_set_ne (by omega) (by omega)) (hget_set_ne (by omega) (by omega)), by omega, by omega, by omega⟩, ?_⟩
  · rw [new_eq (by show sz h + 6 < _; omega), o_cv_eq ei]
    rfl
  · rw [sz_set (by omega) g2 (by rfl)]; omega
theorem XS.pf {h h' : AH} {S : St} (X : XS h S) (p : Pf h h') : XS h' S := by
  obtain ⟨P, H, Z, e, n, s1, s2, s3, X, l⟩ := X
  exact ⟨P, H, Z, e, n, s1, s2, s3, X.pf p, l.keep (fun Q hQ => (l.1 Q hQ).pf p)⟩
theorem XS.len {h : AH} {S : St} (X : XS h S) : 608 ≤ h.length := by
  obtain ⟨P, H, Z, e, n, s1, s2, s3, X, l⟩ := X
  exact X.2.1
theorem Wr.al {N : Nat} {h : AH} {res : Res} {x : Int32} {S : St} (X : XS h S) (a : Al N h res (some (vI x))) : Wr N h res x S := by
  obtain ⟨h', e, p, z⟩ := a
  exact ⟨h', e, X.pf p, p.kc X.len, p.len, z⟩
theorem RZ0 : RZ rs0 := fun t ht => by cases ht
theorem x_err {h : AH} {S : St} (X : XS h S) (hS : SV S) (hz : sz h + 2000 < 1200000) :
    ∃ (s : AH), (∀ K : Rf → AH → Res, o_new 7 [.null, .int 0, .int 0, .int 0, .int 0, .null] (fun r1 h => o_cv (nnF r1 (f_X7_init r1 (some 1024))) (fun h => K r1 h) h) h = K (some (1024 + h.length)) s) ∧ ∃ b, ErrO h (1024 + h.length) b (rdE S.tx 0 rs0) (sz h + 500) (tagIs 7 (some (1024 + h.length)) (f_X7_errorPosition (some (1024 + h.length))) s) := by
  obtain ⟨P, H, Z, e, n, s1, s2, s3, X, l⟩ := X
  obtain ⟨s, b, wa, n1, Y, zs⟩ := rx_new (h := h) (K := fun _ h => some (none, h)) (by omega)
  have h80 := hS.2.2.2.2.1
  refine ⟨s, n1, b, ?_⟩
  rw [Y.tag]
  have := rx_errL (s := s) X h80 hS.2.2.2.2.2 (B := sz h + 500) (by omega) (S.tx.length + 1) 0 FUEL s wa 0 rs0 (by omega) (by simp only [FUEL]; omega) Y RV0 RZ0 rfl rfl (by show 1 ≤ 12; omega) (Nat.zero_le _) (by omega)
  exact this
theorem xo_errpos {h : AH} {S : St} (X : XS h S) (hS : SV S) (hz : sz h + 2000 < 1200000) : Wr 500 h (f_X0_errorPosition (some 1024) h) (a_errpos S) S := by
  obtain ⟨s, n1, b, s1, wa1, k1, R, C, fl, f, e1, Y1, z1, q⟩ := x_err X hS hz
  unfold f_X0_errorPosition
  rw [n1, o_ci_eq e1]
  exact Wr.al X ⟨s1, rfl, Y1.1, z1⟩
theorem BS.keep {h h' : AH} {b wa : Nat} {f : Nat → Bool} (B : BS h b wa f) {W : Nat → Nat → Prop} (k : Kf W h h') (w : ∀ i t, W i t → t ≠ 12 ∧ t ≠ 66) : BS h' b wa f := by
  obtain ⟨u, L, V, B0, hf⟩ := id B
  exact B.of ((k.2.1 _ _ _ B0.1 (fun q => (w _ _ q).1 rfl)).trans B0.1.symm) ((k.2.1 _ _ _ B0.2.1 (fun q => (w _ _ q).2 rfl)).trans B0.2.1.symm)
theorem BS.pf {h h' : AH} {b wa : Nat} {f : Nat → Bool} (B : BS h b wa f) (p : Pf h h') : BS h' b wa f := by
  obtain ⟨u, L, V, B0, hf⟩ := id B
  exact B.of ((p.get B0.1).trans B0.1.symm) ((p.get B0.2.1).trans B0.2.1.symm)
theorem xo_read {h : AH} {S : St} (X : XS h S) (hS : SV S) (hz : sz h + 5000 < 1200000) : Wr 3000 h (f_X0_read (some 1024) h) (a_read S).1 (a_read S).2 := by
  have X0 := X
  obtain ⟨s, n1, b, s1', wa1, k1, R, C, fl, f, e1, Y1, z1, q⟩ := x_err X hS (by omega)
  unfold f_X0_read a_read
  rw [n1, o_ci_eq e1]
  by_cases h6 : a_errpos S = -6
  · obtain ⟨rfl, rfl, rfl, hZ⟩ := q h6
    obtain ⟨hV, hwh⟩ := errpos_ok S.tx 0 rs0 RV0 (by have := hS.2.2.2.2.1; omega) h6
    have h6' : (rdE S.tx 0 rs0).1 = -6 := h6
    rw [if_pos h6, if_pos h6']
    generalize (rdE S.tx 0 rs0).2 = st at *
    have wi := whole_ir hwh
    have hw12 := wid_le hV
    obtain ⟨v1, v2, v3, v4⟩ := id hV
    have ha : 1 ≤ st.rr + 1 ∧ st.rr + 1 ≤ 12 := by omega
    have hb : 1 ≤ st.ir ∧ st.ir ≤ 12 := by omega
    obtain ⟨P, H, Z, e, n, s1, s2, s3, X, l⟩ := X
    have X1 := X.pf Y1.1
    have l1 := l.keep (fun Q hQ => (l.1 Q hQ).pf Y1.1)
    rw [b_gr1 X1]
    obtain ⟨h2, e2, r1, r2, r3, r4, r5, r6⟩ := x_rec X1 l1 (XS.hlen hS s2) (by omega) l1.h
    have hL2 := r2.2.1
    rw [o_cv_eq r1, new_eq (by show sz h2 + 6 < _; omega)]
    have p0 : Pf h2 (h2 ++ [(3, [.int 0, .int 0, .int 0, .null, .null, .null])]) := Pf.app _ _
    have g2 := r3.2.1 _ _ _ Y1.2.1 (by omega)
    rw [o_gi_eq (p0.get g2) rfl, o_gi_eq (p0.get g2) rfl, b_gr1 (r2.pf p0), c_gi2 (r5.pf p0).1]
    obtain ⟨h3, t1, t2, t3, t4, t5⟩ := x_init (h := h2) (R := st.rr + 1) (C := st.ir) (o := P.2.o) ha hb (by omega)
    rw [o_cv_eq t1]
    obtain ⟨h4, u1, u2, u3, u4, u5⟩ := b_pf1 (r2.pf t2) (1024 + h2.length)
    have g4 := u3.2.1 _ _ _ (t2.get g2) (by omega)
    have B4 : BS h4 b wa1 st.rd := ((Y1.2.2.1.keep r3 (fun i t w => by omega)).pf t2).keep u3 (fun i t w => by omega)
    have bn : tagIs 12 (some b) (f_J23_nextSetBit (some b) 0) h4 = some (some (vI (nsb st.rd 0)), h4) := b_next B4 (k := 0) (by omega)
    rw [u1, o_gr_eq g4 rfl, o_ci_eq bn]
    have ci := newD_CI (1024 + h2.length) (st.rr + 1)
    have hG := newG_GV P.2.o ha hb
    have cQ : CK h4 (newD (1024 + h2.length) (st.rr + 1), newG (st.rr + 1) st.ir P.2.o) := (CK.fresh t3 hG ci hL2).k0 u3
    have dj : ∀ Q, CK h Q → Dj (newD (1024 + h2.length) (st.rr + 1), newG (st.rr + 1) st.ir P.2.o) Q := fun Q c => Dj.fresh ci ((c.pf Y1.1).k8 r3)
    have k4 : ∀ Q, CK h Q → CK h4 Q := fun Q c => (((c.pf Y1.1).k8 r3).pf t2).k0 u3
    have kc4 : KC h h4 := ((Y1.1.kc X.2.1).trans r3.kc).trans ((t2.kc hL2).trans u3.kc)
    have ln4 : h.length ≤ h4.length := by
      have := Y1.1.len
      have := r3.1
      have := t2.len
      omega
    have z4 : sz h4 ≤ sz h + 911 := by omega
    have u2' : XB h4 (newD (1024 + h2.length) (st.rr + 1)).c (zV Z) ((recL H P).map (fun Q => Q.1.c)) e2 10 S.tx := u2
    clear u1 u2 bn n1 e1 r1 t1
    generalize newD (1024 + h2.length) (st.rr + 1) = D at *
    generalize hG0 : newG (st.rr + 1) st.ir P.2.o = G0 at *
    have gR : G0.R = st.rr + 1 := by rw [← hG0]; rfl
    have gC : G0.C = st.ir := by rw [← hG0]; rfl
    refine bits_iter (σ := AH) st.rd (fun n' x s => f_X0_read_65 n' (some 1024) (some (1024 + h.length)) x s)
      (fun K s => CR s D (filB G0 st.rd true K) ∧ Kf (rowW D G0.R) h4 s ∧ sz s ≤ sz h4)
      (fun res => Wr 3000 h res (lnd (rdG st S.g.o)) (rdG st S.g.o, (reco S).hi, S.sv, [])) ?_ ?_ ?_ h4 ⟨by rw [filB_0]; exact cQ.1, Kf.rfl' _ _, Nat.le_refl _⟩
    · rintro s5 n' ⟨q1, q2, q3⟩
      have X5 := u2'.kr q2
      obtain ⟨v, m, mb, f5, y1, y2, y3, y4, y5, y6, y7⟩ := X5.2.2.2.2
      obtain ⟨h6, w1, w2, w3, w4⟩ := sb_clear (⟨y1, y2, y5, y6, y7⟩ : SB s5 v m mb f5 S.tx.length) y4
      have X6 := X5.k17 w3 w2
      have eG : CR s5 D (rdG st S.g.o) := by
        refine q1.cong gR.symm gC.symm (by rw [← hG0, ← s1]; rfl) (fun k hk => ?_) (fun k hk => ?_)
        · have hk : k < G0.N := hk
          have hkb := bof_lt hG hk
          show st.rd (12 * (k / st.ir) + k % st.ir) = if st.rd (bof G0 k) && decide (bof G0 k < 192) then true else G0.l k
          rw [decide_eq_true (show bof G0 k < 192 by omega), Bool.and_true]
          have eb : bof G0 k = 12 * (k / st.ir) + k % st.ir := by unfold bof; rw [gC]
          rw [eb]
          cases st.rd (12 * (k / st.ir) + k % st.ir)
          · rw [if_neg (by decide), ← hG0]; rfl
          · rfl
        · show (-6 : Int32) = if (st.rd (bof G0 k) && decide (bof G0 k < 192)) = true ∧ true = false then -6 else G0.p k
          rw [if_neg (fun w => by cases w.2), ← hG0]; rfl
      have hGr : GV (rdG st S.g.o) := rdG_GV hV hwh _
      have cS : CK s5 (D, rdG st S.g.o) := ⟨eG, hGr, by
        have := cQ.2.2.1
        rw [show ((D, G0) : CG).2.R = st.rr + 1 from gR] at this
        exact this, fun r hr => cQ.2.2.2 r (by rw [show ((D, G0) : CG).2.R = st.rr + 1 from gR]; exact hr)⟩
      have cN : CK h6 (D, rdG st S.g.o) := cS.k17 w3
      rw [f_X0_read_65_s]
      simp only
      rw [if_pos (by decide), b_gr4 X5, o_cv_eq w1, b_gr1 X6, c_ci cN.1 (x_land cN.1 hGr)]
      refine ⟨h6, rfl, xs_new (S := (S.g, S.hi, S.sv, [])) (Q := (D, rdG st S.g.o)) s1 s2 s3 l X6 (fun Q c => ((k4 Q c).kr q2 (dj Q c)).k17 w3) cN (fun Q c r r' hr hr' => dj Q c r r' (by show r < G0.R; rw [gR]; exact hr) hr') rfl, ?_, ?_, ?_⟩
      · exact kc4.trans (q2.kc.trans w3.kc)
      · have := q2.1
        have := w3.1
        omega
      · omega
    · rintro t s5 n' ht hft ⟨q1, q2, q3⟩ hn
      have hrw : (t / 12 < st.rr ∧ t % 12 < st.rc) ∨ (t / 12 = st.rr ∧ t % 12 < st.ir) := hZ t hft
      have hr : t / 12 < G0.R := by rw [gR]; omega
      have hk : t % 12 < G0.C := by
        rw [gC]
        rcases wi.2.2 with w | w <;> omega
      have hj : G0.C * (t / 12) + t % 12 < G0.N := rc_lt hr hk
      have eb : bof G0 (G0.C * (t / 12) + t % 12) = t := by
        unfold bof
        rw [rc_div hk, rc_mod hk]
        omega
      have X5 := u2'.kr q2
      obtain ⟨s6, w1, w2, w3, w4⟩ := e_put (P := (D, G0)) (Gk := filB G0 st.rd true t) cQ rfl (filB_GV hG _ _ _) q1 q2 (show t / 12 < G0.R from hr) (show t % 12 < G0.C from hk) true
      have w1' : tagIs 3 (some D.c) (f_X3_put (some D.c) (nI (t / 12)) (nI (t % 12)) 1) s5 = _ := w1
      have w2' : CR s6 D (filB G0 st.rd true (t + 1)) := by
        have := filB_put (G := G0) (f := st.rd) (b := true) hG hj (by rw [eb]; exact hft) (h := s6) (D := D) (by rw [eb]; exact w2)
        rw [eb] at this
        exact this
      have g6 := w3.2.1 _ _ _ g4 (fun w => by rcases w with w | w <;> omega)
      have B6 := B4.kr w3
      rw [f_X0_read_65_s]
      simp only
      rw [if_neg (nI_pos (by omega)), b_gr1 X5, show (12 : Int32) = nI 12 from rfl, idiv_nI (by omega) (by omega) (by omega), irem_nI (by omega) (by omega) (by omega), o_ci_eq w1', o_gr_eq g6 rfl, li1, nI_add, o_ci_eq (b_next B6 (by omega))]
      exact hn s6 ⟨w2', w3, by omega⟩
    · rintro t s5 ht hf ⟨q1, q2, q3⟩
      exact ⟨by rw [filB_skip hf]; exact q1, q2, q3⟩
  · have h6' : ¬ (rdE S.tx 0 rs0).1 = -6 := h6
    rw [if_neg h6, if_neg h6']
    exact Wr.al X0 ⟨s1', rfl, Y1.1, by omega⟩
