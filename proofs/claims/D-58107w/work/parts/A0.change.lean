set_option maxRecDepth 100000
/-! the component's edits -/
noncomputable def edQ (p1 : Rf) : AH → Res := ifTag 96 p1 (lamF true 96 p1 (g0)) (ifTag 98 p1 (lamF true 98 p1 (g2)) (ifTag 99 p1 (lamF true 99 p1 (g3)) (ifTag 100 p1 (lamF true 100 p1 (g4)) (ifTag 101 p1 (lamF true 101 p1 (g5)) (noF)))))
theorem Wr.pf {N M a : Nat} {h h0 : AH} {res : Res} {x : Int32} {S : St} (p : Pf h h0) (hL : 608 ≤ h.length) (hz : sz h0 ≤ sz h + a) (hN : N + a ≤ M) (w : Wr N h0 res x S) : Wr M h res x S := by
  obtain ⟨h', w1, w2, w3, w4, w5⟩ := w
  have := p.len
  exact ⟨h', w1, w2, (p.kc hL).trans w3, by omega, by omega⟩
theorem x_change {h : AH} {S : St} {P : CG} {H : List CG} {Z : Option CG} {e n : Nat} (s1 : P.2 = S.g) (s2 : H.map (fun Q => Q.2) = S.hi) (s3 : Z.map (fun Q => Q.2) = S.sv) (X : XB h P.1.c (zV Z) (H.map (fun Q => Q.1.c)) e n S.tx) (l : LG h (P :: (Z.toList ++ H))) (hS : SV S) {lid : Nat} {N : Nat} {x : Int32} {G : Gr}
    (hz : sz h + N + 5000 < 1200000) (hR : G.R = P.2.R) (hG : GV G) (hx : ¬ x < 0)
    (run : ∀ h1, Pf h h1 → XB h1 P.1.c (zV Z) (H.map (fun Q => Q.1.c)) e n S.tx → CK h1 P → sz h1 ≤ sz h + 750 → ∃ h2, edQ (some lid) h1 = some (some (vI x), h2) ∧ CR h2 P.1 G ∧ Kf (rowW P.1 P.2.R) h1 h2 ∧ sz h2 ≤ sz h1 + N) :
    Wr (N + 800) h (f_X0_change (some 1024) (some lid) h) x (setg (reco S) G) := by
  unfold f_X0_change
  obtain ⟨h1, B, t1, t2, t3, t4, t5⟩ := x_same X l.h (by omega)
  have X1 := X.pf t2
  have l1 := l.keep (fun Q hQ => (l.1 Q hQ).pf t2)
  have cB1 : CK h1 (B, P.2) := CK.fresh t3 l.h.2.1 t4 X.2.1
  have djB : ∀ Q, CK h Q → Dj (B, P.2) Q := fun Q c => Dj.fresh t4 c
  obtain ⟨h2, u1, u2, u3, u4⟩ := run h1 t2 X1 l1.h t5
  show Wr (N + 800) h (o_gr 0 (some 1024) 1 (fun x1 h => o_cr (tagIs 0 (some 1024) (f_X0_same (some 1024) x1)) (fun x2 h => o_ci (edQ (some lid)) _ h) h) h) x _
  rw [b_gr1 X, o_cr_eq t1, o_ci_eq u1, if_neg hx]
  have cP2 : CK h2 (P.1, G) := ⟨u2, hG, by show CI P.1 G.R _; rw [hR]; exact l.h.2.2.1, by intro r hr; have hr : r < G.R := hr; rw [hR] at hr; exact l.h.2.2.2 r hr⟩
  have dBP : Dj P (B, P.2) := (djB P l.h).symm
  have cB2 := cB1.kr u3 dBP
  have X2 := X1.kr u3
  obtain ⟨h3, e3, r1, r2, r3, r4⟩ := x_record X2 (by rw [List.length_map]; exact XS.hlen hS s2) (fun y hy => by
    obtain ⟨Q, hQ, rfl⟩ := List.mem_map.mp hy
    have dj := (List.pairwise_cons.mp l1.2).1 Q (by simp [hQ])
    exact ⟨_, ((l1.1 Q (by simp [hQ])).kr u3 dj).1.1⟩) ⟨_, cB2.1.1⟩ (by omega)
  have r1 : tagIs 0 (some 1024) (f_X0_record (some 1024) (some (CD.c B))) h2 = some (none, h3) := r1
  rw [o_cv_eq r1]
  have er : recL (H.map (fun Q : CG => Q.1.c)) B.c = (recL H (B, P.2)).map (fun Q => Q.1.c) := (recL_map (fun Q : CG => Q.1.c) H (B, P.2)).symm
  have r2 : XB h3 P.1.c (zV Z) (recL (H.map (fun Q : CG => Q.1.c)) B.c) e3 10 S.tx := r2
  rw [er] at r2
  refine ⟨h3, rfl, xs_edit (B := (B, P.2)) s1 s1 s2 s3 l r2 (fun Q c d => ((c.pf t2).kr u3 d).k8 r3) (cP2.k8 r3) hR (cB2.k8 r3) djB, ((t2.kc X.2.1).trans u3.kc).trans r3.kc, ?_, by omega⟩
  have := t2.len
  have := u3.1
  have := r3.1
  omega
/-- from one written row -/
theorem W1.kfp {h h' : AH} {D : CD} {G : Gr} {r : Nat} (w : W1 (D.rp r) h h') (hr : r < G.R) (c : CK h (D, G)) : Kf (rowW D G.R) h h' := WD.kf (G := G) ⟨w.1, w.2.1, fun j hj => w.2.2 j (hj r hr).2⟩ c
theorem xo_pin {h : AH} {S : St} (X : XS h S) (hS : SV S) (x y s : Int32) (hz : sz h + 6000 < 1200000) : Wr 3000 h (f_X0_pin (some 1024) x y s h) (a_pin S x y s).1 (a_pin S x y s).2 := by
  have X0 := X
  obtain ⟨P, H, Z, e, n, s1, s2, s3, X, l⟩ := X
  unfold f_X0_pin a_pin
  have hG := l.h.2.1
  have hgb := hG.1
  rw [b_gr1 X, c_ci l.h.1 (x_isTile l.h.1 hG x y), ite_bI, ← s1]
  by_cases hin : inG P.2 x.toInt y.toInt = true
  · rw [if_pos hin, o_ci_eq (x_isShape _ _), ite_bI]
    simp only [decide_eq_true_eq]
    by_cases q : 0 ≤ s.toInt ∧ s.toInt ≤ 46
    · rw [if_pos q, if_pos ⟨hin, q⟩]
      obtain ⟨r, k, hr, hk, rfl, rfl, ep⟩ := inG_nI hin
      rw [ep, b_gr1 X, c_gr3 l.h.1, c_row l.h.1 hG hr, c_l l.h.1 hG hr hk, ite_bI]
      by_cases hl : P.2.l (P.2.C * r + k) = true
      · rw [if_pos hl, if_pos hl, o_lam_eq (by rfl) (by show sz h + 4 < _; omega)]
        have p0 : Pf h (h ++ [(100, [vR (some 1024), vI (nI r), vI (nI k), vI s].map lamV)]) := Pf.app _ _
        have z0 : sz (h ++ [(100, [vR (some 1024), vI (nI r), vI (nI k), vI s].map lamV)]) = sz h + 5 := by rw [sz_app, sz_one]; rfl
        have gl : hget (h ++ [(100, [vR (some 1024), vI (nI r), vI (nI k), vI s].map lamV)]) (1024 + h.length) = some (100, [.ref 1024, .int (nI r), .int (nI k), .int s]) := hget_last h _
        generalize h ++ [(100, [vR (some 1024), vI (nI r), vI (nI k), vI s].map lamV)] = h0 at p0 z0 gl ⊢
        have X1 := X.pf p0
        have l1 := l.keep (fun Q hQ => (l.1 Q hQ).pf p0)
        have hGp : GV (pinG P.2 (P.2.C * r + k) s) := pinG_GV hG (.inr (shp_or.mp q))
        have hfl : flt (pinG P.2 (P.2.C * r + k) s) (P.2.C * r + k) ≤ 8 := flt_le hGp (rc_lt hr hk)
        have ch := x_change s1 s2 s3 X1 l1 hS (lid := 1024 + h.length) (N := 8) (x := nI (flt (pinG P.2 (P.2.C * r + k) s) (P.2.C * r + k))) (G := pinG P.2 (P.2.C * r + k) s) (by omega) rfl hGp (nI_pos (by omega)) (fun h1 p1 Y c1 z1 => by
          obtain ⟨h2, w1, w2, w3⟩ := cw_p c1.1 hG (c1.2.2.1.mono (by omega)) (Nat.le_refl 1024) hr hk s
          have k2 := w3.kfp hr c1
          have Y2 := Y.kr k2
          obtain ⟨h3, v1, v2, v3⟩ := x_flt w2 hGp Y2.bs hr hk (by rw [w3.2.1]; omega)
          have g1 := p1.get gl
          refine ⟨h3, ?_, w2.pf v2, k2.trans (Kf.of_pf v2 Y2.2.1), by rw [w3.2.1] at v3; omega⟩
          unfold edQ
          rw [ifTag_n g1 (by omega), ifTag_n g1 (by omega), ifTag_n g1 (by omega), ifTag_y g1]
          refine lamF_I g1 ?_
          show tagIs 0 (some 1024) (f_X0_lambda_pin_4 (some 1024) (nI r) (nI k) s) h1 = _
          rw [b_tag Y]
          unfold f_X0_lambda_pin_4
          rw [b_gr1 Y, c_gr4 c1.1, c_rowp c1.1 hG hr, w1, b_gr1 Y2, c_ci w2 v1]
          rfl)
        obtain ⟨hh, c1, c2⟩ := ch
        rw [o_ci_eq ((b_tag X1).trans c1)]
        exact Wr.pf p0 X.2.1 (a := 5) (by omega) (by omega) (N := 808) ⟨hh, rfl, c2⟩
      · rw [if_neg hl, if_neg hl]
        exact Wr.no X0 _
    · rw [if_neg q, if_neg (fun w => q w.2)]
      exact Wr.no X0 _
  · rw [if_neg hin, if_neg (fun w => hin w.1)]
    exact Wr.no X0 _
theorem xo_unpin {h : AH} {S : St} (X : XS h S) (hS : SV S) (x y : Int32) (hz : sz h + 6000 < 1200000) : Wr 3000 h (f_X0_unpin (some 1024) x y h) (a_unpin S x y).1 (a_unpin S x y).2 := by
  have X0 := X
  obtain ⟨P, H, Z, e, n, s1, s2, s3, X, l⟩ := X
  unfold f_X0_unpin a_unpin
  have hG := l.h.2.1
  have hgb := hG.1
  rw [b_gr1 X, c_ci l.h.1 (x_isTile l.h.1 hG x y), ite_bI, ← s1]
  by_cases hin : inG P.2 x.toInt y.toInt = true
  · rw [if_pos hin, if_pos hin]
    obtain ⟨r, k, hr, hk, rfl, rfl, ep⟩ := inG_nI hin
    rw [ep, b_gr1 X, c_gr4 l.h.1, c_rowp l.h.1 hG hr, c_p l.h.1 hG hr hk]
    by_cases hp : P.2.p (P.2.C * r + k) = -6
    · rw [if_pos hp, if_pos hp]
      exact Wr.no X0 _
    · rw [if_neg hp, if_neg hp]
      obtain ⟨sh, hsh, es⟩ := (hG.2 _ (rc_lt hr hk)).resolve_left hp
      rw [o_lam_eq (by rfl) (by show sz h + 4 < _; omega)]
      have p0 : Pf h (h ++ [(101, [vR (some 1024), vI (nI r), vI (nI k), vI (P.2.p (P.2.C * r + k))].map lamV)]) := Pf.app _ _
      have z0 : sz (h ++ [(101, [vR (some 1024), vI (nI r), vI (nI k), vI (P.2.p (P.2.C * r + k))].map lamV)]) = sz h + 5 := by rw [sz_app, sz_one]; rfl
      have gl : hget (h ++ [(101, [vR (some 1024), vI (nI r), vI (nI k), vI (P.2.p (P.2.C * r + k))].map lamV)]) (1024 + h.length) = some (101, [.ref 1024, .int (nI r), .int (nI k), .int (P.2.p (P.2.C * r + k))]) := hget_last h _
      generalize h ++ [(101, [vR (some 1024), vI (nI r), vI (nI k), vI (P.2.p (P.2.C * r + k))].map lamV)] = h0 at p0 z0 gl ⊢
      have X1 := X.pf p0
      have l1 := l.keep (fun Q hQ => (l.1 Q hQ).pf p0)
      have hGp : GV (pinG P.2 (P.2.C * r + k) (-6)) := pinG_GV hG (.inl rfl)
      have ch := x_change s1 s2 s3 X1 l1 hS (lid := 1024 + h.length) (N := 8) (x := P.2.p (P.2.C * r + k)) (G := pinG P.2 (P.2.C * r + k) (-6)) (by omega) rfl hGp (by rw [es]; exact nI_pos (by omega)) (fun h1 p1 Y c1 z1 => by
        obtain ⟨h2, w1, w2, w3⟩ := cw_p c1.1 hG (c1.2.2.1.mono (by omega)) (Nat.le_refl 1024) hr hk (-6)
        have k2 := w3.kfp hr c1
        have g1 := p1.get gl
        refine ⟨h2, ?_, w2, k2, by rw [w3.2.1]; omega⟩
        unfold edQ
        rw [ifTag_n g1 (by omega), ifTag_n g1 (by omega), ifTag_n g1 (by omega), ifTag_n g1 (by omega), ifTag_y g1]
        refine lamF_I g1 ?_
        show tagIs 0 (some 1024) (f_X0_lambda_unpin_5 (some 1024) (nI r) (nI k) (P.2.p (P.2.C * r + k))) h1 = _
        rw [b_tag Y]
        unfold f_X0_lambda_unpin_5
        rw [b_gr1 Y, c_gr4 c1.1, c_rowp c1.1 hG hr, w1])
      obtain ⟨hh, c1, c2⟩ := ch
      rw [o_ci_eq ((b_tag X1).trans c1)]
      exact Wr.pf p0 X.2.1 (a := 5) (by omega) (by omega) (N := 808) ⟨hh, rfl, c2⟩
  · rw [if_neg hin, if_neg hin]
    exact Wr.no X0 _
