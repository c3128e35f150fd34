set_option maxRecDepth 100000
/-! coastIfChanged -/
theorem xo_cic {h : AH} {S : St} (X : XS h S) (hS : SV S) (x y : Int32) (hz : sz h + 6000 < 1200000) : Wr 3000 h (f_X0_coastIfChanged (some 1024) x y h) (a_cic S x y) S := by
  have X0 := X
  obtain ⟨P, H, Z, e, n, s1, s2, s3, X, l⟩ := X
  unfold f_X0_coastIfChanged a_cic
  have hG := l.h.2.1
  have hgb := hG.1
  rw [b_gr1 X, c_ci l.h.1 (x_isTile l.h.1 hG x y), ite_bI, ← s1]
  by_cases hin : inG P.2 x.toInt y.toInt = true
  · rw [if_pos hin, if_pos hin]
    obtain ⟨r, k, hr, hk, rfl, rfl, ep⟩ := inG_nI hin
    rw [ep, b_gr1 X]
    obtain ⟨h1, B, t1, t2, t3, t4, t5⟩ := x_same X l.h (by omega)
    have X1 := X.pf t2
    have cB1 : CK h1 (B, P.2) := CK.fresh t3 hG t4 X.2.1
    have djB : ∀ Q, CK h Q → Dj (B, P.2) Q := fun Q c => Dj.fresh t4 c
    have t1 : tagIs 0 (some 1024) (f_X0_same (some 1024) (some P.1.c)) h = some (some (vR (some B.c)), h1) := t1
    rw [o_cr_eq t1, c_gr3 cB1.1, c_row cB1.1 hG hr, c_l cB1.1 hG hr hk, ite_bI]
    have e42 : ∀ b : Bool, b = (!P.2.l (P.2.C * r + k)) → Wr 3000 h (f_X0_coastIfChanged_42 (some 1024) (some B.c) (some B.c) (nI r) (nI k) (bI b) h1) (sm (coA (tog P.2 (P.2.C * r + k))) P.2.N - sm (coA P.2) P.2.N + nI 100) S := by
      intro b hb
      unfold f_X0_coastIfChanged_42
      obtain ⟨h2, u1, u2, u3, u4⟩ := e_put (P := (B, P.2)) (Gk := P.2) cB1 rfl hG cB1.1 (Kf.rfl' _ _) hr hk b
      have u1 : tagIs 3 (some B.c) (f_X3_put (some B.c) (nI r) (nI k) (bI b)) h1 = some (some (vI (bI (P.2.l (P.2.C * r + k) != b))), h2) := u1
      have u2 : CR h2 B (putG P.2 (P.2.C * r + k) b) := u2
      have X2 := X1.kr u3
      have l2 : LG h2 (P :: (Z.toList ++ H)) := l.keep (fun Q hQ => ((l.1 Q hQ).pf t2).kr u3 (djB Q (l.1 Q hQ)))
      have hGp := putG_GV hG (P.2.C * r + k) b
      rw [o_ci_eq u1, c_ci u2 (x_coast u2 hGp), b_gr1 X2, c_ci l2.h.1 (x_coast l2.h.1 hG)]
      have ec : ∀ j, coA (putG P.2 (P.2.C * r + k) b) j = coA (tog P.2 (P.2.C * r + k)) j := by
        intro j
        have el : (putG P.2 (P.2.C * r + k) b).l = (tog P.2 (P.2.C * r + k)).l := by
          funext i
          show (if i = P.2.C * r + k then b else P.2.l i) = if i = P.2.C * r + k then !P.2.l i else P.2.l i
          by_cases e : i = P.2.C * r + k
          · rw [if_pos e, if_pos e, hb, e]
          · rw [if_neg e, if_neg e]
        have : tog P.2 (P.2.C * r + k) = (P.2.R, P.2.C, P.2.o, (putG P.2 (P.2.C * r + k) b).l, P.2.p) := by rw [el]; rfl
        rw [this]
        rfl
      rw [show coA (putG P.2 (P.2.C * r + k) b) = coA (tog P.2 (P.2.C * r + k)) from funext ec]
      refine ⟨h2, rfl, ⟨P, H, Z, e, n, s1, s2, s3, X2, l2⟩, (t2.kc X.2.1).trans u3.kc, ?_, by omega⟩
      have := t2.len
      have := u3.1
      omega
    by_cases hl : P.2.l (P.2.C * r + k) = true
    · rw [if_pos hl]
      exact e42 false (by rw [hl]; rfl)
    · rw [if_neg hl]
      exact e42 true (by rw [show P.2.l (P.2.C * r + k) = false by simpa using hl]; rfl)
  · rw [if_neg hin, if_neg hin]
    exact Wr.no X0 _
