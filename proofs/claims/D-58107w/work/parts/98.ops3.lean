set_option maxRecDepth 100000
/-! the component's calls that change it (3) -/
theorem eraseIdx_concat {α : Type} (l : List α) (x : α) : (l ++ [x]).eraseIdx l.length = l := by
  induction l with
  | nil => rfl
  | cons y l ih => show y :: (l ++ [x]).eraseIdx l.length = y :: l; rw [ih]
theorem XB.k8 {h : AH} {cc : Nat} {z : Value} {hh : List Nat} {e n : Nat} {tx : List Nat} (X : XB h cc z hh e n tx) {h' : AH} {hh' : List Nat} {e' n' : Nat} (k : Kf (fun _ t => t = 8 ∨ t = 69) h h') (H : HL h' e' n' hh') : XB h' cc z hh' e' n' tx := by
  obtain ⟨y1, y2, y3, y4, y5⟩ := X
  exact ⟨k.2.2.cat y1, Nat.le_trans y2 k.1, k.2.1 _ _ _ y3 (by omega), H, y5.keep k (fun i t q => by omega)⟩
theorem xo_undo {h : AH} {S : St} (X : XS h S) (hS : SV S) (hz : sz h + 1000 < 1200000) : Wr 100 h (f_X0_undo (some 1024) h) (a_undo S).1 (a_undo S).2 := by
  have X0 := X
  obtain ⟨P, H, Z, e, n, s1, s2, s3, X, l⟩ := X
  have h5 := XS.hlen hS s2
  unfold f_X0_undo a_undo
  rw [b_gr3 X, o_ci_eq (hl_empty X.2.2.2.1), ite_bI, List.length_map, ← s2]
  rcases List.eq_nil_or_concat H with e0 | ⟨H0, Q, e0⟩
  · subst e0
    rw [if_pos (by rfl)]
    exact Wr.no X0 _
  · rw [List.concat_eq_append] at e0
    subst e0
    have hlen : (H0 ++ [Q]).length = H0.length + 1 := by simp
    rw [hlen] at h5 ⊢
    rw [if_neg (by simp), b_gr3 X, b_gr3 X, o_ci_eq (hl_size X.2.2.2.1), List.length_map, hlen]
    have e1 : nI (H0.length + 1) - 1 = nI H0.length := by
      rw [show (1 : Int32) = nI 1 from rfl, pk_sub (by omega)]; rfl
    obtain ⟨h1, a1, a2, a3, a4, a5⟩ := hl_remove X.2.2.2.1 (i := H0.length) (x := Q.1.c) (by rw [List.map_append, List.getElem?_append_right (by simp)]; simp) (by rw [List.length_map, hlen]; omega) l.obj
    have k1 := X.2.2.2.1.kf X.2.1 a3
    have cQ : CK h1 Q := (l.1 Q (by simp)).k8 k1
    have ee : (List.map (fun Q : CG => Q.1.c) (H0 ++ [Q])).eraseIdx H0.length = H0.map (fun Q => Q.1.c) := by
      have := eraseIdx_concat (H0.map (fun Q : CG => Q.1.c)) Q.1.c
      rw [List.length_map] at this
      rw [List.map_append]; exact this
    rw [ee] at a2
    have X1 := X.k8 k1 a2
    obtain ⟨h2, u1, u2, u3, u4, u5⟩ := b_pf1 X1 Q.1.c
    rw [e1, o_cr_eq a1, o_cc_eq cQ.1.1, u1, b_gr3 u2, o_ci_eq (hl_size u2.2.2.2.1), List.length_map]
    have eg : (List.map (fun Q : CG => Q.2) (H0 ++ [Q])).getLast? = some Q.2 := by simp
    have ed : (List.map (fun Q : CG => Q.2) (H0 ++ [Q])).dropLast = H0.map (fun Q => Q.2) := by simp
    rw [eg]
    show Wr 100 h _ (nI ((List.map (fun Q : CG => Q.2) (H0 ++ [Q])).length - 1)) (Q.2, (List.map (fun Q : CG => Q.2) (H0 ++ [Q])).dropLast, S.sv, S.tx)
    rw [ed, List.length_map, hlen]
    refine ⟨h2, rfl, ⟨Q, H0, Z, e, n, rfl, rfl, s3, u2, ?_⟩, k1.kc.trans u3.kc, by omega, by omega⟩
    have l1 : LG h2 (P :: (Z.toList ++ (H0 ++ [Q]))) := l.keep (fun Q' hQ' => ((l.1 Q' hQ').k8 k1).k0 u3)
    have l2 : LG h2 (Z.toList ++ (H0 ++ [Q])) := l1.sub (List.sublist_cons_self _ _)
    refine l2.perm ?_
    rw [← List.append_assoc]
    exact (List.perm_append_comm (l₁ := [Q]) (l₂ := Z.toList ++ H0))
theorem xo_turn {h : AH} {S : St} (X : XS h S) (hS : SV S) (x : Int32) (hz : sz h + 6000 < 1200000) : Wr 3000 h (f_X0_turn (some 1024) x h) (a_turn S x).1 (a_turn S x).2 := by
  have X0 := X
  obtain ⟨P, H, Z, e, n, s1, s2, s3, X, l⟩ := X
  unfold f_X0_turn a_turn
  rw [o_ci_eq (x_in _ _ _ _), ite_bI, ← s1]
  simp only [decide_eq_true_eq, ti1, ti3]
  by_cases q : 1 ≤ x.toInt ∧ x.toInt ≤ 3
  · rw [if_pos q, if_pos q]
    obtain ⟨m, hm, rfl⟩ : ∃ m, (1 ≤ m ∧ m ≤ 3) ∧ x = nI m := ⟨x.toInt.toNat, by omega, nI_toNat (by omega)⟩
    rw [nat_nI (by omega), b_gr1 X]
    obtain ⟨h1, e1, r1, r2, r3, r4, r5, r6⟩ := x_rec X l (XS.hlen hS s2) (by omega) l.h
    have hL1 := r2.2.1
    rw [o_cv_eq r1]
    refine loop1 (σ := AH × CD) m (fun n' k s => f_X0_turn_22 n' (some 1024) (nI m) (nI k) s.1)
      (fun k s => XB s.1 s.2.c (zV Z) ((recL H P).map (fun Q => Q.1.c)) e1 10 S.tx ∧ CK s.1 (s.2, turnN P.2 k) ∧ (∀ Q, CK h1 Q → CK s.1 Q) ∧ (1 ≤ k → ∀ Q, CK h1 Q → Dj (s.2, turnN P.2 k) Q) ∧ KC h1 s.1 ∧ h1.length ≤ s.1.length ∧ sz s.1 ≤ sz h1 + 750 * k)
      (fun res => Wr 3000 h res (nI (turnN P.2 m).R) (setg (reco S) (turnN P.2 m))) ?_ ?_ 0 (h1, P.1) FUEL (by omega) ⟨r2, r5, fun Q c => c, fun w => by omega, fun _ _ => rfl, Nat.le_refl _, by show sz h1 ≤ _; omega⟩ (by simp only [FUEL]; omega)
    · rintro ⟨s, D⟩ n' ⟨q1, q2, q3, q4, q5, q6, q7⟩
      rw [f_X0_turn_22_s]
      simp only
      rw [if_pos (nI_le (Nat.le_refl _) (by omega)), b_gr1 q1, c_gi0 q2.1]
      refine ⟨s, rfl, xs_new (Q := (D, turnN P.2 m)) s1 s2 s3 l q1 (fun Q c => q3 Q (c.k8 r3)) q2 (fun Q c => q4 hm.1 Q (c.k8 r3)) rfl, r3.kc.trans q5, Nat.le_trans r3.1 q6, ?_⟩
      have q7 : sz s ≤ sz h1 + 750 * m := q7
      omega
    · rintro k ⟨s, D⟩ n' hk ⟨q1, q2, q3, q4, q5, q6, q7⟩ hn
      have q7 : sz s ≤ sz h1 + 750 * k := q7
      rw [f_X0_turn_22_s]
      simp only
      obtain ⟨h2, D', t1, t2, t3, t4, t5⟩ := x_turnedC q2.1 q2.2.1 q1.bs (by omega)
      have hLs := q1.2.1
      have cN : CK h2 (D', turnN P.2 (k + 1)) := CK.fresh (G := turnN P.2 (k + 1)) t3 (turnN_GV l.h.2.1 (k + 1)) t4 hLs
      obtain ⟨h3, u1, u2, u3, u4, u5⟩ := b_pf1 (q1.pf t2) D'.c
      have t1 : tagIs 3 (some D.c) (f_X3_turned (some D.c)) s = some (some (vR (some (CD.c D'))), h2) := t1
      rw [if_neg (nI_ge hk (by omega)), b_gr1 q1, o_cr_eq t1, u1, o_let_eq, li1, nI_add]
      refine hn (h3, D') ⟨u2, cN.k0 u3, fun Q c => ((q3 Q c).pf t2).k0 u3, fun _ Q c => Dj.fresh (G := turnN P.2 (k + 1)) t4 (q3 Q c), (q5.trans (t2.kc hLs)).trans u3.kc, ?_, ?_⟩
      · have := t2.len
        show h1.length ≤ h3.length
        have q6 : h1.length ≤ s.length := q6
        omega
      · show sz h3 ≤ sz h1 + 750 * (k + 1)
        omega
  · rw [if_neg q, if_neg q]
    exact Wr.no X0 _
