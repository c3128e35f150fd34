set_option maxRecDepth 100000
/-! the component's calls that change it (2) -/
theorem CI.mono {D : CD} {R lo lo' : Nat} (c : CI D R lo) (h : lo' ≤ lo) : CI D R lo' := ⟨c.1, c.2.1, Nat.le_trans h c.2.2.1, Nat.le_trans h c.2.2.2.1, Nat.le_trans h c.2.2.2.2.1, fun r hr => ⟨Nat.le_trans h (c.2.2.2.2.2 r hr).1, Nat.le_trans h (c.2.2.2.2.2 r hr).2⟩⟩
theorem x_same {h : AH} {cc : Nat} {z : Value} {hh : List Nat} {e n : Nat} {tx : List Nat} (X : XB h cc z hh e n tx) {P : CG} (c : CK h P) (hz : sz h + 2000 < 1200000) :
    ∃ h' D', tagIs 0 (some 1024) (f_X0_same (some 1024) (some P.1.c)) h = some (some (vR (some (CD.c D'))), h') ∧ Pf h h' ∧ CR h' D' P.2 ∧ CI D' P.2.R (1024 + h.length) ∧ sz h' ≤ sz h + 750 := by
  obtain ⟨h', D', a1, a2, a3, a4, a5⟩ := x_copy c.1 c.2.1 P.2.o hz
  rw [b_tag X]
  unfold f_X0_same
  rw [c_gi2 c.1, o_cr_eq a1]
  exact ⟨h', D', rfl, a2, a3, a4, a5⟩
theorem Kf.kc {W : Nat → Nat → Prop} {h h' : AH} (k : Kf W h h') : KC h h' := k.2.2
theorem Pf.kc {h h' : AH} (p : Pf h h') (hL : 608 ≤ h.length) : KC h h' := (Kf.of_pf (W := fun _ _ => False) p hL).2.2
theorem xo_setOutside {h : AH} {S : St} (X : XS h S) (hS : SV S) (b : Bool) (hz : sz h + 5000 < 1200000) : Wr 3000 h (f_X0_setOutside (some 1024) (bI b) h) (a_setOutside S b).1 (a_setOutside S b).2 := by
  have X0 := X
  obtain ⟨P, H, Z, e, n, s1, s2, s3, X, l⟩ := X
  unfold f_X0_setOutside a_setOutside
  rw [b_gr1 X, ← s1]
  obtain ⟨h1, e1, r1, r2, r3, r4, r5, r6⟩ := x_rec X l (XS.hlen hS s2) (by omega) l.h
  have hL1 := r2.2.1
  rw [o_cv_eq r1, b_gr1 r2]
  obtain ⟨h2, D', t1, t2, t3, t4, t5⟩ := x_copy r5.1 r5.2.1 b (by omega)
  rw [o_cr_eq t1]
  obtain ⟨h3, u1, u2, u3, u4, u5⟩ := b_pf1 (r2.pf t2) D'.c
  rw [u1, b_gr1 u2]
  have cQ : CK h3 (D', setO P.2 b) := (CK.fresh t3 r5.2.1 t4 hL1).k0 u3
  have cP := (r5.pf t2).k0 u3
  obtain ⟨h4, v1, v2, v3⟩ := x_dif cQ.1 cP.1 cQ.2.1 cP.2.1 u2.bs rfl rfl (by omega)
  rw [c_ci cQ.1 v1]
  refine ⟨h4, rfl, xs_new (Q := (D', setO P.2 b)) s1 s2 s3 l (u2.pf v2) (fun Q c => (((c.k8 r3).pf t2).k0 u3).pf v2) (cQ.pf v2) (fun Q c => Dj.fresh t4 (c.k8 r3)) rfl, ?_, ?_, by omega⟩
  · exact ((r3.kc.trans (t2.kc hL1)).trans u3.kc).trans (v2.kc u2.2.1)
  · have := r3.1
    have := t2.len
    have := v2.len
    omega
theorem xo_save {h : AH} {S : St} (X : XS h S) (hS : SV S) (hz : sz h + 5000 < 1200000) : Wr 1000 h (f_X0_save (some 1024) h) (a_save S).1 (a_save S).2 := by
  obtain ⟨P, H, Z, e, n, s1, s2, s3, X, l⟩ := X
  unfold f_X0_save a_save
  rw [b_gr1 X, ← s1]
  obtain ⟨h2, D', t1, t2, t3, t4, t5⟩ := x_same X l.h (by omega)
  rw [o_cr_eq t1]
  obtain ⟨h3, u1, u2, u3, u4, u5⟩ := b_pf2 (X.pf t2) D'.c
  rw [u1, b_gr1 u2]
  have cP := (l.h.pf t2).k0 u3
  rw [c_ci cP.1 (x_land cP.1 cP.2.1)]
  have l3 : LG h3 ((D', P.2) :: P :: H) := ((l.sub (List.Sublist.cons_cons P (List.sublist_append_right Z.toList H))).cons t2 X.2.1 t3 l.h.2.1 t4).keep (fun Q hQ => (((l.sub (List.Sublist.cons_cons P (List.sublist_append_right Z.toList H))).cons t2 X.2.1 t3 l.h.2.1 t4).1 Q hQ).k0 u3)
  refine ⟨h3, rfl, ⟨P, H, some (D', P.2), e, n, rfl, s2, rfl, u2, l3.perm (List.Perm.swap _ _ _)⟩, ?_, ?_, by omega⟩
  · exact (t2.kc X.2.1).trans u3.kc
  · have := t2.len
    omega
theorem xo_restore {h : AH} {S : St} (X : XS h S) (hS : SV S) (hz : sz h + 5000 < 1200000) : Wr 1000 h (f_X0_restore (some 1024) h) (a_restore S).1 (a_restore S).2 := by
  have X0 := X
  obtain ⟨P, H, Z, e, n, s1, s2, s3, X, l⟩ := X
  unfold f_X0_restore a_restore
  cases Z with
  | none =>
    have s3 : S.sv = none := s3.symm
    rw [o_grN_eq X.2.2.1 rfl, if_pos rfl, s3]
    exact Wr.no X0 _
  | some Q =>
    have s3' : S.sv = some Q.2 := s3.symm
    rw [o_gr_eq (x := Q.1.c) X.2.2.1 rfl, if_neg (by simp), s3', b_gr1 X]
    obtain ⟨h1, e1, r1, r2, r3, r4, r5, r6⟩ := x_rec X l (XS.hlen hS s2) (by omega) l.h
    have hL1 := r2.2.1
    rw [o_cv_eq r1, o_gr_eq (x := Q.1.c) r2.2.2.1 rfl]
    have cQ1 : CK h1 Q := r4.1 Q (by simp)
    obtain ⟨h2, D', t1, t2, t3, t4, t5⟩ := x_same r2 cQ1 (by omega)
    rw [o_cr_eq t1]
    obtain ⟨h3, u1, u2, u3, u4, u5⟩ := b_pf1 (r2.pf t2) D'.c
    rw [u1, b_gr1 u2]
    have cN : CK h3 (D', Q.2) := (CK.fresh t3 cQ1.2.1 t4 hL1).k0 u3
    rw [c_ci cN.1 (x_land cN.1 cN.2.1)]
    refine ⟨h3, rfl, xs_new (Q := (D', Q.2)) s1 s2 s3 l u2 (fun Q c => ((c.k8 r3).pf t2).k0 u3) cN (fun Q c => Dj.fresh t4 (c.k8 r3)) rfl, ?_, ?_, by omega⟩
    · exact (r3.kc.trans (t2.kc hL1)).trans u3.kc
    · have := r3.1
      have := t2.len
      omega
/-- only rows of the map were written -/
def rowW (D : CD) (R : Nat) : Nat → Nat → Prop := fun i t => (t = 65 ∧ ∃ r, r < R ∧ i = D.rl r) ∨ (t = 64 ∧ ∃ r, r < R ∧ i = D.rp r)
theorem tag_eq {h : AH} {i t t' : Nat} {vs vs' : List Value} (h1 : hget h i = some (t, vs)) (h2 : hget h i = some (t', vs')) : t = t' := by
  rw [h1] at h2
  exact congrArg (fun o => ((o.map Prod.fst).getD 0)) h2
theorem WD.kf {h h' : AH} {D : CD} {G : Gr} (w : WD D G.R h h') (c : CK h (D, G)) : Kf (rowW D G.R) h h' := by
  refine ⟨Nat.le_of_eq w.1.symm, fun i t vs g q => ?_, fun i hi => ?_⟩
  · rw [w.2.2 i (fun r hr => ⟨fun e => ?_, fun e => ?_⟩)]
    · exact g
    · subst e
      exact q (.inl ⟨tag_eq g (c.1.2.2.2 r hr).1, r, hr, rfl⟩)
    · subst e
      exact q (.inr ⟨tag_eq g (c.1.2.2.2 r hr).2, r, hr, rfl⟩)
  · refine w.2.2 i (fun r hr => ?_)
    have := c.2.2.2 r hr
    unfold mok at this
    exact ⟨fun e => by have e : i = (D, G).1.rl r := e; omega, fun e => by have e : i = (D, G).1.rp r := e; omega⟩
theorem CK.kr {h h' : AH} {Q : CG} (c : CK h Q) {P : CG} (k : Kf (rowW P.1 P.2.R) h h') (d : Dj P Q) : CK h' Q := by
  refine c.keep k (fun i t w => ?_) (fun i t r w hr => ⟨fun e => ?_, fun e => ?_⟩)
  · rcases w with w | w <;> omega
  · rcases w with ⟨_, r', hr', rfl⟩ | w
    · exact (d r' r hr' hr).1
    · omega
  · rcases w with w | ⟨_, r', hr', rfl⟩
    · omega
    · exact (d r' r hr' hr).2
theorem XB.kr {h : AH} {cc : Nat} {z : Value} {hh : List Nat} {e n : Nat} {tx : List Nat} (X : XB h cc z hh e n tx) {D : CD} {R : Nat} {h' : AH} (k : Kf (rowW D R) h h') : XB h' cc z hh e n tx := X.keep k (fun i t w => by rcases w with w | w <;> omega)
/-- the state, once the current map was written and a copy recorded -/
theorem xs_edit {S : St} {P B : CG} {H : List CG} {Z : Option CG} {e n : Nat} {h h' : AH} {G : Gr} (eP : P.2 = S.g) (eB : B.2 = S.g) (s2 : H.map (fun Q => Q.2) = S.hi) (s3 : Z.map (fun Q => Q.2) = S.sv) (l : LG h (P :: (Z.toList ++ H))) (X : XB h' P.1.c (zV Z) ((recL H B).map (fun Q => Q.1.c)) e n S.tx) (k : ∀ Q, CK h Q → Dj P Q → CK h' Q) (cP : CK h' (P.1, G)) (hR : G.R = P.2.R) (cB : CK h' B) (dj : ∀ Q', CK h Q' → Dj B Q') : XS h' (setg (reco S) G) := by
  obtain ⟨l1, l2⟩ := l
  rw [List.pairwise_cons] at l2
  have lB : LG h' (B :: (P.1, G) :: (Z.toList ++ H)) := by
    refine ⟨fun Q hQ => ?_, ?_⟩
    · rcases List.mem_cons.mp hQ with e | e
      · subst e; exact cB
      · rcases List.mem_cons.mp e with e | e
        · subst e; exact cP
        · exact k _ (l1 _ (List.mem_cons_of_mem _ e)) (l2.1 _ e)
    · rw [List.pairwise_cons, List.pairwise_cons]
      refine ⟨fun Q hQ => ?_, fun Q hQ r r' hr hr' => ?_, l2.2⟩
      · rcases List.mem_cons.mp hQ with e | e
        · subst e
          intro r r' hr hr'
          have hr' : r' < G.R := hr'
          exact dj P (l1 _ List.mem_cons_self) r r' hr (by rw [← hR]; exact hr')
        · exact dj Q (l1 _ (List.mem_cons_of_mem _ e))
      · have hr : r < G.R := hr
        exact l2.1 Q hQ r r' (by rw [← hR]; exact hr) hr'
  refine ⟨(P.1, G), recL H B, Z, e, n, rfl, ?_, s3, X, ?_⟩
  · rw [recL_map, s2, eB]; rfl
  · have l3 : LG h' ((P.1, G) :: B :: (Z.toList ++ H)) := lB.perm (List.Perm.swap _ _ _)
    have l4 : LG h' (Z.toList ++ recL H B) := (lB.sub (List.Sublist.cons_cons _ (List.sublist_cons_self _ _))).rec
    refine ⟨fun Q hQ => ?_, ?_⟩
    · rcases List.mem_cons.mp hQ with e | e
      · subst e; exact cP
      · exact l4.1 Q e
    · rw [List.pairwise_cons]
      refine ⟨fun Q hQ => ?_, l4.2⟩
      have := l3.2
      rw [List.pairwise_cons] at this
      refine this.1 Q ?_
      rcases List.mem_append.mp hQ with e | e
      · simp [e]
      · unfold recL at e
        rcases List.mem_append.mp e with e | e
        · have : Q ∈ H := by
            split at e
            · exact List.mem_of_mem_tail e
            · exact e
          simp [this]
        · simp at e
          simp [e]
theorem xo_set {h : AH} {S : St} (X : XS h S) (hS : SV S) (x y : Int32) (b : Bool) (hz : sz h + 5000 < 1200000) : Wr 3000 h (f_X0_set (some 1024) x y (bI b) h) (a_set S x y b).1 (a_set S x y b).2 := by
  have X0 := X
  obtain ⟨P, H, Z, e, n, s1, s2, s3, X, l⟩ := X
  unfold f_X0_set a_set
  rw [b_gr1 X, c_ci l.h.1 (x_isTile l.h.1 l.h.2.1 x y), ite_bI, ← s1]
  by_cases hin : inG P.2 x.toInt y.toInt = true
  · rw [if_pos hin, if_pos hin]
    obtain ⟨r, k, hr, hk, rfl, rfl, ep⟩ := inG_nI hin
    rw [ep, b_gr1 X]
    obtain ⟨h1, B, t1, t2, t3, t4, t5⟩ := x_same X l.h (by omega)
    have X1 := X.pf t2
    have l1 := l.keep (fun Q hQ => (l.1 Q hQ).pf t2)
    have cB1 : CK h1 (B, P.2) := CK.fresh t3 l.h.2.1 t4 X.2.1
    have djB : ∀ Q, CK h Q → Dj (B, P.2) Q := fun Q c => Dj.fresh t4 c
    obtain ⟨h2, e2, r1, r2, r3, r4, r5, r6⟩ := x_rec X1 l1 (XS.hlen hS s2) (by omega) cB1
    have r1 : tagIs 0 (some 1024) (f_X0_record (some 1024) (some (CD.c B))) h1 = some (none, h2) := r1
    rw [o_cr_eq t1, o_cv_eq r1, b_gr1 r2]
    obtain ⟨h3, u1, u2, u3⟩ := x_put r4.h.1 r4.h.2.1 (r4.h.2.2.1.mono (by omega)) (Nat.le_refl 1024) hr hk b
    have k3 := u3.kf r4.h
    rw [o_ci_eq u1, b_gr1 (r2.kr k3)]
    have dBP : Dj P (B, P.2) := (djB P l.h).symm
    have cB3 := r5.kr k3 dBP
    have cP3 : CK h3 (P.1, putG P.2 (P.2.C * r + k) b) := ⟨u2, putG_GV r4.h.2.1 _ _, r4.h.2.2.1, r4.h.2.2.2⟩
    obtain ⟨h4, v1, v2, v3⟩ := x_dif cP3.1 cB3.1 cP3.2.1 cB3.2.1 (r2.kr k3).bs rfl rfl (by rw [u3.2.1]; omega)
    rw [c_ci cP3.1 v1]
    refine ⟨h4, rfl, xs_edit (B := (B, P.2)) s1 s1 s2 s3 l ((r2.kr k3).pf v2) (fun Q c d => (((c.pf t2).k8 r3).kr k3 d).pf v2) (cP3.pf v2) rfl (cB3.pf v2) djB, ?_, ?_, ?_⟩
    · exact (((t2.kc X.2.1).trans r3.kc).trans k3.kc).trans (v2.kc (r2.kr k3).2.1)
    · have := t2.len
      have := r3.1
      have := k3.1
      have := v2.len
      omega
    · have := u3.2.1
      omega
  · rw [if_neg hin, if_neg hin]
    exact Wr.no X0 _
