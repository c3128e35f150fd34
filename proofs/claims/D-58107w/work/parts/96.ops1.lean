set_option maxRecDepth 100000
/-! the component's calls that change it (1) -/
def LG (h : AH) (L : List CG) : Prop := (∀ Q, Q ∈ L → CK h Q) ∧ L.Pairwise Dj
theorem LG.keep {h h' : AH} {L : List CG} (l : LG h L) (k : ∀ Q, Q ∈ L → CK h' Q) : LG h' L := ⟨k, l.2⟩
theorem LG.sub {h : AH} {L L' : List CG} (l : LG h L) (s : L'.Sublist L) : LG h L' := ⟨fun Q hQ => l.1 Q (s.subset hQ), l.2.sublist s⟩
theorem LG.perm {h : AH} {L L' : List CG} (l : LG h L) (s : L'.Perm L) : LG h L' := ⟨fun Q hQ => l.1 Q (s.subset hQ), (List.Perm.pairwise_iff (fun d => Dj.symm d) s).mpr l.2⟩
theorem LG.cons {h h' : AH} {L : List CG} (l : LG h L) (p : Pf h h') (hL : 608 ≤ h.length) {D : CD} {G : Gr} (c : CR h' D G) (hG : GV G) (ci : CI D G.R (1024 + h.length)) : LG h' ((D, G) :: L) := by
  refine ⟨fun Q hQ => ?_, ?_⟩
  · rcases List.mem_cons.mp hQ with e | e
    · subst e; exact CK.fresh c hG ci hL
    · exact (l.1 Q e).pf p
  · rw [List.pairwise_cons]
    exact ⟨fun Q hQ => Dj.fresh ci (l.1 Q hQ), l.2⟩
theorem LG.rec {h : AH} {P : CG} {Z H : List CG} (l : LG h (P :: (Z ++ H))) : LG h (Z ++ recL H P) := by
  have l1 : LG h (P :: (Z ++ if H.length = 5 then H.tail else H)) := by
    refine l.sub (List.Sublist.cons_cons _ (List.Sublist.append (List.Sublist.refl _) ?_))
    split
    · exact List.tail_sublist H
    · exact List.Sublist.refl _
  refine l1.perm ?_
  unfold recL
  rw [← List.append_assoc]
  exact List.perm_append_comm
def zV (Z : Option CG) : Value := match Z with
  | none => .null
  | some Q => .ref Q.1.c
def XS (h : AH) (S : St) : Prop := ∃ (P : CG) (H : List CG) (Z : Option CG) (e n : Nat), P.2 = S.g ∧ H.map (fun Q => Q.2) = S.hi ∧ Z.map (fun Q => Q.2) = S.sv ∧ XB h P.1.c (zV Z) (H.map (fun Q => Q.1.c)) e n S.tx ∧ LG h (P :: (Z.toList ++ H))
def Wr (N : Nat) (h : AH) (res : Res) (a : Int32) (S : St) : Prop := ∃ h', res = some (some (vI a), h') ∧ XS h' S ∧ KC h h' ∧ h.length ≤ h'.length ∧ sz h' ≤ sz h + N
theorem KC.trans {a b c : AH} (h : KC a b) (h' : KC b c) : KC a c := fun i hi => (h' i hi).trans (h i hi)
theorem Wr.no {N : Nat} {h : AH} {S : St} (X : XS h S) (a : Int32) : Wr N h (some (some (vI a), h)) a S := ⟨h, rfl, X, fun _ _ => rfl, Nat.le_refl _, by omega⟩
theorem LG.obj {h : AH} {P : CG} {Z H : List CG} (l : LG h (P :: (Z ++ H))) : ∀ y, y ∈ H.map (fun Q => Q.1.c) → ∃ vs, hget h y = some (3, vs) := by
  intro y hy
  obtain ⟨Q, hQ, rfl⟩ := List.mem_map.mp hy
  exact ⟨_, (l.1 Q (by simp [hQ])).1.1⟩
theorem LG.h {h : AH} {P : CG} {L : List CG} (l : LG h (P :: L)) : CK h P := l.1 P (List.mem_cons_self)
/-- the current map goes into the history -/
theorem x_rec {h : AH} {P : CG} {H : List CG} {Z : Option CG} {e n : Nat} {tx : List Nat} (X : XB h P.1.c (zV Z) (H.map (fun Q => Q.1.c)) e n tx) (l : LG h (P :: (Z.toList ++ H))) (h5 : H.length ≤ 5) (hz : sz h + 100 < 1200000) {T : CG} (cT : CK h T) :
    ∃ h' e', tagIs 0 (some 1024) (f_X0_record (some 1024) (some T.1.c)) h = some (none, h') ∧ XB h' P.1.c (zV Z) ((recL H T).map (fun Q => Q.1.c)) e' 10 tx ∧ Kf (fun _ t => t = 8 ∨ t = 69) h h' ∧ LG h' (P :: (Z.toList ++ H)) ∧ CK h' T ∧ sz h' ≤ sz h + 11 := by
  obtain ⟨h', e', a1, a2, a3, a4⟩ := x_record X (by rw [List.length_map]; exact h5) l.obj ⟨_, cT.1.1⟩ hz
  rw [recL_map]
  exact ⟨h', e', a1, a2, a3, l.keep (fun Q hQ => (l.1 Q hQ).k8 a3), cT.k8 a3, a4⟩
theorem XS.hlen {H : List CG} {S : St} (hS : SV S) (e : H.map (fun Q => Q.2) = S.hi) : H.length ≤ 5 := by
  have := hS.2.2.1
  rw [← e, List.length_map] at this
  exact this
theorem recS (S : St) : recL S.hi S.g = (reco S).hi := rfl
/-- the state, once a new map has become the current one -/
theorem xs_new {S : St} {P Q : CG} {H : List CG} {Z : Option CG} {e n : Nat} {h h' : AH} {G : Gr} (eP : P.2 = S.g) (s2 : H.map (fun Q => Q.2) = S.hi) (s3 : Z.map (fun Q => Q.2) = S.sv) (l : LG h (P :: (Z.toList ++ H))) (X : XB h' Q.1.c (zV Z) ((recL H P).map (fun Q => Q.1.c)) e n S.tx) (k : ∀ Q, CK h Q → CK h' Q) (cQ : CK h' Q) (dj : ∀ Q', CK h Q' → Dj Q Q') (eG : Q.2 = G) : XS h' (setg (reco S) G) := by
  refine ⟨Q, recL H P, Z, e, n, eG, ?_, s3, X, fun Q' hQ' => ?_, ?_⟩
  · rw [recL_map, s2, eP]; rfl
  · rcases List.mem_cons.mp hQ' with e | e
    · subst e; exact cQ
    · exact k _ (l.rec.1 Q' e)
  · rw [List.pairwise_cons]
    exact ⟨fun Q' hQ' => dj _ (l.rec.1 Q' hQ'), l.rec.2⟩
theorem xo_begin {h : AH} {S : St} (X : XS h S) (hS : SV S) (x y : Int32) (hz : sz h + 3000 < 1200000) : Wr 1000 h (f_X0_begin (some 1024) x y h) (a_begin S x y).1 (a_begin S x y).2 := by
  have X0 := X
  obtain ⟨P, H, Z, e, n, s1, s2, s3, X, l⟩ := X
  unfold f_X0_begin a_begin
  rw [o_ci_eq (x_in _ _ _ _), ite_bI, o_ci_eq (x_in _ _ _ _), ite_bI]
  simp only [decide_eq_true_eq, ti1, ti12]
  by_cases q : in12 x = true ∧ in12 y = true
  · obtain ⟨q1, q2⟩ := q
    obtain ⟨a, ha, rfl⟩ := in12_ex q1
    obtain ⟨b, hb, rfl⟩ := in12_ex q2
    rw [if_pos (of_decide_eq_true q1), if_pos (of_decide_eq_true q2), if_pos (show (in12 (nI a) && in12 (nI b)) = true by rw [q1, q2]; rfl), nat_nI (by omega), nat_nI (by omega), b_gr1 X, ← s1]
    obtain ⟨h1, e1, r1, r2, r3, r4, r5, r6⟩ := x_rec X l (XS.hlen hS s2) (by omega) l.h
    rw [o_cv_eq r1, new_eq (by show sz h1 + 6 < _; omega)]
    have p0 : Pf h1 (h1 ++ [(3, [.int 0, .int 0, .int 0, .null, .null, .null])]) := Pf.app _ _
    rw [b_gr1 (r2.pf p0), c_gi2 (r5.pf p0).1]
    obtain ⟨h2, t1, t2, t3, t4, t5⟩ := x_init (h := h1) (R := a) (C := b) (o := P.2.o) ha hb (by omega)
    rw [o_cv_eq t1]
    obtain ⟨h3, u1, u2, u3, u4, u5⟩ := b_pf1 (r2.pf t2) (1024 + h1.length)
    rw [u1, pk_mul]
    have hL1 := r2.2.1
    have ci := newD_CI (1024 + h1.length) a
    have hG := newG_GV P.2.o ha hb
    refine ⟨h3, rfl, xs_new (Q := (newD (1024 + h1.length) a, newG a b P.2.o)) s1 s2 s3 l u2 (fun Q cQ => ((cQ.k8 r3).pf t2).k0 u3) ((CK.fresh t3 hG ci hL1).k0 u3) (fun Q cQ => Dj.fresh ci (cQ.k8 r3)) rfl, ?_, ?_, by omega⟩
    · exact (r3.2.2.trans (Kf.of_pf (W := fun _ _ => False) t2 hL1).2.2).trans u3.2.2
    · have := r3.1
      have := t2.len
      omega
  · rw [if_neg (show ¬ (in12 x && in12 y) = true by simpa using q)]
    by_cases q1 : in12 x = true
    · have q2 : ¬ in12 y = true := fun w => q ⟨q1, w⟩
      rw [if_pos (of_decide_eq_true q1), if_neg (fun w => q2 (decide_eq_true w))]
      exact Wr.no X0 _
    · rw [if_neg (fun w => q1 (decide_eq_true w))]
      exact Wr.no X0 _
