set_option maxRecDepth 100000
/-! the component's state -/
/-- the catalogue and the model's cells are as they were -/
def KC (h h' : AH) : Prop := ∀ i, (1025 ≤ i ∧ i < 1595) ∨ (1617 ≤ i ∧ i < 1632) → hget h' i = hget h i
/-- all that W does not name is as it was -/
def Kf (W : Nat → Nat → Prop) (h h' : AH) : Prop := h.length ≤ h'.length ∧ (∀ i t vs, hget h i = some (t, vs) → ¬ W i t → hget h' i = some (t, vs)) ∧ KC h h'
theorem Kf.rfl' (W : Nat → Nat → Prop) (h : AH) : Kf W h h := ⟨Nat.le_refl _, fun _ _ _ e _ => e, fun _ _ => rfl⟩
theorem Kf.trans {W : Nat → Nat → Prop} {a b c : AH} (h : Kf W a b) (h' : Kf W b c) : Kf W a c := ⟨Nat.le_trans h.1 h'.1, fun i t vs e n => h'.2.1 i t vs (h.2.1 i t vs e n) n, fun i hi => (h'.2.2 i hi).trans (h.2.2 i hi)⟩
theorem Kf.of_pf {W : Nat → Nat → Prop} {h h' : AH} (p : Pf h h') (hL : 608 ≤ h.length) : Kf W h h' := ⟨p.len, fun i t vs e _ => p.get e, fun i hi => p.same (by omega)⟩
theorem Kf.mono {W W' : Nat → Nat → Prop} {h h' : AH} (k : Kf W h h') (hw : ∀ i t, W i t → W' i t) : Kf W' h h' := ⟨k.1, fun i t vs e n => k.2.1 i t vs e (fun w => n (hw i t w)), k.2.2⟩
/-- where the component's own objects may lie -/
def mok (i : Nat) : Prop := 1595 ≤ i ∧ (i < 1617 ∨ 1632 ≤ i)
/-- a map that lives -/
abbrev CG : Type := CD × Gr
def CK (h : AH) (Q : CG) : Prop := CR h Q.1 Q.2 ∧ GV Q.2 ∧ CI Q.1 Q.2.R 1595 ∧ ∀ r, r < Q.2.R → mok (Q.1.rl r) ∧ mok (Q.1.rp r)
def Dj (P Q : CG) : Prop := ∀ r r', r < P.2.R → r' < Q.2.R → P.1.rl r ≠ Q.1.rl r' ∧ P.1.rp r ≠ Q.1.rp r'
theorem Dj.symm {P Q : CG} (d : Dj P Q) : Dj Q P := fun r r' hr hr' => ⟨fun e => (d r' r hr' hr).1 e.symm, fun e => (d r' r hr' hr).2 e.symm⟩
theorem CK.keep {W : Nat → Nat → Prop} {h h' : AH} {Q : CG} (c : CK h Q) (k : Kf W h h') (w1 : ∀ i t, W i t → t ≠ 3 ∧ t ≠ 71 ∧ t ≠ 72) (w2 : ∀ i t r, W i t → r < Q.2.R → (t = 65 → i ≠ Q.1.rl r) ∧ (t = 64 → i ≠ Q.1.rp r)) : CK h' Q := by
  obtain ⟨⟨c1, c2, c3, c4⟩, c5, c6, c7⟩ := c
  refine ⟨⟨k.2.1 _ _ _ c1 (fun w => (w1 _ _ w).1 rfl), k.2.1 _ _ _ c2 (fun w => (w1 _ _ w).2.1 rfl), k.2.1 _ _ _ c3 (fun w => (w1 _ _ w).2.2 rfl), fun r hr => ⟨?_, ?_⟩⟩, c5, c6, c7⟩
  · exact k.2.1 _ _ _ (c4 r hr).1 (fun w => (w2 _ _ r w hr).1 rfl rfl)
  · exact k.2.1 _ _ _ (c4 r hr).2 (fun w => (w2 _ _ r w hr).2 rfl rfl)
theorem CK.pf {h h' : AH} {Q : CG} (c : CK h Q) (p : Pf h h') : CK h' Q := ⟨c.1.pf p, c.2⟩
theorem CK.fresh {h h' : AH} {D : CD} {G : Gr} (c : CR h' D G) (hG : GV G) (ci : CI D G.R (1024 + h.length)) (hL : 608 ≤ h.length) : CK h' (D, G) := by
  obtain ⟨i1, i2, i3, i4, i5, i6⟩ := ci
  refine ⟨c, hG, ⟨i1, i2, Nat.le_trans (by omega) i3, Nat.le_trans (by omega) i4, Nat.le_trans (by omega) i5, fun r hr => ⟨Nat.le_trans (by omega) (i6 r hr).1, Nat.le_trans (by omega) (i6 r hr).2⟩⟩, fun r hr => ⟨⟨Nat.le_trans (by omega) (i6 r hr).1, .inr (Nat.le_trans (by omega) (i6 r hr).1)⟩, Nat.le_trans (by omega) (i6 r hr).2, .inr (Nat.le_trans (by omega) (i6 r hr).2)⟩⟩
theorem Dj.fresh {h : AH} {D : CD} {G : Gr} (ci : CI D G.R (1024 + h.length)) {Q : CG} (c : CK h Q) : Dj (D, G) Q := by
  intro r r' hr hr'
  have h1 := ci.2.2.2.2.2 r hr
  have h2 := hget_some_lt (c.1.2.2.2 r' hr').1
  have h3 := hget_some_lt (c.1.2.2.2 r' hr').2
  show CD.rl D r ≠ _ ∧ CD.rp D r ≠ _
  omega
/-- the text -/
def TXT (h : AH) (tx : List Nat) : Prop := ∃ v m mb f, hget h 1615 = some (17, [.ref v, .int 0, .int mb, .int (nI tx.length)]) ∧ hget h v = some (67, arI m f) ∧ (∀ i x, tx[i]? = some x → f i = nI x) ∧ tx.length ≤ m ∧ 16 ≤ m ∧ m ≤ 160 ∧ mok v
/-- all but the maps -/
def XB (h : AH) (cc : Nat) (z : Value) (hh : List Nat) (e n : Nat) (tx : List Nat) : Prop := Cat h ∧ 608 ≤ h.length ∧ hget h 1024 = some (0, [.ref 1025, .ref cc, z, .ref 1614, .ref 1615]) ∧ HL h e n hh ∧ TXT h tx
theorem KC.cat {h h' : AH} (k : KC h h') (c : Cat h) : Cat h' := fun i h1 h2 => (k i (.inl ⟨h1, h2⟩)).trans (c i h1 h2)
theorem TXT.keep {W : Nat → Nat → Prop} {h h' : AH} {tx : List Nat} (T : TXT h tx) (k : Kf W h h') (w : ∀ i t, W i t → t ≠ 17 ∧ t ≠ 67) : TXT h' tx := by
  obtain ⟨v, m, mb, f, t1, t2, t3⟩ := T
  exact ⟨v, m, mb, f, k.2.1 _ _ _ t1 (fun q => (w _ _ q).1 rfl), k.2.1 _ _ _ t2 (fun q => (w _ _ q).2 rfl), t3⟩
theorem XB.keep {h : AH} {cc : Nat} {z : Value} {hh : List Nat} {e n : Nat} {tx : List Nat} (X : XB h cc z hh e n tx) {W : Nat → Nat → Prop} {h' : AH} (k : Kf W h h') (w : ∀ i t, W i t → t ≠ 0 ∧ t ≠ 8 ∧ t ≠ 17 ∧ t ≠ 67 ∧ t ≠ 69) : XB h' cc z hh e n tx := by
  obtain ⟨x1, x2, x3, ⟨⟨mc, l1⟩, l2, l3⟩, x5⟩ := X
  refine ⟨k.2.2.cat x1, Nat.le_trans x2 k.1, k.2.1 _ _ _ x3 (fun q => (w _ _ q).1 rfl), ⟨⟨mc, k.2.1 _ _ _ l1 (fun q => (w _ _ q).2.1 rfl)⟩, k.2.1 _ _ _ l2 (fun q => (w _ _ q).2.2.2.2 rfl), l3⟩, x5.keep k (fun i t q => ⟨(w i t q).2.2.1, (w i t q).2.2.2.1⟩)⟩
theorem XB.pf {h : AH} {cc : Nat} {z : Value} {hh : List Nat} {e n : Nat} {tx : List Nat} (X : XB h cc z hh e n tx) {h' : AH} (p : Pf h h') : XB h' cc z hh e n tx := X.keep (W := fun _ _ => False) (Kf.of_pf p X.2.1) (fun _ _ q => q.elim)
theorem XB.xc {h : AH} {z : Value} {hh : List Nat} {e n : Nat} {tx : List Nat} {P : CG} (X : XB h P.1.c z hh e n tx) (c : CK h P) : XC h P.1 P.2 := ⟨X.1, X.2.1, ⟨_, X.2.2.1⟩, c.1, c.2.1⟩
theorem XB.bs {h : AH} {cc : Nat} {z : Value} {hh : List Nat} {e n : Nat} {tx : List Nat} (X : XB h cc z hh e n tx) : Bs h := ⟨X.1, X.2.1, _, _, X.2.2.1⟩
theorem b_tag {h : AH} {cc : Nat} {z : Value} {hh : List Nat} {e n : Nat} {tx : List Nat} (X : XB h cc z hh e n tx) {F : AH → Res} : tagIs 0 (some 1024) F h = F h := tagIs_eq X.2.2.1
theorem b_gr1 {h : AH} {cc : Nat} {z : Value} {hh : List Nat} {e n : Nat} {tx : List Nat} (X : XB h cc z hh e n tx) {K : Rf → AH → Res} : o_gr 0 (some 1024) 1 K h = K (some cc) h := o_gr_eq X.2.2.1 rfl
theorem b_gr3 {h : AH} {cc : Nat} {z : Value} {hh : List Nat} {e n : Nat} {tx : List Nat} (X : XB h cc z hh e n tx) {K : Rf → AH → Res} : o_gr 0 (some 1024) 3 K h = K (some 1614) h := o_gr_eq X.2.2.1 rfl
theorem b_gr4 {h : AH} {cc : Nat} {z : Value} {hh : List Nat} {e n : Nat} {tx : List Nat} (X : XB h cc z hh e n tx) {K : Rf → AH → Res} : o_gr 0 (some 1024) 4 K h = K (some 1615) h := o_gr_eq X.2.2.1 rfl
/-- the current map, or the saved one, is put -/
theorem b_pf1 {h : AH} {cc : Nat} {z : Value} {hh : List Nat} {e n : Nat} {tx : List Nat} (X : XB h cc z hh e n tx) (c' : Nat) : ∃ h', (∀ K : AH → Res, o_pf 0 (some 1024) 1 (va_rf (some c')) K h = K h') ∧ XB h' c' z hh e n tx ∧ Kf (fun _ t => t = 0) h h' ∧ sz h' = sz h ∧ h'.length = h.length := by
  obtain ⟨x1, x2, x3, x4, x5⟩ := X
  have hlt := hget_some_lt x3
  have k : Kf (fun _ t => t = 0) h (hset h 1024 (0, [.ref 1025, .ref c', z, .ref 1614, .ref 1615])) := ⟨Nat.le_of_eq (len_hset _ _ _).symm, fun i t vs g q => by
    rw [hget_set_ne (by omega) (tag_ne g x3 q)]; exact g, fun i hi => hget_set_ne (by omega) (by omega)⟩
  obtain ⟨⟨mc, l1⟩, l2, l3⟩ := x4
  refine ⟨_, fun K => o_pf_eq x3 (by omega) (by show 1 < 5; omega), ⟨k.2.2.cat x1, Nat.le_trans x2 k.1, hget_set_same (by omega) hlt, ⟨⟨mc, k.2.1 _ _ _ l1 (by show ¬ 8 = 0; omega)⟩, k.2.1 _ _ _ l2 (by show ¬ 69 = 0; omega), l3⟩, x5.keep k (fun i t q => by omega)⟩, k, sz_set (by omega) x3 (by rfl), len_hset _ _ _⟩
theorem b_pf2 {h : AH} {cc : Nat} {z : Value} {hh : List Nat} {e n : Nat} {tx : List Nat} (X : XB h cc z hh e n tx) (c' : Nat) : ∃ h', (∀ K : AH → Res, o_pf 0 (some 1024) 2 (va_rf (some c')) K h = K h') ∧ XB h' cc (.ref c') hh e n tx ∧ Kf (fun _ t => t = 0) h h' ∧ sz h' = sz h ∧ h'.length = h.length := by
  obtain ⟨x1, x2, x3, x4, x5⟩ := X
  have hlt := hget_some_lt x3
  have k : Kf (fun _ t => t = 0) h (hset h 1024 (0, [.ref 1025, .ref cc, .ref c', .ref 1614, .ref 1615])) := ⟨Nat.le_of_eq (len_hset _ _ _).symm, fun i t vs g q => by
    rw [hget_set_ne (by omega) (tag_ne g x3 q)]; exact g, fun i hi => hget_set_ne (by omega) (by omega)⟩
  obtain ⟨⟨mc, l1⟩, l2, l3⟩ := x4
  refine ⟨_, fun K => o_pf_eq x3 (by omega) (by show 2 < 5; omega), ⟨k.2.2.cat x1, Nat.le_trans x2 k.1, hget_set_same (by omega) hlt, ⟨⟨mc, k.2.1 _ _ _ l1 (by show ¬ 8 = 0; omega)⟩, k.2.1 _ _ _ l2 (by show ¬ 69 = 0; omega), l3⟩, x5.keep k (fun i t q => by omega)⟩, k, sz_set (by omega) x3 (by rfl), len_hset _ _ _⟩
theorem CK.k0 {h h' : AH} {Q : CG} (c : CK h Q) (k : Kf (fun _ t => t = 0) h h') : CK h' Q := c.keep k (fun i t w => by omega) (fun i t r w _ => by omega)
theorem CK.k8 {h h' : AH} {Q : CG} (c : CK h Q) (k : Kf (fun _ t => t = 8 ∨ t = 69) h h') : CK h' Q := c.keep k (fun i t w => by omega) (fun i t r w _ => by omega)
theorem CK.k17 {h h' : AH} {Q : CG} (c : CK h Q) (k : Kf (fun _ t => t = 17 ∨ t = 67) h h') : CK h' Q := c.keep k (fun i t w => by omega) (fun i t r w _ => by omega)
/-- the history -/
def recL {α : Type} (l : List α) (x : α) : List α := (if l.length = 5 then l.tail else l) ++ [x]
theorem recL_len {α : Type} {l : List α} {x : α} (h : l.length ≤ 5) : (recL l x).length ≤ 5 ∧ 1 ≤ (recL l x).length := by
  unfold recL
  split <;> simp <;> omega
theorem recL_map {α β : Type} (f : α → β) (l : List α) (x : α) : (recL l x).map f = recL (l.map f) (f x) := by
  unfold recL
  rw [List.map_append, List.length_map]
  split <;> simp
theorem HL.kf {h h' : AH} {e n : Nat} {l : List Nat} (H : HL h e n l) (hL : 608 ≤ h.length) (f : Fr2 1614 e h h') : Kf (fun _ t => t = 8 ∨ t = 69) h h' := by
  obtain ⟨⟨mc, g1⟩, g2, g3, g4⟩ := H
  refine ⟨f.1, fun i t vs g q => ?_, fun i hi => ?_⟩
  · rw [f.2 i (hget_some_lt g) (tag_ne g g1 (fun w => q (.inl w))) (tag_ne g g2 (fun w => q (.inr w)))]; exact g
  · exact f.2 i (by omega) (by omega) (by omega)
theorem x_record {h : AH} {cc : Nat} {z : Value} {hh : List Nat} {e n : Nat} {tx : List Nat} (X : XB h cc z hh e n tx) (h5 : hh.length ≤ 5) (hobj : ∀ y, y ∈ hh → ∃ vs, hget h y = some (3, vs)) {x : Nat} (hx : ∃ vs, hget h x = some (3, vs)) (hz : sz h + 100 < 1200000) :
    ∃ h' e', tagIs 0 (some 1024) (f_X0_record (some 1024) (some x)) h = some (none, h') ∧ XB h' cc z (recL hh x) e' 10 tx ∧ Kf (fun _ t => t = 8 ∨ t = 69) h h' ∧ sz h' ≤ sz h + 11 := by
  obtain ⟨vx, hx⟩ := hx
  rw [b_tag X]
  unfold f_X0_record
  have add : ∀ (s : AH) (l : List Nat), XB s cc z l e n tx → l.length ≤ 4 → hget s x = some (3, vx) → sz s = sz h → Kf (fun _ t => t = 8 ∨ t = 69) h s →
      ∃ h' e', f_X0_record_24 (some 1024) (some x) s = some (none, h') ∧ XB h' cc z (l ++ [x]) e' 10 tx ∧ Kf (fun _ t => t = 8 ∨ t = 69) h h' ∧ sz h' ≤ sz h + 11 := by
    intro s l Y hl gx hzs k
    obtain ⟨h', e', a1, a2, a3, a4, a5⟩ := hl_add Y.2.2.2.1 hl gx Y.2.1 (by omega)
    have k' := Y.2.2.2.1.kf Y.2.1 a4
    unfold f_X0_record_24
    rw [b_gr3 Y, o_ci_eq a1]
    obtain ⟨y1, y2, y3, y4, y5⟩ := Y
    exact ⟨h', e', rfl, ⟨k'.2.2.cat y1, Nat.le_trans y2 k'.1, k'.2.1 _ _ _ y3 (by omega), a2, y5.keep k' (fun i t q => by omega)⟩, k.trans k', by omega⟩
  rw [b_gr3 X, o_ci_eq (hl_size X.2.2.2.1)]
  unfold recL
  by_cases q : hh.length = 5
  · rw [if_pos (by rw [q]; rfl), if_pos q, b_gr3 X]
    obtain ⟨y, hy⟩ : ∃ y, hh[0]? = some y := ⟨hh[0]'(by omega), List.getElem?_eq_getElem _⟩
    obtain ⟨h1, a1, a2, a3, a4, a5⟩ := hl_remove X.2.2.2.1 hy h5 hobj
    have k' := X.2.2.2.1.kf X.2.1 a3
    rw [show (0 : Int32) = nI 0 from rfl, o_cr_eq a1]
    have et : hh.eraseIdx 0 = hh.tail := by cases hh <;> rfl
    rw [et] at a2
    obtain ⟨y1, y2, y3, y4, y5⟩ := X
    exact add h1 hh.tail ⟨k'.2.2.cat y1, Nat.le_trans y2 k'.1, k'.2.1 _ _ _ y3 (by omega), a2, y5.keep k' (fun i t q => by omega)⟩ (by rw [List.length_tail]; omega) (k'.2.1 _ _ _ hx (by omega)) a4 k'
  · rw [if_neg (by rw [show (5 : Int32) = nI 5 from rfl, nI_eq (by omega) (by omega)]; exact q), if_neg q]
    exact add h hh X (by omega) hx rfl (Kf.rfl' _ _)
