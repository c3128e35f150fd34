set_option maxRecDepth 100000
/-! largestIsland -/
def IT (s : AH) (it lid : Nat) (mc : Int32) (l : List (Nat × Nat)) (i : Nat) : Prop := ∃ lr, hget s it = some (16, [lr, va_rf ((l[i]?).map (fun p => p.1)), .int (nI i), .int mc, .ref lid])
theorem shr1 : ∀ n, n < 200 → nI n >>> ((1 : Int32) &&& 31) = nI (n / 2) := by decide +kernel
theorem ll_iter {h : AH} {lo lid : Nat} {mc : Int32} {l : List (Nat × Nat)} (T : LL h lo lid mc l) (hl : l.length < 200) (hz : sz h + 6 < 1200000) :
    ∃ h', tagIs 14 (some lid) (f_J26_iterator (some lid)) h = some (some (vR (some (1024 + h.length))), h') ∧ Pf h h' ∧ IT h' (1024 + h.length) lid mc l 0 ∧ sz h' = sz h + 6 := by
  obtain ⟨a1, a2, a3, a4, a5⟩ := id T
  have ck : tagIs 14 (some lid) (f_J27_checkPositionIndex (some lid) 0) h = some (none, h) := by
    rw [tagIs_eq a3]
    unfold f_J27_checkPositionIndex
    have : tagIs 14 (some lid) (f_J27_isPositionIndex (some lid) 0) h = some (some (vI (bI true)), h) := by
      rw [tagIs_eq a3]
      unfold f_J27_isPositionIndex
      rw [if_neg (by decide), o_gi_eq a3 rfl, if_neg (nI_pos (by omega)), retz_1]
    rw [o_ci_eq this, if_neg (by decide)]
  have at' : ∀ (fs : List Value) (k : Nat) (v : Value) (K : AH → Res), k < fs.length → o_pf 16 (some (1024 + h.length)) k v K (h ++ [(16, fs)]) = K (h ++ [(16, fs.set k v)]) := by
    intro fs k v K hk
    rw [o_pf_eq (hget_last h _) (by omega) hk, hset_new]
  have gl : ∀ (fs : List Value), hget (h ++ [(16, fs)]) lid = some (14, [.int mc, .int (nI l.length), va_rf ((l[0]?).map (fun p => p.1)), va_rf ((l[l.length - 1]?).map (fun p => p.1))]) := fun fs => (Pf.app h _).get a3
  have gi : ∀ (fs : List Value), hget (h ++ [(16, fs)]) (1024 + h.length) = some (16, fs) := fun fs => hget_last h _
  have e38 : ∀ t1 : Rf, f_J31_init_38 (some (1024 + h.length)) 0 (some (1024 + h.length)) t1 (h ++ [(16, [.null, .null, .int 0, .int mc, .ref lid])]) = some (none, h ++ [(16, [.null, va_rf t1, .int 0, .int mc, .ref lid])]) := by
    intro t1
    unfold f_J31_init_38
    rw [at' _ _ _ _ (by show 1 < 5; omega), at' _ _ _ _ (by show 2 < 5; omega)]
    rfl
  have init : nnF (some (1024 + h.length)) (f_J31_init (some (1024 + h.length)) (some lid) 0) (h ++ [(16, ([.null, .null, .int 0, .int 0, .null] : List Value))]) = some (none, h ++ [(16, [.null, va_rf ((l[0]?).map (fun p => p.1)), .int 0, .int mc, .ref lid])]) := by
    rw [nnF_eq]
    unfold f_J31_init
    rw [at' _ _ _ _ (by show 4 < 5; omega), o_nn_eq]
    show o_gr 16 (some (1024 + h.length)) 4 _ (h ++ [(16, ([.null, .null, .int 0, .int 0, .ref lid] : List Value))]) = _
    rw [o_gr_eq (gi _) rfl, o_gi_eq (gl _) rfl, at' _ _ _ _ (by show 3 < 5; omega)]
    show o_gi 14 (some lid) 1 _ (h ++ [(16, ([.null, .null, .int 0, .int mc, .ref lid] : List Value))]) = _
    rw [o_gi_eq (gl _) rfl]
    by_cases q : l.length = 0
    · have : l = [] := List.eq_nil_of_length_eq_zero q
      subst this
      rw [if_pos (by rfl), e38]
      rfl
    · rw [if_neg (by rw [li0, nI_eq (by omega) (by omega)]; omega)]
      have en : tagIs 14 (some lid) (f_J27_node (some lid) 0) (h ++ [(16, ([.null, .null, .int 0, .int mc, .ref lid] : List Value))]) = some (some (vR ((l[0]?).map (fun p => p.1))), h ++ [(16, ([.null, .null, .int 0, .int mc, .ref lid] : List Value))]) := by
        rw [tagIs_eq (gl _)]
        unfold f_J27_node
        rw [o_gi_eq (gl _) rfl, shr1 _ hl]
        by_cases q1 : l.length = 1
        · rw [if_pos (by rw [q1]; decide), o_grV_eq (gl _) rfl, o_gi_eq (gl _) rfl, o_let_eq]
          show f_J27_node_47 (99999 + 1) _ _ _ _ = _
          rw [f_J27_node_47_s]
          simp only
          rw [if_pos (by rw [q1]; decide), q1]
        · rw [if_neg (by rw [li0, nI_leI (by omega) (by omega)]; omega), o_grV_eq (gl _) rfl]
          show f_J27_node_17 (99999 + 1) _ _ _ _ = _
          rw [f_J27_node_17_s]
          simp only
          rw [if_pos (by decide)]
      rw [o_cr_eq en, e38]
  have eL : tagIs 14 (some lid) (f_J27_listIterator (some lid) 0) h = some (some (vR (some (1024 + h.length))), h ++ [(16, [.null, va_rf ((l[0]?).map (fun p => p.1)), .int 0, .int mc, .ref lid])]) := by
    rw [tagIs_eq a3]
    unfold f_J27_listIterator
    rw [o_cv_eq ck, new_eq (by show sz h + 5 < _; omega), o_cv_eq init]
  have eM : tagIs 14 (some lid) (f_J1_listIterator_t14 (some lid)) h = some (some (vR (some (1024 + h.length))), h ++ [(16, [.null, va_rf ((l[0]?).map (fun p => p.1)), .int 0, .int mc, .ref lid])]) := by
    rw [tagIs_eq a3]
    unfold f_J1_listIterator_t14
    rw [o_cr_eq eL]
  refine ⟨h ++ [(16, [.null, va_rf ((l[0]?).map (fun p => p.1)), .int 0, .int mc, .ref lid])], ?_, Pf.app h _, ⟨.null, gi _⟩, by rw [sz_app, sz_one]; rfl⟩
  rw [tagIs_eq a3]
  unfold f_J26_iterator
  rw [o_cr_eq eM]
theorem it_has {s : AH} {lo lid it i : Nat} {mc : Int32} {l : List (Nat × Nat)} (T : LL s lo lid mc l) (I : IT s it lid mc l i) (hl : l.length < 200) (hi : i ≤ l.length) : tagIs 16 (some it) (f_J31_hasNext (some it)) s = some (some (vI (bI (decide (i < l.length)))), s) := by
  obtain ⟨lr, g⟩ := I
  rw [tagIs_eq g]
  unfold f_J31_hasNext
  rw [o_gi_eq g rfl, o_gr_eq g rfl, o_gi_eq T.2.2.1 rfl, retz_0, retz_1, ite_retI, bI_ite]
  refine ret_cong ?_
  by_cases q : i < l.length
  · rw [if_neg (nI_ge q (by omega)), decide_eq_true q]
  · rw [if_pos (nI_le (by omega) (by omega)), decide_eq_false q]
theorem it_next {s : AH} {lo lid it i : Nat} {mc : Int32} {l : List (Nat × Nat)} (T : LL s lo lid mc l) (I : IT s it lid mc l i) (hl : l.length < 200) {p : Nat × Nat} (hp : l[i]? = some p) (hge : 1024 ≤ it) :
    ∃ s', tagIs 16 (some it) (f_J31_next (some it)) s = some (some (vR (some p.2)), s') ∧ IT s' it lid mc l (i + 1) ∧ W1 it s s' := by
  have hi := (List.getElem?_eq_some_iff.mp hp).1
  have hh := it_has T I hl (Nat.le_of_lt hi)
  obtain ⟨lr, g⟩ := I
  rw [hp] at g
  obtain ⟨b1, v, b2⟩ := T.2.2.2.1 i p hp
  have hlt := hget_some_lt g
  have npi : p.1 ≠ it := tag_ne b2 g (by omega)
  have ck : tagIs 16 (some it) (f_J31_checkForComodification (some it)) s = some (none, s) := by
    rw [tagIs_eq g]
    unfold f_J31_checkForComodification
    rw [o_gr_eq g rfl, o_gi_eq T.2.2.1 rfl, o_gi_eq g rfl, if_pos rfl]
  rw [tagIs_eq g]
  unfold f_J31_next
  rw [o_cv_eq ck, o_ci_eq hh, decide_eq_true hi, if_neg (by decide)]
  have g : hget s it = some (16, [lr, .ref p.1, .int (nI i), .int mc, .ref lid]) := g
  rw [o_gr_eq g rfl, o_pf_eq g hge (by show 0 < 5; omega)]
  have g1 : hget (hset s it (16, ([lr, .ref p.1, .int (nI i), .int mc, .ref lid] : List Value).set 0 (va_rf (some p.1)))) it = some (16, [.ref p.1, .ref p.1, .int (nI i), .int mc, .ref lid]) := hget_set_same hge hlt
  have k1 : ∀ j, j ≠ it → hget (hset s it (16, ([lr, .ref p.1, .int (nI i), .int mc, .ref lid] : List Value).set 0 (va_rf (some p.1)))) j = hget s j := fun j hj => hget_set_ne hge hj
  have z1 : sz (hset s it (16, ([lr, .ref p.1, .int (nI i), .int mc, .ref lid] : List Value).set 0 (va_rf (some p.1)))) = sz s := sz_set hge g (by rfl)
  have l1 : (hset s it (16, ([lr, .ref p.1, .int (nI i), .int mc, .ref lid] : List Value).set 0 (va_rf (some p.1)))).length = s.length := len_hset _ _ _
  generalize hset s it (16, ([lr, .ref p.1, .int (nI i), .int mc, .ref lid] : List Value).set 0 (va_rf (some p.1))) = s1 at g1 k1 z1 l1 ⊢
  have c2 : hget s1 p.1 = some (15, [.ref p.2, va_rf ((l[i + 1]?).map (fun q => q.1)), v]) := by rw [k1 _ npi]; exact b2
  rw [o_gr_eq g1 rfl, o_grV_eq c2 rfl, o_pf_eq g1 hge (by show 1 < 5; omega)]
  have g2 : hget (hset s1 it (16, ([.ref p.1, .ref p.1, .int (nI i), .int mc, .ref lid] : List Value).set 1 (va_rf ((l[i + 1]?).map (fun q => q.1))))) it = some (16, [.ref p.1, va_rf ((l[i + 1]?).map (fun q => q.1)), .int (nI i), .int mc, .ref lid]) := hget_set_same hge (by omega)
  have k2 : ∀ j, j ≠ it → hget (hset s1 it (16, ([.ref p.1, .ref p.1, .int (nI i), .int mc, .ref lid] : List Value).set 1 (va_rf ((l[i + 1]?).map (fun q => q.1))))) j = hget s1 j := fun j hj => hget_set_ne hge hj
  have z2 : sz (hset s1 it (16, ([.ref p.1, .ref p.1, .int (nI i), .int mc, .ref lid] : List Value).set 1 (va_rf ((l[i + 1]?).map (fun q => q.1))))) = sz s1 := sz_set hge g1 (by rfl)
  have l2 : (hset s1 it (16, ([.ref p.1, .ref p.1, .int (nI i), .int mc, .ref lid] : List Value).set 1 (va_rf ((l[i + 1]?).map (fun q => q.1))))).length = s1.length := len_hset _ _ _
  generalize hset s1 it (16, ([.ref p.1, .ref p.1, .int (nI i), .int mc, .ref lid] : List Value).set 1 (va_rf ((l[i + 1]?).map (fun q => q.1)))) = s2 at g2 k2 z2 l2 ⊢
  rw [o_gi_eq g2 rfl, li1, nI_add, o_pf_eq g2 hge (by show 2 < 5; omega)]
  have g3 : hget (hset s2 it (16, ([.ref p.1, va_rf ((l[i + 1]?).map (fun q => q.1)), .int (nI i), .int mc, .ref lid] : List Value).set 2 (.int (nI (i + 1))))) it = some (16, [.ref p.1, va_rf ((l[i + 1]?).map (fun q => q.1)), .int (nI (i + 1)), .int mc, .ref lid]) := hget_set_same hge (by omega)
  have c3 : hget (hset s2 it (16, ([.ref p.1, va_rf ((l[i + 1]?).map (fun q => q.1)), .int (nI i), .int mc, .ref lid] : List Value).set 2 (.int (nI (i + 1))))) p.1 = some (15, [.ref p.2, va_rf ((l[i + 1]?).map (fun q => q.1)), v]) := by rw [hget_set_ne hge npi, k2 _ npi]; exact c2
  rw [o_gr_eq g3 rfl, o_gr_eq c3 rfl]
  refine ⟨_, rfl, ⟨_, g3⟩, by rw [len_hset, l2, l1], by rw [sz_set hge g2 (by rfl), z2, z1], fun j hj => ?_⟩
  rw [hget_set_ne hge hj, k2 j hj, k1 j hj]
theorem nsb_first {f : Nat → Bool} {m : Nat} (hm : m < 192) (hf : f m = true) (h0 : ∀ j, j < m → f j = false) : nsb f 0 = nI m := by
  have key : ∀ d k, k + d = m → nsb f k = nI m := by
    intro d
    induction d with
    | zero =>
      intro k e
      obtain rfl : k = m := by omega
      rw [nsb_s hm, if_pos hf]
    | succ d ih =>
      intro k e
      rw [nsb_s (by omega), h0 k (by omega), if_neg (by decide)]
      exact ih (k + 1) (by omega)
  exact key m 0 (by omega)
theorem bof_mono {G : Gr} (hG : GV G) {t t' : Nat} (ht : t < G.N) (ht' : t' < G.N) (h : t ≤ t') : bof G t ≤ bof G t' := by
  obtain ⟨a, b, c⟩ := k_rc (show t < G.C * G.R from ht)
  obtain ⟨a', b', c'⟩ := k_rc (show t' < G.C * G.R from ht')
  have hgb := hG.1
  have hd : t / G.C ≤ t' / G.C := Nat.div_le_div_right h
  unfold bof
  by_cases e : t / G.C = t' / G.C
  · rw [e] at c ⊢
    omega
  · revert hd e b b'
    generalize t / G.C = q
    generalize t' / G.C = q'
    generalize t % G.C = m
    generalize t' % G.C = m'
    intros
    omega
theorem rgs_firstR {G : Gr} (hG : GV G) {b : Bool} {st : Nat} (hst : st = 1 ∨ st = 2) : ∀ n, n ≤ G.N → ∀ r : Nat × BL, r ∈ rgs G b st n → ∀ t, bhas r.2 t = true → r.1 ≤ t
  | 0, _, r, hr => by cases hr
  | n + 1, hn, r, hr => by
    by_cases c : ((G.l n == b) && !sees (rgs G b st n) n) = true
    · rw [rgs_yes c] at hr
      rcases List.mem_append.mp hr with hr | hr
      · exact rgs_firstR hG hst n (by omega) r hr
      · have : r = (n, bfs G n st) := by simpa using hr
        subst this
        exact rgs_first hG hst (by omega) c
    · rw [rgs_no (by simpa using c)] at hr
      exact rgs_firstR hG hst n (by omega) r hr
theorem nsb_rgs {G : Gr} (hG : GV G) {b : Bool} {st n : Nat} (hst : st = 1 ∨ st = 2) (hn : n ≤ G.N) {r : Nat × BL} (hr : r ∈ rgs G b st n) : nsb (bitsL G r.2) 0 = nI (bof G r.1) := by
  obtain ⟨r1, r2, _⟩ := rgs_len hG n hn r hr
  have hV : LV G r.1 r.2 := by rw [r2]; exact bfs_LV r1 st
  have hb := bof_lt hG r1
  refine nsb_first (by omega) ?_ ?_
  · rw [bitsL_has hG hV r1, r2]
    exact (bfs_has hG r1 st r.1).mpr (fun P p _ => p)
  · intro j hj
    cases hf : bitsL G r.2 j with
    | false => rfl
    | true =>
      unfold bitsL at hf
      obtain ⟨p, hp, e⟩ := List.any_eq_true.mp hf
      have h1 := rgs_firstR hG hst n hn r hr p.1 (bhas_iff.mpr ⟨p, hp, rfl⟩)
      have h2 := bof_mono hG r1 (hV.1 p hp).1 h1
      have := beq_iff_eq.mp e
      omega
/-- the largest so far, as bits -/
def LF (G : Gr) (v : Int32 × Nat) (f : Nat → Bool) : Prop := cntN f 192 = v.2 ∧ v.2 ≤ 144 ∧ ((v.1 = -6 ∧ f = fun _ => false) ∨ ∃ t, t < G.N ∧ v.1 = told G t ∧ nsb f 0 = nI (bof G t))
theorem nsb_none : nsb (fun _ => false) 0 = -1 := by decide +kernel
theorem xo_largest {h : AH} {D : CD} {G : Gr} (x : XC h D G) (hz : sz h + 14100 < 1200000) : Al 9100 h (f_X0_largestIsland (some 1024) h) (some (vI (lgst G (rgs G true 1 G.N)).1)) := by
  have hG := x.gv
  have hgb := hG.1
  unfold f_X0_largestIsland
  rw [new_bits (by omega)]
  have pA : Pf h (h ++ [(12, [.ref (1024 + h.length + 1), .int (nI 0), .int 0]), (66, loW 1 (fun _ => 0))]) := Pf.app _ _
  have zA := sz_bits h
  have BA := new_bits_BS h
  generalize h ++ [(12, [.ref (1024 + h.length + 1), .int (nI 0), .int 0]), (66, loW 1 (fun _ => 0))] = hA at pA zA BA ⊢
  have xA := x.pf pA
  obtain ⟨s1, lid, mc, l, e1, ⟨o1, o2, o3, o4⟩, e3⟩ := x_regions xA.cr hG true true (by omega)
  have e1 : f_X3_regions (some D.c) 1 1 hA = some (some (vR (some lid)), s1) := e1
  have o3 : l.length = (rgs G true 1 G.N).length := o3
  have o4 : ∀ (i : Nat) (p : Nat × Nat) (r : Nat × BL), l[i]? = some p → (rgs G true 1 G.N)[i]? = some r → ∃ wa, BS s1 p.2 wa (bitsL G r.2) := o4
  have hrl := rgs_le G true 1 G.N
  have hrg : ∀ r : Nat × BL, r ∈ rgs G true 1 G.N → LV G r.1 r.2 ∧ r.1 < G.N ∧ r.2.length ≤ 144 ∧ nsb (bitsL G r.2) 0 = nI (bof G r.1) := fun r hr => by
    obtain ⟨r1, r2, r3⟩ := rgs_len hG G.N (Nat.le_refl _) r hr
    refine ⟨?_, r1, r3, nsb_rgs hG (.inl rfl) (Nat.le_refl _) hr⟩
    rw [r2]
    exact bfs_LV r1 1
  rw [t_gr1 xA, c_cr xA.cr e1]
  obtain ⟨s2, i1, i2, i3, i4⟩ := ll_iter o2 (by omega) (by omega)
  rw [o_cr_eq i1]
  have T2 := o2.pf i2
  have hge : 1024 ≤ 1024 + s1.length := by omega
  have BA2 := (BA.pf o1).pf i2
  have pf2 := (pA.trans o1).trans i2
  have lt2 : ∀ j, j < 1024 + h.length → j ≠ 1024 + s1.length := fun j hj => by
    have := pA.len
    have := o1.len
    omega
  generalize rgs G true 1 G.N = R at *
  generalize 1024 + s1.length = it at *
  refine loop1 (σ := AH × Nat × Nat × (Nat → Bool)) l.length (fun n i s => f_X0_largestIsland_21 n (some s.2.1) (some it) s.1)
    (fun i s => IT s.1 it lid mc l i ∧ W1 it s2 s.1 ∧ BS s2 s.2.1 s.2.2.1 s.2.2.2 ∧ LF G (lgst G (R.take i)) s.2.2.2) (fun res => Al 9100 h res (some (vI (lgst G R).1))) ?_ ?_ 0 (s2, 1024 + h.length, 1024 + h.length + 1, fun _ => false) FUEL (by omega) ⟨i3, ⟨rfl, rfl, fun _ _ => rfl⟩, BA2, ?_, ?_, .inl ⟨rfl, rfl⟩⟩ (by simp only [FUEL]; omega)
  · rintro ⟨s, lb, lw, f⟩ n ⟨q1, q2, q3, q4⟩
    have q1 : IT s it lid mc l l.length := q1
    have q2 : W1 it s2 s := q2
    have q3 : BS s2 lb lw f := q3
    have q4 : LF G (lgst G (R.take l.length)) f := q4
    rw [o3, List.take_length] at q4
    obtain ⟨lr, gi⟩ := id i3
    have T := T2.of (h' := s) (fun i t vs e ht => by rw [q2.2.2 i (tag_ne e gi (by omega))]; exact e)
    have B := q3.tg (h' := s) (fun i t vs e ht => by rw [q2.2.2 i (tag_ne e gi (by omega))]; exact e)
    have pfs : Pf h s := Pf.of (by rw [q2.1]; exact pf2.len) (fun i hi => by rw [q2.2.2 i (lt2 i hi)]; exact pf2.same hi)
    have zs : sz s ≤ sz h + 9100 := by
      have := q2.2.1
      omega
    rw [f_X0_largestIsland_21_s]
    simp only
    have bn : tagIs 12 (some lb) (f_J23_nextSetBit (some lb) 0) s = some (some (vI (nsb f 0)), s) := b_next B (k := 0) (by omega)
    rw [o_ci_eq (it_has T q1 (by omega) (Nat.le_refl _)), decide_eq_false (by omega), if_pos (by rfl), o_ci_eq bn]
    obtain ⟨_, _, q | ⟨t, ht, et, en⟩⟩ := q4
    · obtain ⟨q5, q6⟩ := q
      subst q6
      rw [nsb_none, if_neg (by decide), q5]
      exact ⟨s, rfl, pfs, zs⟩
    · have hb := bof_lt hG ht
      obtain ⟨d1, d2⟩ := bof_dm hG ht
      rw [en, if_pos (by rw [li0]; exact nI_le (by omega) (by omega)), show (12 : Int32) = nI 12 from rfl, idiv_nI (by omega) (by omega) (by omega), irem_nI (by omega) (by omega) (by omega), d1, d2, show (100 : Int32) = nI 100 from rfl, pk_mul, nI_add, et]
      exact ⟨s, rfl, pfs, zs⟩
  · rintro i ⟨s, lb, lw, f⟩ n hi ⟨q1, q2, q3, q4⟩ hk
    have q1 : IT s it lid mc l i := q1
    have q2 : W1 it s2 s := q2
    have q3 : BS s2 lb lw f := q3
    have q4 : LF G (lgst G (R.take i)) f := q4
    obtain ⟨lr, gi⟩ := id i3
    have keep : ∀ (s' : AH), W1 it s2 s' → ∀ (i t : Nat) (vs : List Value), hget s2 i = some (t, vs) → t ≠ 16 → hget s' i = some (t, vs) := fun s' w i t vs e ht => by rw [w.2.2 i (tag_ne e gi ht)]; exact e
    have T := T2.of (h' := s) (fun i t vs e ht => keep s q2 i t vs e (by omega))
    have hp : l[i]? = some (l[i]'hi) := List.getElem?_eq_getElem hi
    have hr : R[i]? = some (R[i]'(by omega)) := List.getElem?_eq_getElem _
    generalize l[i]'hi = p at *
    generalize R[i]'(by omega) = r at *
    obtain ⟨hV, hr1, hrl2, hnsb⟩ := hrg r (List.mem_of_getElem? hr)
    obtain ⟨wa, w1⟩ := o4 i p r hp hr
    have w2 := w1.pf i2
    obtain ⟨s', n1, n2, n3⟩ := it_next T q1 (by omega) hp hge
    have q2' : W1 it s2 s' := ⟨n3.1.trans q2.1, n3.2.1.trans q2.2.1, fun j hj => (n3.2.2 j hj).trans (q2.2.2 j hj)⟩
    have B := q3.tg (h' := s') (fun i t vs e ht => keep s' q2' i t vs e (by omega))
    have Br := w2.tg (h' := s') (fun i t vs e ht => keep s' q2' i t vs e (by omega))
    obtain ⟨u, L, W, B0, _⟩ := id Br
    obtain ⟨f1, f2, f3⟩ := id q4
    rw [f_X0_largestIsland_21_s]
    simp only
    unfold f_X0_largestIsland_56
    rw [o_ci_eq (it_has T q1 (by omega) (Nat.le_of_lt hi)), decide_eq_true hi, if_neg (by decide), o_cr_eq n1, o_cc_eq B0.1, o_ci_eq (b_card Br), o_ci_eq (b_card B), cnt_bfs hG hV, f1]
    by_cases w : (lgst G (R.take i)).2 < r.2.length
    · rw [if_neg (nI_ge w (by omega))]
      refine hk (s', p.2, wa, bitsL G r.2) ⟨n2, q2', w2, ?_⟩
      rw [takeR hr, lgst_app, if_pos w]
      exact ⟨cnt_bfs hG hV, hrl2, .inr ⟨r.1, hr1, rfl, hnsb⟩⟩
    · rw [if_pos (nI_le (by omega) (by omega))]
      refine hk (s', lb, lw, f) ⟨n2, q2', q3, ?_⟩
      rw [takeR hr, lgst_app, if_neg w]
      exact q4
  · exact cntN_zero (fun _ _ => rfl)
  · show 0 ≤ 144
    omega
