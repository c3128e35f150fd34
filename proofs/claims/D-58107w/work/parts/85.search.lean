set_option maxRecDepth 100000
/-! the component's search -/
def bof (G : Gr) (t : Nat) : Nat := 12 * (t / G.C) + t % G.C
def bitsL (G : Gr) (L : BL) : Nat → Bool := fun j => L.any (fun p => bof G p.1 == j)
theorem bof_lt {G : Gr} (hG : GV G) {t : Nat} (ht : t < G.N) : bof G t < 144 := by
  obtain ⟨a, b, c⟩ := k_rc ht
  have := hG.1
  unfold bof
  revert a b
  generalize t / G.C = q
  generalize t % G.C = m
  intro a b
  omega
theorem bof_inj {G : Gr} (hG : GV G) {t t' : Nat} (ht : t < G.N) (ht' : t' < G.N) (e : bof G t = bof G t') : t = t' := by
  obtain ⟨a, b, c⟩ := k_rc ht
  obtain ⟨a', b', c'⟩ := k_rc ht'
  have := hG.1
  unfold bof at e
  rw [← c, ← c']
  revert e a b a' b'
  generalize t / G.C = q
  generalize t % G.C = m
  generalize t' / G.C = q'
  generalize t' % G.C = m'
  intro e a b a' b'
  have h1 : q = q' := by omega
  have h2 : m = m' := by omega
  rw [h1, h2]
theorem bitsL_has {G : Gr} (hG : GV G) {t0 : Nat} {L : BL} (hV : LV G t0 L) {P : Nat} (hP : P < G.N) : bitsL G L (bof G P) = bhas L P := by
  unfold bitsL bhas
  apply Bool.eq_iff_iff.mpr
  simp only [List.any_eq_true, beq_iff_eq]
  constructor
  · rintro ⟨p, hp, e⟩
    exact ⟨p, hp, bof_inj hG (hV.1 p hp).1 hP e⟩
  · rintro ⟨p, hp, e⟩
    exact ⟨p, hp, by rw [e]⟩
theorem bitsL_app (G : Gr) (L : BL) (p : Nat × Nat) : bitsL G (L ++ [p]) = fun j => decide (j = bof G p.1) || bitsL G L j := by
  funext j
  unfold bitsL
  rw [List.any_append]
  have : [p].any (fun p => bof G p.1 == j) = decide (j = bof G p.1) := by
    apply Bool.eq_iff_iff.mpr
    simp only [List.any_cons, List.any_nil, Bool.or_false, beq_iff_eq, decide_eq_true_eq]
    exact eq_comm
  rw [this, Bool.or_comm]
/-- a step object -/
def SO (h : AH) (G : Gr) (x : Nat) (p : Nat × Nat) : Prop := hget h x = some (5, [.int (nI (p.1 / G.C)), .int (nI (p.1 % G.C)), .int (nI p.2)])
theorem step_init {h : AH} {a b c : Int32} : nnF (some (1024 + h.length)) (f_X5_init (some (1024 + h.length)) a b c) (h ++ [(5, ([.int 0, .int 0, .int 0] : List Value))]) = some (none, h ++ [(5, [.int a, .int b, .int c])]) := by
  have e0 : hget (h ++ [(5, ([.int 0, .int 0, .int 0] : List Value))]) (1024 + h.length) = some (5, [.int 0, .int 0, .int 0]) := hget_last h _
  rw [nnF_eq]
  unfold f_X5_init
  rw [o_nn_eq, o_pf_eq e0 (by omega) (by show 0 < 3; omega), hset_new]
  have e1 : hget (h ++ [(5, ([.int 0, .int 0, .int 0] : List Value).set 0 (.int a))]) (1024 + h.length) = some (5, [.int a, .int 0, .int 0]) := hget_last h _
  rw [o_pf_eq e1 (by omega) (by show 1 < 3; omega), hset_new]
  have e2 : hget (h ++ [(5, ([.int a, .int 0, .int 0] : List Value).set 1 (.int b))]) (1024 + h.length) = some (5, [.int a, .int b, .int 0]) := hget_last h _
  rw [o_pf_eq e2 (by omega) (by show 2 < 3; omega), hset_new]
  rfl
theorem new_step {h : AH} {a b c : Int32} {K : Rf → AH → Res} (hr : sz h + 4 < 1200000) : o_new 5 [.int 0, .int 0, .int 0] (fun r h => o_cv (nnF r (f_X5_init r a b c)) (fun h => K r h) h) h = K (some (1024 + h.length)) (h ++ [(5, [.int a, .int b, .int c])]) := by
  rw [new_eq (by show sz h + 3 < _; omega), o_cv_eq step_init]
theorem BS.of {h h' : AH} {b wa : Nat} {f : Nat → Bool} (B : BS h b wa f) (e1 : hget h' b = hget h b) (e2 : hget h' wa = hget h wa) : BS h' b wa f := by
  obtain ⟨u, L, W, B0, hf⟩ := B
  exact ⟨u, L, W, ⟨e1.trans B0.1, e2.trans B0.2.1, B0.2.2⟩, hf⟩
theorem sz_step (h : AH) (a b c : Int32) : sz (h ++ [(5, [.int a, .int b, .int c])]) = sz h + 4 := by rw [sz_app, sz_one]; rfl
/-- where the search's own objects are -/
abbrev SP : Type := AH × Nat × Nat × Nat × Nat × List Nat
/-- the search, at the k-th tile: heap, words, ring, its size, head, the steps that wait -/
def SInv (hb : AH) (V : AH → Prop) (G : Gr) (b q S0 k : Nat) (L : BL) (s : SP) : Prop :=
  Pf hb s.1 ∧ BS s.1 b s.2.1 (bitsL G L) ∧ DQ s.1 q s.2.2.1 s.2.2.2.1 s.2.2.2.2.1 s.2.2.2.2.2 ∧ (1024 + hb.length ≤ b ∧ 1024 + hb.length ≤ q ∧ 1024 + hb.length ≤ s.2.1 ∧ 1024 + hb.length ≤ s.2.2.1) ∧
  (s.2.2.2.2.2.length + k = L.length) ∧ (∀ i x, s.2.2.2.2.2[i]? = some x → ∃ p, L[k + i]? = some p ∧ SO s.1 G x p) ∧ sz s.1 ≤ S0 + 4 * (s.2.2.2.1 - 17) + 9 * L.length ∧ s.2.2.2.1 ≤ 17 + 2 * L.length ∧ V s.1
/-- facts about the visitor's object, which the search's own writes keep -/
def Vok (V : AH → Prop) (b q : Nat) : Prop := ∀ h h' : AH, V h → h.length ≤ h'.length → (∀ i t vs, hget h i = some (t, vs) → t = 6 → hget h' i = some (t, vs)) → V h'
theorem tag_ne {h : AH} {i j t t' : Nat} {vs vs' : List Value} (h1 : hget h i = some (t, vs)) (h2 : hget h j = some (t', vs')) (ne : t ≠ t') : i ≠ j := by
  intro e
  rw [e, h2] at h1
  have := congrArg (fun o => o.map Prod.fst) h1
  simp at this
  exact ne this.symm
theorem x_searchS {hb : AH} {D : CD} {G : Gr} (cr : CR hb D G) (hG : GV G) {V : AH → Prop} {b q S0 k : Nat} (hVok : Vok V b q) {t0 r0 c0 st : Nat} (hst : st = 1 ∨ st = 2) (hr0 : r0 < G.R) (hc0 : c0 < G.C) (et0 : t0 = G.C * r0 + c0)
    (hS0 : S0 + 4000 < 1200000) {L : BL} (hVL : LV G t0 L) {p : Nat × Nat} (hp : L[k]? = some p) {cur : Nat} {vr : Rf} {s : SP} (hs : SInv hb V G b q S0 (k + 1) L s) (hcur : SO s.1 G cur p)
    (k45 : Rf → Int32 → Int32 → Int32 → Rf → Rf → Rf → AH → Res) (n : Nat) {j : Nat} (hj : j < ndir st) (Q : Res → Prop)
    (hk : ∀ s' : SP, SInv hb V G b q S0 (k + 1) (bst G t0 p (st * j) L) s' → SO s'.1 G cur p → Q (f_X3_search_75 k45 n (some D.c) (nI r0) (nI c0) (bI (decide (st = 1))) vr (some b) (some q) (some cur) (nI (st * (j + 1))) s'.1)) :
    Q (f_X3_search_75 k45 (n + 1) (some D.c) (nI r0) (nI c0) (bI (decide (st = 1))) vr (some b) (some q) (some cur) (nI (st * j)) s.1) := by
  obtain ⟨⟨g1, g2, g3, g4, g5, g6⟩, g7⟩ := id hG
  obtain ⟨pf, hB, hD, hids, hlenQ, hsteps, hsz, hn, hVs⟩ := id hs
  have hj8 : st * j < 8 := by
    unfold ndir at hj
    rcases hst with e | e <;> subst e <;> simp at hj <;> omega
  have hp1 := (hVL.1 p (List.mem_of_getElem? hp)).1
  obtain ⟨q1, q2, q3⟩ := k_rc (show p.1 < G.C * G.R from hp1)
  have hkl := (List.getElem?_eq_some_iff.mp hp).1
  have hlen := hVL.len hG
  have hp2 := hVL.2.2 k p hp
  have c1 := cr.pf pf
  have ht0N : t0 < G.N := by rw [et0]; exact rc_lt hr0 hc0
  have h195 : ∀ h' : AH, f_X3_search_195 k45 (f_X3_search_75 k45 n) (some D.c) (nI r0) (nI c0) (bI (decide (st = 1))) vr (some b) (some q) (some cur) (nI (st * j)) h' = f_X3_search_75 k45 n (some D.c) (nI r0) (nI c0) (bI (decide (st = 1))) vr (some b) (some q) (some cur) (nI (st * (j + 1))) h' := by
    intro h'
    unfold f_X3_search_195 f_X3_search_206
    rcases hst with e | e <;> subst e
    · simp only [decide_true, ite_bI, if_true, o_let_eq, li1, nI_add]; rw [Nat.mul_succ]
    · rw [decide_eq_false (by omega)]; simp only [ite_bI, o_let_eq, li2, nI_add]; rw [Nat.mul_succ, if_neg (by decide)]
  have e1 := nbr_t (r := p.1 / G.C) (by omega) (st * j)
  have e2 := nbc_t (r := p.1 % G.C) (by omega) (st * j)
  have hlen2 := (hVL.st hp (st * j)).len hG
  unfold bst at hk hlen2
  unfold nbX nbY at hk hlen2
  rw [f_X3_search_75_s]
  simp only
  rw [if_neg (by rw [li8, nI_leI (by omega) (by omega)]; omega), o_gi_eq hcur rfl, ld_rs hj8, o_let_eq, o_gi_eq hcur rfl, ld_cs hj8, o_let_eq, c_ci c1 (x_isTile c1 hG _ _), e1, e2, ite_bI]
  by_cases a : inG G (((p.1 / G.C : Nat) : Int) + dR (st * j)) (((p.1 % G.C : Nat) : Int) + dC (st * j)) = true
  · rw [if_pos a]
    rw [nI_toNat (x := nI (p.1 / G.C) + _) (by rw [e1]; have := (inG_iff G _ _).mp a; omega), nI_toNat (x := nI (p.1 % G.C) + _) (by rw [e2]; have := (inG_iff G _ _).mp a; omega), e1, e2]
    have hPl := plc_lt a
    have har := (inG_iff G _ _).mp a
    obtain ⟨nr, hnr⟩ : ∃ nr : Nat, (((p.1 / G.C : Nat) : Int) + dR (st * j)) = nr := ⟨_, (Int.toNat_of_nonneg har.1.1).symm⟩
    obtain ⟨nc, hnc⟩ : ∃ nc : Nat, (((p.1 % G.C : Nat) : Int) + dC (st * j)) = nc := ⟨_, (Int.toNat_of_nonneg har.2.1).symm⟩
    rw [hnr, hnc] at hPl a har hk hlen2 ⊢
    have hnrR : nr < G.R := by omega
    have hncC : nc < G.C := by omega
    rw [show ((nr : Int)).toNat = nr from rfl, show ((nc : Int)).toNat = nc from rfl]
    have eP : plc G nr nc = G.C * nr + nc := rfl
    rw [eP] at hPl hk hlen2
    have ebo : bof G (G.C * nr + nc) = 12 * nr + nc := by unfold bof; rw [rc_div hncC, rc_mod hncC]
    generalize hP : G.C * nr + nc = P at *
    have hP12 : 12 * nr + nc < 144 := by rw [← ebo]; exact bof_lt hG hPl
    rw [c_gr3 c1, c_row c1 hG hnrR, c_l c1 hG hnrR hncC, c_gr3 c1, c_row c1 hG hr0, c_l c1 hG hr0 hc0, hP, ← et0]
    simp only [bI_inj]
    by_cases v : G.l P = G.l t0
    · rw [if_pos v, li12, pk_mul, nI_add, o_ci_eq (b_get hB (show 12 * nr + nc < 192 by omega)), ite_bI, ← ebo, bitsL_has hG hVL hPl]
      by_cases w : bhas L P = true
      · rw [if_pos w, h195]
        refine hk s ?_ hcur
        rw [if_neg (by rw [w]; simp)]
        exact hs
      · have w' : bhas L P = false := by simpa using w
        rw [if_neg w]
        rw [if_pos (by rw [a, v, w']; simp)] at hlen2
        simp only [List.length_append, List.length_singleton] at hlen2
        have hsz1 : sz s.1 + 800 < 1200000 := by omega
        obtain ⟨h1, wa1, m1, m2, m3, m4, m5⟩ := b_set hB (k := bof G P) (by rw [ebo]; omega) (by omega)
        rw [o_cv_eq m1]
        have hcurlt := hget_some_lt hcur
        obtain ⟨u0, L0, W0, B0, _⟩ := id hB
        have ncb : cur ≠ b := tag_ne hcur B0.1 (by omega)
        have ncw : cur ≠ s.2.1 := tag_ne hcur B0.2.1 (by omega)
        have hcur1 : SO h1 G cur p := by
          show hget h1 cur = _
          rw [m4.2 cur hcurlt ncb ncw]; exact hcur
        have x1 := (Nat.add_comm 1024 h1.length)
        have pf1 : Pf hb h1 := m4.pf pf hids.1 hids.2.2.1
        have keep1 : ∀ (i t : Nat) (vs : List Value), hget s.1 i = some (t, vs) → t ≠ 12 → t ≠ 66 → hget h1 i = some (t, vs) := fun i t vs e n1 n2 => by
          rw [m4.2 i (hget_some_lt e) (tag_ne e B0.1 n1) (tag_ne e B0.2.1 n2)]; exact e
        have D1 : DQ h1 q s.2.2.1 s.2.2.2.1 s.2.2.2.2.1 s.2.2.2.2.2 := ⟨keep1 _ _ _ hD.1 (by omega) (by omega), keep1 _ _ _ hD.2.1 (by omega) (by omega), hD.2.2⟩
        rw [new_eq (by show sz h1 + 3 < _; omega)]
        have hcur1' : SO (h1 ++ [(5, ([.int 0, .int 0, .int 0] : List Value))]) G cur p := (Pf.app h1 _).get hcur1
        rw [o_gi_eq hcur1' rfl, li1, nI_add, o_cv_eq step_init]
        have p12 : Pf h1 (h1 ++ [(5, [.int (nI nr), .int (nI nc), .int (nI (p.2 + 1))])]) := Pf.app _ _
        have z2 := sz_step h1 (nI nr) (nI nc) (nI (p.2 + 1))
        have gx : hget (h1 ++ [(5, [.int (nI nr), .int (nI nc), .int (nI (p.2 + 1))])]) (1024 + h1.length) = some (5, [.int (nI nr), .int (nI nc), .int (nI (p.2 + 1))]) := hget_last h1 _
        generalize hh2 : h1 ++ [(5, [.int (nI nr), .int (nI nc), .int (nI (p.2 + 1))])] = h2 at p12 z2 gx ⊢
        have D2 : DQ h2 q s.2.2.1 s.2.2.2.1 s.2.2.2.2.1 s.2.2.2.2.2 := ⟨p12.get D1.1, p12.get D1.2.1, D1.2.2⟩
        have hlQ : s.2.2.2.2.2.length ≤ 144 := by omega
        obtain ⟨h3, ea3, n3, hd3, r1, r2, r3, r4, r5, r6⟩ := d_push D2 ⟨_, gx⟩ (fun y hy => by
          obtain ⟨i, hi⟩ := List.getElem?_of_mem hy
          obtain ⟨p', _, e⟩ := hsteps i y hi
          exact ⟨_, p12.get (keep1 _ _ _ e (by omega) (by omega))⟩) (by omega) (by omega)
        rw [o_ci_eq r1, h195]
        have keep : ∀ (i t : Nat) (vs : List Value), hget h2 i = some (t, vs) → t ≠ 13 → t ≠ 69 → hget h3 i = some (t, vs) := fun i t vs e n1 n2 => by
          rw [r4.2 i (hget_some_lt e) (tag_ne e D2.1 n1) (tag_ne e D2.2.1 n2)]; exact e
        have h17 := hD.2.2.2.2.2.2.2
        refine hk (h3, wa1, ea3, n3, hd3, s.2.2.2.2.2 ++ [1024 + h1.length]) ⟨?_, ?_, r2, ⟨hids.1, hids.2.1, ?_, ?_⟩, ?_, ?_, ?_, ?_, ?_⟩ ?_
        · exact r4.pf (pf1.trans p12) hids.2.1 hids.2.2.2
        · rw [if_pos (by rw [a, v, w']; simp), bitsL_app]
          obtain ⟨u1, L1, W1, B1, hf1⟩ := m2
          exact ⟨u1, L1, W1, ⟨keep _ _ _ (p12.get B1.1) (by omega) (by omega), keep _ _ _ (p12.get B1.2.1) (by omega) (by omega), B1.2.2⟩, hf1⟩
        · have := pf.len
          rcases m3 with m3 | m3
          · rw [m3]; exact hids.2.2.1
          · show _ ≤ wa1; omega
        · have h1l := pf.len
          have h2l := p12.len
          have h3l := m4.1
          rcases r3 with r3 | r3
          · show _ ≤ ea3; rw [r3]; exact hids.2.2.2
          · show _ ≤ ea3; omega
        · rw [if_pos (by rw [a, v, w']; simp)]
          simp only [List.length_append, List.length_singleton]
          omega
        · intro i y hy
          rw [if_pos (by rw [a, v, w']; simp)]
          have hy : (s.2.2.2.2.2 ++ [1024 + h1.length])[i]? = some y := hy
          by_cases hi : i < s.2.2.2.2.2.length
          · rw [List.getElem?_append_left hi] at hy
            obtain ⟨p', e1', e2'⟩ := hsteps i y hy
            refine ⟨p', by rw [List.getElem?_append_left (by omega)]; exact e1', ?_⟩
            exact keep _ _ _ (p12.get (keep1 _ _ _ e2' (by omega) (by omega))) (by omega) (by omega)
          · have hil : i < s.2.2.2.2.2.length + 1 := by
              have := (List.getElem?_eq_some_iff.mp hy).1
              simpa using this
            obtain rfl : i = s.2.2.2.2.2.length := by omega
            rw [List.getElem?_append_right (Nat.le_refl _), Nat.sub_self] at hy
            have hy : y = 1024 + h1.length := by simpa using hy.symm
            subst hy
            refine ⟨(P, p.2 + 1), by rw [List.getElem?_append_right (by omega), show k + 1 + s.2.2.2.2.2.length - L.length = 0 by omega]; rfl, ?_⟩
            show hget h3 _ = some (5, [.int (nI (P / G.C)), .int (nI (P % G.C)), .int (nI (p.2 + 1))])
            rw [← hP, rc_div hncC, rc_mod hncC]
            exact keep _ _ _ gx (by omega) (by omega)
        · rw [if_pos (by rw [a, v, w']; simp)]
          simp only [List.length_append, List.length_singleton]
          omega
        · rw [if_pos (by rw [a, v, w']; simp)]
          simp only [List.length_append, List.length_singleton]
          show n3 ≤ _
          omega
        · refine hVok s.1 h3 hVs (by have := m4.1; have := p12.len; have := r4.1; omega) (fun i t vs e ht => ?_)
          exact keep _ _ _ (p12.get (keep1 _ _ _ e (by omega) (by omega))) (by omega) (by omega)
        · exact keep _ _ _ (p12.get hcur1) (by omega) (by omega)
    · rw [if_neg v, h195]
      refine hk s ?_ hcur
      rw [if_neg (by simp [v])]
      exact hs
  · rw [if_neg a, h195]
    refine hk s ?_ hcur
    rw [if_neg (fun c => a (by simp only [Bool.and_eq_true] at c; exact c.1.1))]
    exact hs
