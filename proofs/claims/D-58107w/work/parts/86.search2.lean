set_option maxRecDepth 100000
/-! the component's search, whole -/
noncomputable def visQ (l4 x2 : Rf) : AH → Res := ifTag 6 l4 (tagIs 6 l4 (f_X6_visit l4 x2)) (ifTag 97 l4 (lamF false 97 l4 (g1 x2)) (ifTag 105 l4 (lamF false 105 l4 (g9 x2)) (ifTag 106 l4 (lamF false 106 l4 (g10 x2)) (noF))))
/-- a visitor: what it keeps of the tiles told so far -/
def Vis (hb : AH) (G : Gr) (vr : Rf) (V : BL → AH → Prop) : Prop := (∀ T h h', V T h → h.length ≤ h'.length → (∀ (i t : Nat) (vs : List Value), hget h i = some (t, vs) → t = 6 → hget h' i = some (t, vs)) → V T h') ∧
  ∀ (T : BL) (h : AH) (x : Nat) (p : Nat × Nat), V T h → SO h G x p → p.1 < G.N → p.2 ≤ 144 → bhas T p.1 = false → ∃ h', visQ vr (some x) h = some (none, h') ∧ V (T ++ [p]) h' ∧ h'.length = h.length ∧ sz h' = sz h ∧ (∀ (i t : Nat) (vs : List Value), hget h i = some (t, vs) → t ≠ 6 → hget h' i = some (t, vs)) ∧ ∀ i, i < 1024 + hb.length → hget h' i = hget h i
theorem x_searchO {hb : AH} {D : CD} {G : Gr} (cr : CR hb D G) (hG : GV G) {V : BL → AH → Prop} {b q S0 : Nat} {t0 r0 c0 st : Nat} {vr : Rf} (hV : Vis hb G vr V) (hst : st = 1 ∨ st = 2) (hr0 : r0 < G.R) (hc0 : c0 < G.C) (et0 : t0 = G.C * r0 + c0) (hS0 : S0 + 4000 < 1200000) :
    ∀ (e k : Nat), k + e = 145 → ∀ (n : Nat) (L : BL) (s : SP), e < n → LV G t0 L → SInv hb (V (L.take k)) G b q S0 k L s →
    ∃ s' : SP, f_X3_search_45 n (some D.c) (nI r0) (nI c0) (bI (decide (st = 1))) vr (some b) (some q) s.1 = some (some (vR (some b)), s'.1) ∧ SInv hb (V (bgo G t0 st e k L)) G b q S0 (bgo G t0 st e k L).length (bgo G t0 st e k L) s'
  | 0, k, hk, n, L, s, _, hVL, hs => by
    have h1 := hVL.len hG
    have h2 := hs.2.2.2.2.1
    omega
  | e + 1, k, hk, n, L, s, hn, hVL, hs => by
    obtain ⟨n, rfl⟩ : ∃ m, n = m + 1 := ⟨n - 1, by omega⟩
    obtain ⟨pf, hB, hD, hids, hlenQ, hsteps, hsz, hnn, hVs⟩ := id hs
    have hlen := hVL.len hG
    rw [f_X3_search_45_s]
    simp only
    rw [o_ci_eq (d_empty hD), ite_bI]
    unfold bgo
    cases hQ : s.2.2.2.2.2 with
    | nil =>
      rw [hQ] at hlenQ
      simp only [List.length_nil] at hlenQ
      have hkL : k = L.length := by omega
      rw [List.getElem?_eq_none (by omega), if_pos (by simp)]
      refine ⟨s, rfl, ?_⟩
      simp only
      rw [← hkL]
      have hs2 := hs
      rw [hkL, List.take_length] at hs2
      rw [hkL]
      exact hs2
    | cons x Q' =>
      rw [hQ] at hlenQ hsteps
      simp only [List.length_cons] at hlenQ
      obtain ⟨p, hp, hx⟩ := hsteps 0 x rfl
      rw [Nat.add_zero] at hp
      rw [hp, if_neg (by simp)]
      simp only
      have hD' : DQ s.1 q s.2.2.1 s.2.2.2.1 s.2.2.2.2.1 (x :: Q') := by rw [← hQ]; exact hD
      obtain ⟨h1, m1, m2, m3, m4, m5⟩ := d_pop hD'
      have keep1 : ∀ (i t : Nat) (vs : List Value), hget s.1 i = some (t, vs) → t ≠ 13 → t ≠ 69 → hget h1 i = some (t, vs) := fun i t vs e' n1 n2 => by
        rw [m3.2 i (hget_some_lt e') (tag_ne e' hD.1 n1) (tag_ne e' hD.2.1 n2)]; exact e'
      have hx1 : SO h1 G x p := keep1 _ _ _ hx (by omega) (by omega)
      have hV1 : V (L.take k) h1 := hV.1 _ _ _ hVs m3.1 (fun i t vs e' ht => keep1 i t vs e' (by omega) (by omega))
      have hpN := (hVL.1 p (List.mem_of_getElem? hp)).1
      have hp2 := hVL.2.2 k p hp
      have hkl := (List.getElem?_eq_some_iff.mp hp).1
      obtain ⟨h2, v1, v2, v3, v4, v5, v6⟩ := hV.2 _ _ _ _ hV1 hx1 hpN (by omega) (bhas_take hVL.2.1 hp)
      rw [o_cr_eq m1, o_cc_eq hx1]
      have v1' := v1
      unfold visQ at v1'
      rw [o_cv_eq v1']
      have hx2 : SO h2 G x p := v5 _ _ _ hx1 (by omega)
      have etk : L.take (k + 1) = L.take k ++ [p] := by rw [List.take_succ, hp]; rfl
      have pf1 : Pf hb h1 := m3.pf pf hids.2.1 hids.2.2.2
      have pf2 : Pf hb h2 := Pf.of (by have := pf1.len; omega) (fun i hi => by rw [v6 i hi, pf1.same hi])
      obtain ⟨u0, L0, W0, B0, hf0⟩ := id hB
      have hs2 : SInv hb (V (L.take (k + 1))) G b q S0 (k + 1) L (h2, s.2.1, s.2.2.1, s.2.2.2.1, rtl s.2.2.2.2.1 s.2.2.2.1 1, Q') := by
        refine ⟨pf2, ⟨u0, L0, W0, ⟨v5 _ _ _ (keep1 _ _ _ B0.1 (by omega) (by omega)) (by omega), v5 _ _ _ (keep1 _ _ _ B0.2.1 (by omega) (by omega)) (by omega), B0.2.2⟩, hf0⟩, ⟨v5 _ _ _ m2.1 (by omega), v5 _ _ _ m2.2.1 (by omega), m2.2.2⟩, hids, ?_, ?_, ?_, hnn, ?_⟩
        · show Q'.length + (k + 1) = _; omega
        · intro i y hy
          obtain ⟨p', e1, e2⟩ := hsteps (i + 1) y hy
          exact ⟨p', by rw [show k + 1 + i = k + (i + 1) by omega]; exact e1, v5 _ _ _ (keep1 _ _ _ e2 (by omega) (by omega)) (by omega)⟩
        · show sz h2 ≤ _
          rw [v4, m4]; exact hsz
        · rw [etk]; exact v2
      have hNd : ndir st - 0 < FUEL := by
        have : ndir st ≤ 8 := by rcases hst with w | w <;> subst w <;> decide
        simp only [FUEL]; omega
      refine loop1 (σ := SP) (ndir st) (fun n j s' => f_X3_search_75 _ n (some D.c) (nI r0) (nI c0) (bI (decide (st = 1))) vr (some b) (some q) (some x) (nI (st * j)) s'.1)
        (fun j s' => SInv hb (V (L.take (k + 1))) G b q S0 (k + 1) (bdj G t0 st p L j) s' ∧ SO s'.1 G x p)
        (fun res => ∃ s' : SP, res = some (some (vR (some b)), s'.1) ∧ SInv hb (V (bgo G t0 st e (k + 1) (bdj G t0 st p L (ndir st)))) G b q S0 (bgo G t0 st e (k + 1) (bdj G t0 st p L (ndir st))).length (bgo G t0 st e (k + 1) (bdj G t0 st p L (ndir st))) s') ?_ ?_ 0 (h2, s.2.1, s.2.2.1, s.2.2.2.1, rtl s.2.2.2.2.1 s.2.2.2.1 1, Q') FUEL (by omega) ⟨hs2, hx2⟩ hNd
      · intro s' m hs'
        rw [f_X3_search_75_s, st_ndir hst]
        simp only
        rw [if_pos (by decide)]
        have hget' := bdj_get (G := G) (t0 := t0) (st := st) (q' := p) hp (ndir st)
        have etk2 : (bdj G t0 st p L (ndir st)).take (k + 1) = L.take (k + 1) := by
          have key : ∀ j, (bdj G t0 st p L j).take (k + 1) = L.take (k + 1) := by
            intro j
            induction j with
            | zero => rfl
            | succ j ih =>
              show (bst G t0 p (st * j) (bdj G t0 st p L j)).take (k + 1) = _
              unfold bst
              split
              · rw [List.take_append_of_le_length (by have := (List.getElem?_eq_some_iff.mp (bdj_get (G := G) (t0 := t0) (st := st) (q' := p) hp j)).1; omega), ih]
              · exact ih
          exact key _
        refine x_searchO cr hG hV hst hr0 hc0 et0 hS0 e (k + 1) (by omega) _ (bdj G t0 st p L (ndir st)) s' (by omega) (hVL.dj hp _) ?_
        rw [etk2]
        exact hs'.1
      · intro j s' m hj hs' hnx
        exact x_searchS (V := V (L.take (k + 1))) cr hG (fun h h' hv hl hk' => hV.1 _ _ _ hv hl hk') hst hr0 hc0 et0 hS0 (hVL.dj hp j) (bdj_get hp j) hs'.1 hs'.2 (f_X3_search_45 n) m hj (fun res => ∃ s' : SP, res = some (some (vR (some b)), s'.1) ∧ SInv hb (V (bgo G t0 st e (k + 1) (bdj G t0 st p L (ndir st)))) G b q S0 (bgo G t0 st e (k + 1) (bdj G t0 st p L (ndir st))).length (bgo G t0 st e (k + 1) (bdj G t0 st p L (ndir st))) s') (fun s'' a1 a2 => hnx s'' ⟨a1, a2⟩)
theorem x_search {hb h0 : AH} {D : CD} {G : Gr} (cr : CR hb D G) (hG : GV G) {V : BL → AH → Prop} {r0 c0 : Nat} {vr : Rf} (hV : Vis hb G vr V) (by8 : Bool) (hr0 : r0 < G.R) (hc0 : c0 < G.C) (p0 : Pf hb h0) (hV0 : V [] h0) (hz : sz h0 + 4100 < 1200000) :
    ∃ h' b wa, f_X3_search (some D.c) (nI r0) (nI c0) (bI by8) vr h0 = some (some (vR (some b)), h') ∧ Pf hb h' ∧ BS h' b wa (bitsL G (bfs G (G.C * r0 + c0) (stB by8))) ∧ V (bfs G (G.C * r0 + c0) (stB by8)) h' ∧ 1024 + h0.length ≤ b ∧ 1024 + hb.length ≤ wa ∧ sz h' ≤ sz h0 + 32 + 17 * (bfs G (G.C * r0 + c0) (stB by8)).length ∧ h0.length ≤ h'.length := by
  have hgb := hG.1
  have ht0 : G.C * r0 + c0 < G.N := rc_lt hr0 hc0
  unfold f_X3_search
  rw [new_bits (by omega)]
  have pa : Pf h0 (h0 ++ [(12, [.ref (1024 + h0.length + 1), .int (nI 0), .int 0]), (66, loW 1 (fun _ => 0))]) := Pf.app _ _
  have Ba := new_bits_BS h0
  have za := sz_bits h0
  have la : (h0 ++ [(12, ([.ref (1024 + h0.length + 1), .int (nI 0), .int 0] : List Value)), (66, loW 1 (fun _ => 0))]).length = h0.length + 2 := by simp
  generalize hha : h0 ++ [(12, [.ref (1024 + h0.length + 1), .int (nI 0), .int 0]), (66, loW 1 (fun _ => 0))] = ha at pa Ba za la ⊢
  rw [new_deque (by omega)]
  have pd : Pf ha (ha ++ [(13, [.ref (1024 + ha.length + 1), .int 0, .int 0]), (69, List.replicate 17 .null)]) := Pf.app _ _
  have Dd := new_deque_DQ ha
  have zd := sz_deque ha
  have ld : (ha ++ [(13, ([.ref (1024 + ha.length + 1), .int 0, .int 0] : List Value)), (69, List.replicate 17 .null)]).length = ha.length + 2 := by simp
  generalize hhd : ha ++ [(13, [.ref (1024 + ha.length + 1), .int 0, .int 0]), (69, List.replicate 17 .null)] = hd at pd Dd zd ld ⊢
  rw [new_step (by omega)]
  have ps : Pf hd (hd ++ [(5, [.int (nI r0), .int (nI c0), .int 0])]) := Pf.app _ _
  have gs : hget (hd ++ [(5, [.int (nI r0), .int (nI c0), .int 0])]) (1024 + hd.length) = some (5, [.int (nI r0), .int (nI c0), .int 0]) := hget_last hd _
  have zs := sz_step hd (nI r0) (nI c0) 0
  have ls : (hd ++ [(5, ([.int (nI r0), .int (nI c0), .int 0] : List Value))]).length = hd.length + 1 := by simp
  generalize hhs : hd ++ [(5, [.int (nI r0), .int (nI c0), .int 0])] = hs at ps gs zs ls ⊢
  have Ds : DQ hs (1024 + ha.length) (1024 + ha.length + 1) 17 0 [] := ⟨ps.get Dd.1, ps.get Dd.2.1, Dd.2.2⟩
  obtain ⟨h1, ea1, n1, hd1, r1, r2, r3, r4, r5, r6⟩ := d_push Ds ⟨_, gs⟩ (fun y hy => by cases hy) (by simp) (by omega)
  rw [o_ci_eq r1]
  have hn1 : n1 = 17 := by
    rcases r6 with r6 | r6
    · exact r6
    · simp at r6
  have Bs : BS hs (1024 + h0.length) (1024 + h0.length + 1) (fun _ => false) := by
    obtain ⟨u, L, W, B0, hf⟩ := Ba
    exact ⟨u, L, W, ⟨(pd.trans ps).get B0.1, (pd.trans ps).get B0.2.1, B0.2.2⟩, hf⟩
  have B1 : BS h1 (1024 + h0.length) (1024 + h0.length + 1) (fun _ => false) := by
    obtain ⟨u, L, W, B0, hf⟩ := Bs
    refine ⟨u, L, W, ⟨?_, ?_, B0.2.2⟩, hf⟩
    · rw [r4.2 _ (by omega) (by omega) (by omega)]; exact B0.1
    · rw [r4.2 _ (by omega) (by omega) (by omega)]; exact B0.2.1
  have h12 : 12 * r0 + c0 < 144 := by
    have := bof_lt hG ht0
    unfold bof at this
    rwa [rc_div hc0, rc_mod hc0] at this
  have l1 := r4.1
  obtain ⟨h2, wa2, m1, m2, m3, m4, m5⟩ := b_set B1 (k := 12 * r0 + c0) (by omega) (by omega)
  rw [li12, pk_mul, nI_add, o_cv_eq m1]
  have keep2 : ∀ (i t : Nat) (vs : List Value), hget hs i = some (t, vs) → t ≠ 13 → t ≠ 69 → t ≠ 12 → t ≠ 66 → hget h2 i = some (t, vs) := fun i t vs e n1 n2 n3 n4 => by
    have e1 : hget h1 i = some (t, vs) := by rw [r4.2 i (hget_some_lt e) (tag_ne e Ds.1 n1) (tag_ne e Ds.2.1 n2)]; exact e
    obtain ⟨u, L, W, B0, hf⟩ := B1
    rw [m4.2 i (hget_some_lt e1) (tag_ne e1 B0.1 n3) (tag_ne e1 B0.2.1 n4)]; exact e1
  have l2 := m4.1
  have pbs : Pf hb hs := ((p0.trans pa).trans pd).trans ps
  have hbl := p0.len
  have pb1 : Pf hb h1 := r4.pf pbs (by omega) (by omega)
  have pb2 : Pf hb h2 := m4.pf pb1 (by omega) (by omega)
  have hV2 : V [] h2 := by
    have hVs : V [] hs := hV.1 _ _ _ hV0 (by omega) (fun i t vs e _ => ((pa.trans pd).trans ps).get e)
    exact hV.1 _ _ _ hVs (by omega) (fun i t vs e ht => keep2 i t vs e (by omega) (by omega) (by omega) (by omega))
  have hSI : SInv hb (V (([(G.C * r0 + c0, 0)] : BL).take 0)) G (1024 + h0.length) (1024 + ha.length) (sz h0 + 32) 0 [(G.C * r0 + c0, 0)] (h2, wa2, ea1, n1, hd1, [1024 + hd.length]) := by
    refine ⟨pb2, ?_, ?_, ⟨by omega, by omega, ?_, ?_⟩, rfl, ?_, ?_, ?_, hV2⟩
    · have : bitsL G [(G.C * r0 + c0, 0)] = fun j => decide (j = 12 * r0 + c0) || false := by
        have := bitsL_app G [] (G.C * r0 + c0, 0)
        rw [List.nil_append] at this
        rw [this]
        funext j
        show (decide (j = bof G (G.C * r0 + c0)) || false) = _
        unfold bof
        rw [rc_div hc0, rc_mod hc0]
      rw [this]; exact m2
    · obtain ⟨u, L, W, B0, hf⟩ := B1
      refine ⟨?_, ?_, r2.2.2⟩
      · show hget h2 _ = _
        rw [m4.2 _ (hget_some_lt r2.1) (tag_ne r2.1 B0.1 (by omega)) (tag_ne r2.1 B0.2.1 (by omega))]; exact r2.1
      · show hget h2 _ = _
        rw [m4.2 _ (hget_some_lt r2.2.1) (tag_ne r2.2.1 B0.1 (by omega)) (tag_ne r2.2.1 B0.2.1 (by omega))]; exact r2.2.1
    · show _ ≤ wa2
      rcases m3 with m3 | m3 <;> omega
    · show _ ≤ ea1
      rcases r3 with r3 | r3 <;> omega
    · intro i x hx
      have hx : ([1024 + hd.length] : List Nat)[i]? = some x := hx
      cases i with
      | zero =>
        have hx : x = 1024 + hd.length := by simpa using hx.symm
        subst hx
        refine ⟨(G.C * r0 + c0, 0), rfl, ?_⟩
        show hget h2 _ = some (5, [.int (nI ((G.C * r0 + c0) / G.C)), .int (nI ((G.C * r0 + c0) % G.C)), .int (nI 0)])
        rw [rc_div hc0, rc_mod hc0]
        exact keep2 _ _ _ gs (by omega) (by omega) (by omega) (by omega)
      | succ i => simp at hx
    · show sz h2 ≤ sz h0 + 32 + 4 * (n1 - 17) + 9 * 1
      omega
    · show n1 ≤ 17 + 2 * 1
      omega
  have hst := stB_ok by8
  have heq : bI by8 = bI (decide (stB by8 = 1)) := by rw [stB_d]
  rw [heq]
  obtain ⟨s', e1, e2⟩ := x_searchO cr hG hV hst hr0 hc0 rfl (by omega) 145 0 rfl FUEL [(G.C * r0 + c0, 0)] (h2, wa2, ea1, n1, hd1, [1024 + hd.length]) (by simp only [FUEL]; omega) (LV.one ht0) hSI
  obtain ⟨f1, f2, f3, f4, f5, f6, f7, f8, f9⟩ := e2
  refine ⟨s'.1, 1024 + h0.length, s'.2.1, e1, f1, f2, f9, Nat.le_refl _, f4.2.2.1, ?_, ?_⟩
  · show sz s'.1 ≤ sz h0 + 32 + 17 * (bgo G (G.C * r0 + c0) (stB by8) 145 0 [(G.C * r0 + c0, 0)]).length
    omega
  · obtain ⟨u, L, W, B0, hf⟩ := f2
    have := hget_some_lt B0.1
    omega
