set_option maxRecDepth 100000
/-! shapes: a bit for each shape that is seen -/
def seenS (G : Gr) (k : Nat) : Nat → Bool := fun j => (List.range k).any (fun i => G.l i && decide (sha G i = nI j ∧ j < 47))
theorem seenS_succ (G : Gr) (k : Nat) : seenS G (k + 1) = fun j => (G.l k && decide (sha G k = nI j ∧ j < 47)) || seenS G k j := by
  funext j
  unfold seenS
  rw [List.range_succ, List.any_append]
  simp only [List.any_cons, List.any_nil, Bool.or_false]
  rw [Bool.or_comm]
theorem sm_cnt2 (P : Nat → Bool) : ∀ n, sm (fun k => if P k then nI 1 else nI 0) n = nI (cntN P n)
  | 0 => rfl
  | n + 1 => by
    rw [sm, sm_cnt2 P n, cntN]
    by_cases q : P n = true
    · rw [if_pos q, if_pos q, nI_add]
    · rw [if_neg q, if_neg q, nI_add]
theorem cntN_pos {f : Nat → Bool} : ∀ {n : Nat}, 0 < cntN f n → ∃ d, d < n ∧ f d = true
  | 0, h => absurd h (by show ¬ 0 < 0; omega)
  | n + 1, h => by
    rw [cntN] at h
    by_cases q : f n = true
    · exact ⟨n, by omega, q⟩
    · rw [if_neg q] at h
      obtain ⟨d, hd, e⟩ := cntN_pos (n := n) (by omega)
      exact ⟨d, by omega, e⟩
theorem cntN_ge1 {f : Nat → Bool} {d : Nat} (hf : f d = true) : ∀ {n : Nat}, d < n → 0 < cntN f n
  | 0, h => absurd h (by omega)
  | n + 1, h => by
    rw [cntN]
    by_cases e : d = n
    · subst e; rw [if_pos hf]; omega
    · have := cntN_ge1 hf (n := n) (by omega)
      omega
theorem shapes_cnt {G : Gr} (hG : GV G) : a_shapes G = nI (cntN (seenS G G.N) 192) := by
  have hN := hG.1.2.2.2.2.1
  have e1 : a_shapes G = nI (cntN (seenS G G.N) 47) := by
    unfold a_shapes
    rw [← sm_cnt2]
    refine sm_cong (fun s hs => ?_)
    have ec : cnt G (nI s) = nI (cntN (fun k => decide (sha G k = nI s)) G.N) := by
      rw [← sm_cnt2]
      unfold cnt
      refine sm_cong (fun k _ => ?_)
      by_cases q : sha G k = nI s
      · rw [if_pos q, if_pos (decide_eq_true q)]
      · rw [if_neg q, if_neg (by simpa using q)]
    have hle := cntN_le (fun k => decide (sha G k = nI s)) G.N
    rw [ec]
    by_cases q : cntN (fun k => decide (sha G k = nI s)) G.N = 0
    · rw [q, if_pos (by decide), if_neg]
      intro w
      unfold seenS at w
      obtain ⟨k, hk, hw⟩ := List.any_eq_true.mp w
      rw [Bool.and_eq_true] at hw
      have := cntN_ge1 (f := fun k => decide (sha G k = nI s)) (d := k) (decide_eq_true (of_decide_eq_true hw.2).1) (List.mem_range.mp hk)
      omega
    · rw [if_neg (by rw [li0, nI_leI (by omega) (by omega)]; omega), if_pos]
      obtain ⟨k, hk, hw⟩ := cntN_pos (f := fun k => decide (sha G k = nI s)) (n := G.N) (by omega)
      unfold seenS
      refine List.any_eq_true.mpr ⟨k, List.mem_range.mpr hk, ?_⟩
      have hw : decide (sha G k = nI s) = true := hw
      have hw := of_decide_eq_true hw
      rw [decide_eq_true (show sha G k = nI s ∧ s < 47 from ⟨hw, hs⟩), Bool.and_true]
      by_cases hl : G.l k = true
      · exact hl
      · exfalso
        have : sha G k = -6 := if_neg hl
        rw [this] at hw
        have h6 := nI_m6 (show s < 2 ^ 31 by omega)
        rw [← hw] at h6
        simp at h6
  rw [e1]
  have : 192 = 47 + 145 := rfl
  rw [this, cntN_add]
  have z : cntN (fun d => seenS G G.N (47 + d)) 145 = 0 := cntN_zero (fun d hd => by
    unfold seenS
    rw [List.any_eq_false]
    intro k hk w
    rw [Bool.and_eq_true] at w
    have hw := (of_decide_eq_true w.2).2
    omega)
  rw [z]; rfl
theorem xo_shapes {h : AH} {D : CD} {G : Gr} (x : XC h D G) (hz : sz h + 2000 < 1200000) : Al 1400 h (f_X0_shapes (some 1024) h) (some (vI (a_shapes G))) := by
  have hG := x.gv
  have hN := hG.1.2.2.2.2.1
  unfold f_X0_shapes
  rw [new_bits (by omega)]
  have pa : Pf h (h ++ [(12, [.ref (1024 + h.length + 1), .int (nI 0), .int 0]), (66, loW 1 (fun _ => 0))]) := Pf.app _ _
  have Ba := new_bits_BS h
  have za := sz_bits h
  have la : (h ++ [(12, ([.ref (1024 + h.length + 1), .int (nI 0), .int 0] : List Value)), (66, loW 1 (fun _ => 0))]).length = h.length + 2 := by simp
  generalize hha : h ++ [(12, [.ref (1024 + h.length + 1), .int (nI 0), .int 0]), (66, loW 1 (fun _ => 0))] = ha at pa Ba za la ⊢
  rw [o_lam_eq (by rfl) (by show sz ha + 2 < _; omega)]
  have pl : Pf ha (ha ++ [(104, [.ref 1024, .ref (1024 + h.length)])]) := Pf.app _ _
  have gl : hget (ha ++ [(104, [.ref 1024, .ref (1024 + h.length)])]) (1024 + ha.length) = some (104, [.ref 1024, .ref (1024 + h.length)]) := hget_last ha _
  have zl : sz (ha ++ [(104, [.ref 1024, .ref (1024 + h.length)])]) = sz ha + 3 := by rw [sz_app, sz_one]; rfl
  show Al 1400 h (o_ci (tagIs 0 (some 1024) (f_X0_sum (some 1024) (some (1024 + ha.length)))) _ (ha ++ [(104, [.ref 1024, .ref (1024 + h.length)])])) _
  generalize hhl : ha ++ [(104, [.ref 1024, .ref (1024 + h.length)])] = hl at pl gl zl ⊢
  have Bl : BS hl (1024 + h.length) (1024 + h.length + 1) (seenS G 0) := by
    obtain ⟨u, L, W, B0, hf⟩ := Ba
    exact ⟨u, L, W, ⟨pl.get B0.1, pl.get B0.2.1, B0.2.2⟩, hf⟩
  have xl := x.pf (pa.trans pl)
  obtain ⟨h', e1, wa', p1, p2, p3, p4, p5⟩ := x_sumI (D := D) (l := some (1024 + ha.length)) (q := fun _ => 0) (P := fun k s => ∃ wa, Pf h s ∧ BS s (1024 + h.length) wa (seenS G k) ∧ 1024 + h.length ≤ wa ∧ hget s (1024 + ha.length) = some (104, [.ref 1024, .ref (1024 + h.length)]) ∧ sz s ≤ sz h + 9 + 9 * k) hG
    (fun k h' ⟨wa, q1, _⟩ => x.pf q1) (fun r c s hr hc ⟨wa, q1, q2, q3, q4, q5⟩ hland => by
      have hk : G.C * r + c < G.N := rc_lt hr hc
      have xs := x.pf q1
      obtain ⟨h1, s1, s2, s3⟩ := x_sha xs.cr hG xs.bs hr hc (by omega)
      obtain ⟨sh, hsh, esh⟩ := sha_ok hG hk hland
      have B1 : BS h1 (1024 + h.length) wa (seenS G (G.C * r + c)) := by
        obtain ⟨u, L, W, B0, hf⟩ := q2
        exact ⟨u, L, W, ⟨s2.get B0.1, s2.get B0.2.1, B0.2.2⟩, hf⟩
      obtain ⟨h2, wa2, t1, t2, t3, t4, t5⟩ := b_set B1 (k := sh) (by omega) (by omega)
      have g4' := s2.get q4
      obtain ⟨u, L, W, B0, hf⟩ := B1
      have g4'' : hget h2 (1024 + ha.length) = some (104, [.ref 1024, .ref (1024 + h.length)]) := by
        rw [t4.2 _ (hget_some_lt g4') (tag_ne g4' B0.1 (by omega)) (tag_ne g4' B0.2.1 (by omega))]; exact g4'
      have ph2 : Pf h h2 := t4.pf (q1.trans s2) (Nat.le_refl _) q3
      refine ⟨h2, ?_, wa2, ph2, ?_, ?_, g4'', by omega⟩
      · unfold askQ
        rw [ifTag_n q4 (by omega), ifTag_n q4 (by omega), ifTag_y q4]
        refine lamF_I q4 ?_
        show tagIs 0 (some 1024) (f_X0_lambda_shapes_8 (some 1024) (some (1024 + h.length)) (nI r) (nI c)) s = _
        rw [t_tag xs]
        unfold f_X0_lambda_shapes_8
        rw [t_gr1 xs, c_ci xs.cr s1, esh, o_cv_eq t1]
      · rw [seenS_succ, hland]
        have : (fun j => (true && decide (sha G (G.C * r + c) = nI j ∧ j < 47)) || seenS G (G.C * r + c) j) = fun j => decide (j = sh) || seenS G (G.C * r + c) j := by
          funext j
          rw [Bool.true_and, esh]
          congr 1
          rw [decide_eq_decide]
          constructor
          · rintro ⟨a, b⟩
            rw [nI_eq (by omega) (by omega)] at a
            exact a.symm
          · intro a
            subst a
            exact ⟨rfl, hsh⟩
        rw [this]; exact t2
      · have := (q1.trans s2).len
        rcases t3 with t3 | t3 <;> omega) (fun k s hk ⟨wa, q1, q2, q3, q4, q5⟩ hl0 => ⟨wa, q1, by rw [seenS_succ, hl0]; exact q2, q3, q4, by omega⟩) (h := hl) ⟨1024 + h.length + 1, pa.trans pl, Bl, by omega, gl, by omega⟩
  rw [o_ci_eq ((t_tag xl).trans e1), o_ci_eq (b_card p2), shapes_cnt hG]
  exact ⟨h', rfl, p1, by omega⟩
