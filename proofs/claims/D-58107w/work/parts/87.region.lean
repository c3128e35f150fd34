set_option maxRecDepth 100000
/-! region, way -/
theorem vis7 (hb : AH) (G : Gr) : Vis hb G (some 7) (fun _ _ => True) := by
  refine ⟨fun _ _ _ _ _ _ => trivial, fun T h x p _ _ _ _ _ => ⟨h, ?_, trivial, rfl, rfl, fun _ _ _ e _ => e, fun _ _ => rfl⟩⟩
  have g : hget h 7 = some (106, []) := rfl
  unfold visQ
  rw [ifTag_n g (by omega), ifTag_n g (by omega), ifTag_n g (by omega), ifTag_y g]
  exact lamF_V g rfl
theorem vis6 (hb : AH) (G : Gr) : Vis hb G (some 6) (fun _ _ => True) := by
  refine ⟨fun _ _ _ _ _ _ => trivial, fun T h x p _ _ _ _ _ => ⟨h, ?_, trivial, rfl, rfl, fun _ _ _ e _ => e, fun _ _ => rfl⟩⟩
  have g : hget h 6 = some (105, []) := rfl
  unfold visQ
  rw [ifTag_n g (by omega), ifTag_n g (by omega), ifTag_y g]
  exact lamF_V g rfl
theorem vis5 (hb : AH) (G : Gr) : Vis hb G (some 5) (fun _ _ => True) := by
  refine ⟨fun _ _ _ _ _ _ => trivial, fun T h x p _ _ _ _ _ => ⟨h, ?_, trivial, rfl, rfl, fun _ _ _ e _ => e, fun _ _ => rfl⟩⟩
  have g : hget h 5 = some (97, []) := rfl
  unfold visQ
  rw [ifTag_n g (by omega), ifTag_y g]
  exact lamF_V g rfl
theorem cntN_ins {f : Nat → Bool} {a : Nat} (hf : f a = false) : ∀ {n : Nat}, a < n → cntN (fun j => decide (j = a) || f j) n = cntN f n + 1
  | 0, h => absurd h (by omega)
  | n + 1, h => by
    rw [cntN, cntN]
    by_cases e : a = n
    · subst e
      have : cntN (fun j => decide (j = a) || f j) a = cntN f a := cntN_cong (fun d hd => by
        have : d ≠ a := by omega
        simp [this])
      rw [this, hf]
      simp
    · rw [cntN_ins hf (show a < n by omega)]
      have : n ≠ a := fun w => e w.symm
      simp only [this, decide_false, Bool.false_or]
      omega
theorem cnt_bitsL {G : Gr} (hG : GV G) : ∀ (L : BL), (∀ (p : Nat × Nat), p ∈ L → p.1 < G.N) → (L.map (fun p => p.1)).Nodup → cntN (bitsL G L) 192 = L.length
  | [], _, _ => cntN_zero (fun _ _ => rfl)
  | p :: L, h1, h2 => by
    simp only [List.map_cons, List.nodup_cons] at h2
    have ih := cnt_bitsL hG L (fun q hq => h1 q (List.mem_cons_of_mem _ hq)) h2.2
    have e : bitsL G (p :: L) = fun j => decide (j = bof G p.1) || bitsL G L j := by
      funext j
      unfold bitsL
      rw [List.any_cons]
      congr 1
      apply Bool.eq_iff_iff.mpr
      simp only [beq_iff_eq, decide_eq_true_eq]
      exact eq_comm
    have hp := h1 p List.mem_cons_self
    have hno : bitsL G L (bof G p.1) = false := by
      unfold bitsL
      rw [List.any_eq_false]
      intro q hq e
      have e := beq_iff_eq.mp e
      have := bof_inj hG (h1 q (List.mem_cons_of_mem _ hq)) hp e
      exact h2.1 (List.mem_map.mpr ⟨q, hq, this⟩)
    rw [e, cntN_ins hno (show bof G p.1 < 192 by have := bof_lt hG hp; omega), ih]
    rfl
theorem cnt_bfs {G : Gr} (hG : GV G) {t0 : Nat} {L : BL} (hV : LV G t0 L) : cntN (bitsL G L) 192 = L.length := cnt_bitsL hG L (fun p hp => (hV.1 p hp).1) hV.2.1
theorem a_regG {S : St} {G : Gr} (h : S.g = G) (x y : Int32) (b : Bool) : a_region S x y b = if inG G x.toInt y.toInt then nI (bfs G (plc G x.toInt y.toInt) (stB b)).length else -1 := by subst h; rfl
theorem xo_region {h : AH} {D : CD} {G : Gr} (x : XC h D G) (a c : Int32) (b : Bool) (hz : sz h + 5000 < 1200000) : Al 3000 h (f_X0_region (some 1024) a c (bI b) h) (some (vI (if inG G a.toInt c.toInt then nI (bfs G (plc G a.toInt c.toInt) (stB b)).length else -1))) := by
  unfold f_X0_region
  rw [t_gr1 x, c_ci x.cr (x_isTile x.cr x.gv a c), ite_bI]
  by_cases hin : inG G a.toInt c.toInt = true
  · rw [if_pos hin, if_pos hin]
    obtain ⟨r, k, hr, hk, rfl, rfl, e⟩ := inG_nI hin
    rw [e, t_gr1 x]
    obtain ⟨h', b', wa, e1, e2, e3, e4, e5, e6, e7, e8⟩ := x_search x.cr x.gv (vis7 h G) b hr hk (Pf.refl h) trivial (by omega)
    have hV := bfs_LV (show G.C * r + k < G.N from rc_lt hr hk) (stB b)
    have := hV.len x.gv
    rw [c_cr x.cr e1, o_ci_eq (b_card e3), cnt_bfs x.gv hV]
    exact ⟨h', rfl, e2, by omega⟩
  · rw [if_neg hin, if_neg hin]
    exact Al.ret
/-- the goal waits at gid -/
def GoalV (gid gr gc gt : Nat) (T : BL) (h : AH) : Prop := hget h gid = some (6, [.int (nI gr), .int (nI gc), .int (stpO T gt)])
theorem visG {hb : AH} {G : Gr} (hG : GV G) {gid gr gc : Nat} (hgid : 1024 + hb.length ≤ gid) (hr : gr < G.R) (hc : gc < G.C) : Vis hb G (some gid) (GoalV gid gr gc (G.C * gr + gc)) := by
  have hgb := hG.1
  refine ⟨fun T h h' hv hl k => k _ _ _ hv rfl, fun T h x p hv hx hp hp2 hno => ?_⟩
  have hlt := hget_some_lt hv
  have hge : 1024 ≤ gid := by omega
  obtain ⟨q1, q2, q3⟩ := k_rc (show p.1 < G.C * G.R from hp)
  unfold visQ
  rw [ifTag_y hv, tagIs_eq hv]
  unfold f_X6_visit
  rw [o_gi_eq hx rfl, o_gi_eq hv rfl, o_gi_eq hx rfl, o_gi_eq hv rfl, o_gi_eq hx rfl, o_pf_eq hv hge (by show 2 < 3; omega)]
  have hdiff : p.1 ≠ G.C * gr + gc → GoalV gid gr gc (G.C * gr + gc) (T ++ [p]) h := by
    intro ne
    unfold GoalV stpO
    rw [List.find?_append]
    have : [p].find? (fun q => q.1 == G.C * gr + gc) = none := by simp [ne]
    rw [this, Option.or_none]
    exact hv
  by_cases w : p.1 = G.C * gr + gc
  · have e1 : p.1 / G.C = gr := by rw [w, rc_div hc]
    have e2 : p.1 % G.C = gc := by rw [w, rc_mod hc]
    rw [e1, e2, if_pos rfl, if_pos rfl]
    refine ⟨_, rfl, ?_, len_hset _ _ _, sz_set hge hv (by rfl), fun i t vs e ne => ?_, fun i hi => hget_set_ne hge (by omega)⟩
    · show hget (hset h gid _) gid = _
      rw [hget_set_same hge hlt]
      have : stpO (T ++ [p]) (G.C * gr + gc) = nI p.2 := by
        rw [stpO_app hno, ← w, up_s]
      rw [this]; rfl
    · rw [hget_set_ne hge (tag_ne e hv ne)]; exact e
  · have hres : (if nI (p.1 / G.C) = nI gr then (if nI (p.1 % G.C) = nI gc then some (none, hset h gid (6, ([.int (nI gr), .int (nI gc), .int (stpO T (G.C * gr + gc))] : List Value).set 2 (.int (nI p.2)))) else some (none, h)) else some (none, h) : Res) = some (none, h) := by
      by_cases a : nI (p.1 / G.C) = nI gr
      · rw [if_pos a]
        by_cases b : nI (p.1 % G.C) = nI gc
        · exfalso
          rw [nI_eq (by omega) (by omega)] at a b
          apply w
          rw [← q3, a, b]
        · rw [if_neg b]
      · rw [if_neg a]
    exact ⟨h, hres, hdiff w, rfl, rfl, fun _ _ _ e _ => e, fun _ _ => rfl⟩
theorem new_goal {h : AH} {a b : Int32} {K : Rf → AH → Res} (hr : sz h + 4 < 1200000) : o_new 6 [.int 0, .int 0, .int 0] (fun r h => o_cv (nnF r (f_X6_init r a b)) (fun h => K r h) h) h = K (some (1024 + h.length)) (h ++ [(6, [.int a, .int b, .int (-6)])]) := by
  rw [new_eq (by show sz h + 3 < _; omega)]
  have e : nnF (some (1024 + h.length)) (f_X6_init (some (1024 + h.length)) a b) (h ++ [(6, ([.int 0, .int 0, .int 0] : List Value))]) = some (none, h ++ [(6, [.int a, .int b, .int (-6)])]) := by
    have e0 : hget (h ++ [(6, ([.int 0, .int 0, .int 0] : List Value))]) (1024 + h.length) = some (6, [.int 0, .int 0, .int 0]) := hget_last h _
    rw [nnF_eq]
    unfold f_X6_init
    rw [o_nn_eq, o_pf_eq e0 (by omega) (by show 2 < 3; omega), hset_new]
    have e1 : hget (h ++ [(6, ([.int 0, .int 0, .int 0] : List Value).set 2 (.int (-6)))]) (1024 + h.length) = some (6, [.int 0, .int 0, .int (-6)]) := hget_last h _
    rw [o_pf_eq e1 (by omega) (by show 0 < 3; omega), hset_new]
    have e2 : hget (h ++ [(6, ([.int 0, .int 0, .int (-6)] : List Value).set 0 (.int a))]) (1024 + h.length) = some (6, [.int a, .int 0, .int (-6)]) := hget_last h _
    rw [o_pf_eq e2 (by omega) (by show 1 < 3; omega), hset_new]
    rfl
  rw [o_cv_eq e]
theorem xo_way {h : AH} {D : CD} {G : Gr} (x : XC h D G) (a c a' c' : Int32) (hz : sz h + 5000 < 1200000) : Al 3000 h (f_X0_way (some 1024) a c a' c' h) (some (vI (if inG G a.toInt c.toInt && inG G a'.toInt c'.toInt then stpO (bfs G (plc G a.toInt c.toInt) 2) (plc G a'.toInt c'.toInt) else -1))) := by
  unfold f_X0_way
  rw [t_gr1 x, c_ci x.cr (x_isTile x.cr x.gv a c), ite_bI]
  by_cases hin : inG G a.toInt c.toInt = true
  · rw [if_pos hin, t_gr1 x, c_ci x.cr (x_isTile x.cr x.gv a' c'), ite_bI]
    by_cases hin2 : inG G a'.toInt c'.toInt = true
    · rw [if_pos hin2, if_pos (by rw [hin, hin2]; rfl)]
      obtain ⟨r, k, hr, hk, rfl, rfl, e⟩ := inG_nI hin
      obtain ⟨r', k', hr', hk', rfl, rfl, e'⟩ := inG_nI hin2
      rw [e, e', new_goal (by omega)]
      have p : Pf h (h ++ [(6, [.int (nI r'), .int (nI k'), .int (-6)])]) := Pf.app _ _
      have x' := x.pf p
      have zg : sz (h ++ [(6, [.int (nI r'), .int (nI k'), .int (-6)])]) = sz h + 4 := by rw [sz_app, sz_one]; rfl
      have gg : GoalV (1024 + h.length) r' k' (G.C * r' + k') [] (h ++ [(6, [.int (nI r'), .int (nI k'), .int (-6)])]) := hget_last h _
      rw [t_gr1 x']
      obtain ⟨h', b', wa, e1, e2, e3, e4, e5, e6, e7, e8⟩ := x_search x.cr x.gv (visG (hb := h) x.gv (Nat.le_refl _) hr' hk') false hr hk p gg (by omega)
      have hV := bfs_LV (show G.C * r + k < G.N from rc_lt hr hk) (stB false)
      have := hV.len x.gv
      rw [bI_f] at e1
      rw [c_cr x'.cr e1, o_gi_eq e4 rfl]
      exact ⟨h', rfl, e2, by omega⟩
    · rw [if_neg hin2, if_neg (by simp [hin2])]
      exact Al.ret
  · rw [if_neg hin, if_neg (by simp [hin])]
    exact Al.ret
