set_option maxRecDepth 100000
/-! LinkedList -/
section OPV
variable {h : AH} {i t k : Nat} {vs : List Value}
theorem o_grV_eq {x : Rf} {K : Rf → AH → Res} (hg : hget h i = some (t, vs)) (hv : vs[k]? = some (va_rf x)) : o_gr t (some i) k K h = K x h := by
  cases x with
  | none => exact o_grN_eq hg hv
  | some x => exact o_gr_eq hg hv
end OPV
def LL (h : AH) (lo lid : Nat) (mc : Int32) (l : List (Nat × Nat)) : Prop := 1024 ≤ lo ∧ lo ≤ lid ∧ hget h lid = some (14, [.int mc, .int (nI l.length), va_rf ((l[0]?).map (fun p => p.1)), va_rf ((l[l.length - 1]?).map (fun p => p.1))]) ∧
  (∀ i p, l[i]? = some p → lo ≤ p.1 ∧ ∃ v, hget h p.1 = some (15, [.ref p.2, va_rf ((l[i + 1]?).map (fun q => q.1)), v])) ∧ (l.map (fun p => p.1)).Nodup
theorem LL.of {h h' : AH} {lo lid : Nat} {mc : Int32} {l : List (Nat × Nat)} (T : LL h lo lid mc l) (k : ∀ i t vs, hget h i = some (t, vs) → t = 14 ∨ t = 15 → hget h' i = some (t, vs)) : LL h' lo lid mc l := by
  obtain ⟨a1, a2, a3, a4, a5⟩ := T
  refine ⟨a1, a2, k _ _ _ a3 (.inl rfl), fun i p hp => ⟨(a4 i p hp).1, ?_⟩, a5⟩
  obtain ⟨v, e⟩ := (a4 i p hp).2
  exact ⟨v, k _ _ _ e (.inr rfl)⟩
theorem LL.pf {h h' : AH} {lo lid : Nat} {mc : Int32} {l : List (Nat × Nat)} (T : LL h lo lid mc l) (p : Pf h h') : LL h' lo lid mc l := T.of (fun _ _ _ e _ => p.get e)
/-- what is not of the list is as it was -/
def FrL (lo : Nat) (h h' : AH) : Prop := h.length ≤ h'.length ∧ (∀ i, i < lo → hget h' i = hget h i) ∧ ∀ i t vs, hget h i = some (t, vs) → t ≠ 14 → t ≠ 15 → hget h' i = some (t, vs)
theorem FrL.trans {lo : Nat} {a b c : AH} (h : FrL lo a b) (h' : FrL lo b c) : FrL lo a c := ⟨Nat.le_trans h.1 h'.1, fun i hi => (h'.2.1 i hi).trans (h.2.1 i hi), fun i t vs e n1 n2 => h'.2.2 i t vs (h.2.2 i t vs e n1 n2) n1 n2⟩
theorem FrL.pf {hb h h' : AH} (f : FrL (1024 + hb.length) h h') (p : Pf hb h) : Pf hb h' := Pf.of (Nat.le_trans p.len f.1) (fun i hi => (f.2.1 i hi).trans (p.same hi))
theorem new_ll {h : AH} {K : Rf → AH → Res} (hz : sz h + 5 < 1200000) : o_new 14 [.int 0, .int 0, .null, .null] (fun r1 h => o_cv (nnF r1 (f_J27_init r1)) (fun h => K r1 h) h) h = K (some (1024 + h.length)) (h ++ [(14, [.int 0, .int 0, .null, .null])]) := by
  have g : hget (h ++ [(14, ([.int 0, .int 0, .null, .null] : List Value))]) (1024 + h.length) = some (14, [.int 0, .int 0, .null, .null]) := hget_last h _
  have e0 : nnF (some (1024 + h.length)) (f_J0_init (some (1024 + h.length))) (h ++ [(14, ([.int 0, .int 0, .null, .null] : List Value))]) = some (none, h ++ [(14, ([.int 0, .int 0, .null, .null] : List Value))]) := by
    rw [nnF_eq]
    unfold f_J0_init
    rw [o_nn_eq]
  have e1 : nnF (some (1024 + h.length)) (f_J1_init_t14 (some (1024 + h.length))) (h ++ [(14, ([.int 0, .int 0, .null, .null] : List Value))]) = some (none, h ++ [(14, ([.int 0, .int 0, .null, .null] : List Value))]) := by
    rw [nnF_eq]
    unfold f_J1_init_t14
    rw [o_cv_eq e0, o_pf_eq g (by omega) (by show 0 < 4; omega), hset_new]
    rfl
  have e2 : nnF (some (1024 + h.length)) (f_J26_init (some (1024 + h.length))) (h ++ [(14, ([.int 0, .int 0, .null, .null] : List Value))]) = some (none, h ++ [(14, ([.int 0, .int 0, .null, .null] : List Value))]) := by
    rw [nnF_eq]
    unfold f_J26_init
    rw [o_cv_eq e1]
  have e3 : nnF (some (1024 + h.length)) (f_J27_init (some (1024 + h.length))) (h ++ [(14, ([.int 0, .int 0, .null, .null] : List Value))]) = some (none, h ++ [(14, ([.int 0, .int 0, .null, .null] : List Value))]) := by
    rw [nnF_eq]
    unfold f_J27_init
    rw [o_cv_eq e2, o_pf_eq g (by omega) (by show 1 < 4; omega), hset_new]
    rfl
  rw [new_eq (by show sz h + 4 < _; omega), o_cv_eq e3]
theorem new_LL (h : AH) {lo : Nat} (h1 : 1024 ≤ lo) (h2 : lo ≤ 1024 + h.length) : LL (h ++ [(14, [.int 0, .int 0, .null, .null])]) lo (1024 + h.length) 0 [] := ⟨h1, h2, hget_last h _, fun i p hp => by simp at hp, by simp⟩
theorem new_node {h : AH} {x : Nat} {pv : Rf} {K : Rf → AH → Res} (hz : sz h + 5 < 1200000) : o_new 15 [.null, .null, .null] (fun r2 h => o_cv (nnF r2 (f_J19_init r2 pv (some x) none)) (fun h => K r2 h) h) h = K (some (1024 + h.length)) (h ++ [(15, [.ref x, .null, va_rf pv])]) := by
  have e : nnF (some (1024 + h.length)) (f_J19_init (some (1024 + h.length)) pv (some x) none) (h ++ [(15, ([.null, .null, .null] : List Value))]) = some (none, h ++ [(15, [.ref x, .null, va_rf pv])]) := by
    have g0 : hget (h ++ [(15, ([.null, .null, .null] : List Value))]) (1024 + h.length) = some (15, [.null, .null, .null]) := hget_last h _
    rw [nnF_eq]
    unfold f_J19_init
    rw [o_nn_eq, o_pf_eq g0 (by omega) (by show 0 < 3; omega), hset_new]
    have g1 : hget (h ++ [(15, ([.null, .null, .null] : List Value).set 0 (va_rf (some x)))]) (1024 + h.length) = some (15, [.ref x, .null, .null]) := hget_last h _
    rw [o_pf_eq g1 (by omega) (by show 1 < 3; omega), hset_new]
    have g2 : hget (h ++ [(15, ([.ref x, .null, .null] : List Value).set 1 (va_rf none))]) (1024 + h.length) = some (15, [.ref x, .null, .null]) := hget_last h _
    rw [o_pf_eq g2 (by omega) (by show 2 < 3; omega), hset_new]
    rfl
  rw [new_eq (by show sz h + 3 < _; omega), o_cv_eq e]
theorem ll_38 {s : AH} {lid n : Nat} {mc : Int32} {a b : Value} (g : hget s lid = some (14, [.int mc, .int (nI n), a, b])) (h1 : 1024 ≤ lid) :
    ∃ s', f_J27_linkLast_38 (some lid) s = some (none, s') ∧ hget s' lid = some (14, [.int (mc + 1), .int (nI (n + 1)), a, b]) ∧ (∀ j, j ≠ lid → hget s' j = hget s j) ∧ s'.length = s.length ∧ sz s' = sz s := by
  have hlt := hget_some_lt g
  unfold f_J27_linkLast_38
  rw [o_gi_eq g rfl, li1, nI_add, o_pf_eq g h1 (by show 1 < 4; omega)]
  have g1 : hget (hset s lid (14, ([.int mc, .int (nI n), a, b] : List Value).set 1 (.int (nI (n + 1))))) lid = some (14, [.int mc, .int (nI (n + 1)), a, b]) := hget_set_same h1 hlt
  rw [o_gi_eq g1 rfl, o_pf_eq g1 h1 (by show 0 < 4; omega)]
  refine ⟨_, rfl, hget_set_same h1 (by rw [len_hset]; exact hlt), fun j hj => ?_, by rw [len_hset, len_hset], ?_⟩
  · rw [hget_set_ne h1 hj, hget_set_ne h1 hj]
  · rw [sz_set h1 g1 (by rfl), sz_set h1 g (by rfl)]
theorem ll_add {h : AH} {lo lid : Nat} {mc : Int32} {l : List (Nat × Nat)} (T : LL h lo lid mc l) (hlo : lo ≤ 1024 + h.length) (x : Nat) (hz : sz h + 5 < 1200000) :
    ∃ h', tagIs 14 (some lid) (f_J27_addLast (some lid) (some x)) h = some (none, h') ∧ LL h' lo lid (mc + 1) (l ++ [(1024 + h.length, x)]) ∧ FrL lo h h' ∧ sz h' = sz h + 4 := by
  obtain ⟨a1, a2, a3, a4, a5⟩ := T
  have hge : 1024 ≤ lid := by omega
  have hlt := hget_some_lt a3
  rw [tagIs_eq a3]
  unfold f_J27_addLast
  have p0 : Pf h (h ++ [(15, [.ref x, .null, va_rf ((l[l.length - 1]?).map (fun p => p.1))])]) := Pf.app _ _
  have z0 : sz (h ++ [(15, [.ref x, .null, va_rf ((l[l.length - 1]?).map (fun p => p.1))])]) = sz h + 4 := by rw [sz_app, sz_one]; rfl
  have gn : hget (h ++ [(15, [.ref x, .null, va_rf ((l[l.length - 1]?).map (fun p => p.1))])]) (1024 + h.length) = some (15, [.ref x, .null, va_rf ((l[l.length - 1]?).map (fun p => p.1))]) := hget_last h _
  have main : ∃ h', f_J27_linkLast (some lid) (some x) h = some (none, h') ∧ LL h' lo lid (mc + 1) (l ++ [(1024 + h.length, x)]) ∧ FrL lo h h' ∧ sz h' = sz h + 4 := by
    unfold f_J27_linkLast
    rw [o_grV_eq a3 rfl, new_node hz]
    generalize h ++ [(15, [.ref x, .null, va_rf ((l[l.length - 1]?).map (fun p => p.1))])] = h1 at p0 z0 gn ⊢
    have b3 := p0.get a3
    have hlt1 := hget_some_lt b3
    rw [o_pf_eq b3 hge (by show 3 < 4; omega)]
    have c3 : hget (hset h1 lid (14, ([.int mc, .int (nI l.length), va_rf ((l[0]?).map (fun p => p.1)), va_rf ((l[l.length - 1]?).map (fun p => p.1))] : List Value).set 3 (va_rf (some (1024 + h.length))))) lid = some (14, [.int mc, .int (nI l.length), va_rf ((l[0]?).map (fun p => p.1)), .ref (1024 + h.length)]) := hget_set_same hge hlt1
    have cne : ∀ j, j ≠ lid → hget (hset h1 lid (14, ([.int mc, .int (nI l.length), va_rf ((l[0]?).map (fun p => p.1)), va_rf ((l[l.length - 1]?).map (fun p => p.1))] : List Value).set 3 (va_rf (some (1024 + h.length))))) j = hget h1 j := fun j hj => hget_set_ne hge hj
    have zc : sz (hset h1 lid (14, ([.int mc, .int (nI l.length), va_rf ((l[0]?).map (fun p => p.1)), va_rf ((l[l.length - 1]?).map (fun p => p.1))] : List Value).set 3 (va_rf (some (1024 + h.length))))) = sz h1 := sz_set hge b3 (by rfl)
    have lc : (hset h1 lid (14, ([.int mc, .int (nI l.length), va_rf ((l[0]?).map (fun p => p.1)), va_rf ((l[l.length - 1]?).map (fun p => p.1))] : List Value).set 3 (va_rf (some (1024 + h.length))))).length = h1.length := len_hset _ _ _
    generalize hset h1 lid (14, ([.int mc, .int (nI l.length), va_rf ((l[0]?).map (fun p => p.1)), va_rf ((l[l.length - 1]?).map (fun p => p.1))] : List Value).set 3 (va_rf (some (1024 + h.length)))) = h2 at c3 cne zc lc ⊢
    have nlid : 1024 + h.length ≠ lid := by omega
    have gn2 : hget h2 (1024 + h.length) = some (15, [.ref x, .null, va_rf ((l[l.length - 1]?).map (fun p => p.1))]) := by rw [cne _ nlid]; exact gn
    have hp1 := p0.len
    rcases List.eq_nil_or_concat l with e0 | ⟨l0, q, e0⟩
    · subst e0
      rw [if_pos (by rfl), o_pf_eq c3 hge (by show 2 < 4; omega)]
      have hlt2 := hget_some_lt c3
      have d3 : hget (hset h2 lid (14, ([.int mc, .int (nI ([] : List (Nat × Nat)).length), va_rf ((([] : List (Nat × Nat))[0]?).map (fun p => p.1)), .ref (1024 + h.length)] : List Value).set 2 (va_rf (some (1024 + h.length))))) lid = some (14, [.int mc, .int (nI 0), .ref (1024 + h.length), .ref (1024 + h.length)]) := hget_set_same hge hlt2
      obtain ⟨s', w1, w2, w3, w4, w5⟩ := ll_38 d3 hge
      have keep : ∀ j, j ≠ lid → hget s' j = hget h1 j := fun j hj => by rw [w3 j hj, hget_set_ne hge hj, cne j hj]
      refine ⟨s', w1, ⟨a1, a2, w2, fun i p hp => ?_, by simp⟩, ⟨by rw [w4, len_hset]; omega, fun i hi => ?_, fun i t vs e n1 n2 => ?_⟩, ?_⟩
      · cases i with
        | zero =>
          have hp : (1024 + h.length, x) = p := by simpa using hp
          subst hp
          exact ⟨hlo, _, (keep _ nlid).trans gn⟩
        | succ i => simp at hp
      · rw [keep i (by omega)]
        by_cases w : i < 1024 + h.length
        · exact p0.same w
        · omega
      · rw [keep i (tag_ne e a3 n1)]; exact p0.get e
      · rw [w5, sz_set hge c3 (by rfl)]; omega
    · rw [List.concat_eq_append] at e0
      subst e0
      have el : (l0 ++ [q])[(l0 ++ [q]).length - 1]? = some q := by simp
      rw [el] at gn2 gn ⊢
      obtain ⟨hq1, vq, gq⟩ := a4 ((l0 ++ [q]).length - 1) q el
      have hqlt := hget_some_lt gq
      have nql : q.1 ≠ lid := tag_ne gq a3 (by omega)
      have hqge : 1024 ≤ q.1 := by omega
      have enext : (l0 ++ [q])[(l0 ++ [q]).length - 1 + 1]? = none := by
        rw [List.getElem?_eq_none]; simp
      rw [enext] at gq
      have gq2 : hget h2 q.1 = some (15, [.ref q.2, .null, vq]) := by rw [cne _ nql]; exact p0.get gq
      rw [if_neg (by simp)]
      show ∃ h', o_pf 15 (some q.1) 1 _ _ h2 = _ ∧ _
      rw [o_pf_eq gq2 hqge (by show 1 < 3; omega)]
      have hlt2 := hget_some_lt gq2
      have d3 : hget (hset h2 q.1 (15, ([.ref q.2, .null, vq] : List Value).set 1 (va_rf (some (1024 + h.length))))) lid = some (14, [.int mc, .int (nI (l0 ++ [q]).length), va_rf (((l0 ++ [q])[0]?).map (fun p => p.1)), .ref (1024 + h.length)]) := by
        rw [hget_set_ne hqge (fun w => nql w.symm)]; exact c3
      obtain ⟨s', w1, w2, w3, w4, w5⟩ := ll_38 d3 hge
      have nqn : q.1 ≠ 1024 + h.length := by omega
      have keep : ∀ j, j ≠ lid → j ≠ q.1 → hget s' j = hget h1 j := fun j hj hj2 => by rw [w3 j hj, hget_set_ne hqge hj2, cne j hj]
      have gq3 : hget s' q.1 = some (15, [.ref q.2, .ref (1024 + h.length), vq]) := by
        rw [w3 _ nql, hget_set_same hqge hlt2]; rfl
      refine ⟨s', w1, ⟨a1, a2, ?_, fun i p hp => ?_, ?_⟩, ⟨by rw [w4, len_hset]; omega, fun i hi => ?_, fun i t vs e n1 n2 => ?_⟩, ?_⟩
      · have e1 : (l0 ++ [q] ++ [(1024 + h.length, x)]).length = (l0 ++ [q]).length + 1 := by simp
        have e2 : (l0 ++ [q] ++ [(1024 + h.length, x)])[0]? = (l0 ++ [q])[0]? := by
          rw [List.getElem?_append_left (by simp)]
        have e3 : (l0 ++ [q] ++ [(1024 + h.length, x)])[(l0 ++ [q]).length + 1 - 1]? = some (1024 + h.length, x) := by
          rw [List.getElem?_append_right (by omega)]; simp
        rw [e1, e2, e3]; exact w2
      · by_cases hi : i < (l0 ++ [q]).length
        · rw [List.getElem?_append_left hi] at hp
          obtain ⟨b1, v, b2⟩ := a4 i p hp
          by_cases hl : i = (l0 ++ [q]).length - 1
          · subst hl
            rw [el] at hp
            cases hp
            refine ⟨b1, vq, ?_⟩
            have e3 : (l0 ++ [q] ++ [(1024 + h.length, x)])[(l0 ++ [q]).length - 1 + 1]? = some (1024 + h.length, x) := by
              rw [List.getElem?_append_right (by omega)]; simp
            rw [e3]; exact gq3
          · have hi2 : i + 1 < (l0 ++ [q]).length := by omega
            have npq : p.1 ≠ q.1 := by
              intro e
              have h1 : ((l0 ++ [q]).map (fun p => p.1))[i]? = some q.1 := by rw [List.getElem?_map, hp]; simpa using e
              have h2 : ((l0 ++ [q]).map (fun p => p.1))[(l0 ++ [q]).length - 1]? = some q.1 := by rw [List.getElem?_map, el]; rfl
              have hil : i < ((l0 ++ [q]).map (fun p => p.1)).length := (List.getElem?_eq_some_iff.mp h1).1
              have := (List.getElem?_inj hil a5).mp (h1.trans h2.symm)
              omega
            refine ⟨b1, v, ?_⟩
            rw [keep _ (tag_ne b2 a3 (by omega)) npq, List.getElem?_append_left hi2]
            exact p0.get b2
        · have hil : i < (l0 ++ [q]).length + 1 := by
            have := (List.getElem?_eq_some_iff.mp hp).1
            simpa using this
          obtain rfl : i = (l0 ++ [q]).length := by omega
          rw [List.getElem?_append_right (Nat.le_refl _), Nat.sub_self] at hp
          have hp : (1024 + h.length, x) = p := by simpa using hp
          subst hp
          refine ⟨hlo, va_rf ((some q).map (fun p => p.1)), ?_⟩
          rw [keep _ nlid (fun w => nqn w.symm), List.getElem?_eq_none (by simp)]
          exact gn
      · rw [List.map_append, List.nodup_append]
        refine ⟨a5, by simp, fun y hy z hz' e => ?_⟩
        obtain ⟨p, hp, e2⟩ := List.mem_map.mp hy
        obtain ⟨i, hi⟩ := List.getElem?_of_mem hp
        obtain ⟨b1, v, b2⟩ := a4 i p hi
        have := hget_some_lt b2
        have hz' : z = 1024 + h.length := by simpa using hz'
        omega
      · rw [keep i (by omega) (by omega)]
        exact p0.same (by omega)
      · rw [keep i (tag_ne e a3 n1) (tag_ne e gq n2)]; exact p0.get e
      · rw [w5, sz_set hqge gq2 (by rfl)]; omega
  obtain ⟨h', m1, m2⟩ := main
  exact ⟨h', by rw [o_cv_eq ((tagIs_eq a3).trans m1)], m2⟩
theorem ll_size {h : AH} {lo lid : Nat} {mc : Int32} {l : List (Nat × Nat)} (T : LL h lo lid mc l) : tagIs 14 (some lid) (f_J27_size (some lid)) h = some (some (vI (nI l.length)), h) := by
  rw [tagIs_eq T.2.2.1]
  unfold f_J27_size
  rw [o_gi_eq T.2.2.1 rfl]
theorem ll_empty {h : AH} {lo lid : Nat} {mc : Int32} {l : List (Nat × Nat)} (T : LL h lo lid mc l) (hl : l.length < 1000) : tagIs 14 (some lid) (f_J0_isEmpty_t14 (some lid)) h = some (some (vI (bI (decide (l.length = 0)))), h) := by
  rw [tagIs_eq T.2.2.1]
  unfold f_J0_isEmpty_t14
  rw [o_ci_eq (ll_size T), retz_0, retz_1, ite_retI, bI_ite]
  refine ret_cong ?_
  by_cases q : l.length = 0
  · rw [if_pos (by rw [q]; rfl), decide_eq_true q]
  · rw [if_neg (by rw [li0, nI_eq (by omega) (by omega)]; exact q), decide_eq_false q]
theorem ll_42 {s : AH} {lid n : Nat} {mc : Int32} {a b : Value} {x : Rf} (g : hget s lid = some (14, [.int mc, .int (nI (n + 1)), a, b])) (h1 : 1024 ≤ lid) :
    ∃ s', f_J27_unlinkFirst_42 (some lid) x s = some (some (vR x), s') ∧ hget s' lid = some (14, [.int (mc + 1), .int (nI n), a, b]) ∧ (∀ j, j ≠ lid → hget s' j = hget s j) ∧ s'.length = s.length ∧ sz s' = sz s := by
  have hlt := hget_some_lt g
  unfold f_J27_unlinkFirst_42
  rw [o_gi_eq g rfl, li1, pk_sub (by omega), Nat.add_sub_cancel, o_pf_eq g h1 (by show 1 < 4; omega)]
  have g1 : hget (hset s lid (14, ([.int mc, .int (nI (n + 1)), a, b] : List Value).set 1 (.int (nI n)))) lid = some (14, [.int mc, .int (nI n), a, b]) := hget_set_same h1 hlt
  rw [o_gi_eq g1 rfl, o_pf_eq g1 h1 (by show 0 < 4; omega)]
  refine ⟨_, rfl, hget_set_same h1 (by rw [len_hset]; exact hlt), fun j hj => ?_, by rw [len_hset, len_hset], ?_⟩
  · rw [hget_set_ne h1 hj, hget_set_ne h1 hj]
  · rw [sz_set h1 g1 (by rfl), sz_set h1 g (by rfl)]
theorem ll_rem {h : AH} {lo lid : Nat} {mc : Int32} {p : Nat × Nat} {l : List (Nat × Nat)} (T : LL h lo lid mc (p :: l)) :
    ∃ h', tagIs 14 (some lid) (f_J27_removeFirst (some lid)) h = some (some (vR (some p.2)), h') ∧ LL h' lo lid (mc + 1) l ∧ FrL lo h h' ∧ sz h' = sz h := by
  obtain ⟨a1, a2, a3, a4, a5⟩ := T
  have hge : 1024 ≤ lid := by omega
  have hlt := hget_some_lt a3
  obtain ⟨b1, v, b2⟩ := a4 0 p rfl
  have hpge : 1024 ≤ p.1 := by omega
  have hplt := hget_some_lt b2
  have npl : p.1 ≠ lid := tag_ne b2 a3 (by omega)
  have e0 : (p :: l)[0 + 1]? = l[0]? := rfl
  rw [e0] at b2
  rw [tagIs_eq a3]
  unfold f_J27_removeFirst
  have main : ∃ h', f_J27_unlinkFirst (some lid) (some p.1) h = some (some (vR (some p.2)), h') ∧ LL h' lo lid (mc + 1) l ∧ FrL lo h h' ∧ sz h' = sz h := by
    unfold f_J27_unlinkFirst
    rw [o_gr_eq b2 rfl, o_grV_eq b2 rfl, o_pf_eq b2 hpge (by show 0 < 3; omega)]
    have c2 : hget (hset h p.1 (15, ([.ref p.2, va_rf ((l[0]?).map (fun q => q.1)), v] : List Value).set 0 (va_rf none))) p.1 = some (15, [.null, va_rf ((l[0]?).map (fun q => q.1)), v]) := hget_set_same hpge hplt
    rw [o_pf_eq c2 hpge (by show 1 < 3; omega)]
    let h1 := hset (hset h p.1 (15, ([.ref p.2, va_rf ((l[0]?).map (fun q => q.1)), v] : List Value).set 0 (va_rf none))) p.1 (15, ([.null, va_rf ((l[0]?).map (fun q => q.1)), v] : List Value).set 1 (va_rf none))
    have k1 : ∀ j, j ≠ p.1 → hget h1 j = hget h j := fun j hj => by
      show hget (hset _ _ _) j = _
      rw [hget_set_ne hpge hj, hget_set_ne hpge hj]
    have z1 : sz h1 = sz h := by
      show sz (hset _ _ _) = _
      rw [sz_set hpge c2 (by rfl), sz_set hpge b2 (by rfl)]
    have l1 : h1.length = h.length := by
      show (hset _ _ _).length = _
      rw [len_hset, len_hset]
    have g1 : hget h1 lid = some (14, [.int mc, .int (nI (l.length + 1)), .ref p.1, va_rf (((p :: l)[l.length]?).map (fun p => p.1))]) := by
      rw [k1 lid (fun w => npl w.symm)]; exact a3
    show ∃ h', o_pf 14 (some lid) 2 _ _ h1 = _ ∧ _
    rw [o_pf_eq g1 hge (by show 2 < 4; omega)]
    have hlt1 := hget_some_lt g1
    have g2 : hget (hset h1 lid (14, ([.int mc, .int (nI (l.length + 1)), .ref p.1, va_rf (((p :: l)[l.length]?).map (fun p => p.1))] : List Value).set 2 (va_rf ((l[0]?).map (fun q => q.1))))) lid = some (14, [.int mc, .int (nI (l.length + 1)), va_rf ((l[0]?).map (fun q => q.1)), va_rf (((p :: l)[l.length]?).map (fun p => p.1))]) := hget_set_same hge hlt1
    have k2 : ∀ j, j ≠ p.1 → j ≠ lid → hget (hset h1 lid (14, ([.int mc, .int (nI (l.length + 1)), .ref p.1, va_rf (((p :: l)[l.length]?).map (fun p => p.1))] : List Value).set 2 (va_rf ((l[0]?).map (fun q => q.1))))) j = hget h j := fun j hj hj2 => by
      rw [hget_set_ne hge hj2, k1 j hj]
    have z2 : sz (hset h1 lid (14, ([.int mc, .int (nI (l.length + 1)), .ref p.1, va_rf (((p :: l)[l.length]?).map (fun p => p.1))] : List Value).set 2 (va_rf ((l[0]?).map (fun q => q.1))))) = sz h := by rw [sz_set hge g1 (by rfl), z1]
    have l2 : (hset h1 lid (14, ([.int mc, .int (nI (l.length + 1)), .ref p.1, va_rf (((p :: l)[l.length]?).map (fun p => p.1))] : List Value).set 2 (va_rf ((l[0]?).map (fun q => q.1))))).length = h.length := by rw [len_hset, l1]
    generalize hset h1 lid (14, ([.int mc, .int (nI (l.length + 1)), .ref p.1, va_rf (((p :: l)[l.length]?).map (fun p => p.1))] : List Value).set 2 (va_rf ((l[0]?).map (fun q => q.1)))) = h2 at g2 k2 z2 l2 ⊢
    simp only [List.map_cons, List.nodup_cons] at a5
    cases hl : l with
    | nil =>
      subst hl
      rw [if_pos (by rfl), o_pf_eq g2 hge (by show 3 < 4; omega)]
      have hlt2 := hget_some_lt g2
      have g3 : hget (hset h2 lid (14, ([.int mc, .int (nI (([] : List (Nat × Nat)).length + 1)), va_rf ((([] : List (Nat × Nat))[0]?).map (fun q => q.1)), va_rf (((p :: ([] : List (Nat × Nat)))[([] : List (Nat × Nat)).length]?).map (fun p => p.1))] : List Value).set 3 (va_rf none))) lid = some (14, [.int mc, .int (nI (0 + 1)), .null, .null]) := hget_set_same hge hlt2
      obtain ⟨s', w1, w2, w3, w4, w5⟩ := ll_42 (x := some p.2) g3 hge
      refine ⟨s', w1, ⟨a1, a2, w2, fun i q hq => by simp at hq, by simp⟩, ⟨by rw [w4, len_hset]; omega, fun i hi => ?_, fun i t vs e n1 n2 => ?_⟩, ?_⟩
      · rw [w3 i (by omega), hget_set_ne hge (by omega), k2 i (by omega) (by omega)]
      · have := tag_ne e a3 n1
        rw [w3 i this, hget_set_ne hge this, k2 i (tag_ne e b2 n2) this]; exact e
      · rw [w5, sz_set hge g2 (by rfl)]; exact z2
    | cons q l' =>
      subst hl
      obtain ⟨c1, w, cq⟩ := a4 1 q rfl
      have e1 : (p :: q :: l')[1 + 1]? = (q :: l')[0 + 1]? := rfl
      rw [e1] at cq
      have nqp : q.1 ≠ p.1 := fun e => a5.1 (by rw [← e]; simp)
      have nql : q.1 ≠ lid := tag_ne cq a3 (by omega)
      have hqge : 1024 ≤ q.1 := by omega
      have cq2 : hget h2 q.1 = some (15, [.ref q.2, va_rf (((q :: l')[0 + 1]?).map (fun q => q.1)), w]) := by rw [k2 _ nqp nql]; exact cq
      have hqlt := hget_some_lt cq2
      rw [if_neg (by simp)]
      show ∃ h', o_pf 15 (some q.1) 2 _ _ h2 = _ ∧ _
      rw [o_pf_eq cq2 hqge (by show 2 < 3; omega)]
      have g3 : hget (hset h2 q.1 (15, ([.ref q.2, va_rf (((q :: l')[0 + 1]?).map (fun q => q.1)), w] : List Value).set 2 (va_rf none))) lid = some (14, [.int mc, .int (nI ((q :: l').length + 1)), va_rf (((q :: l')[0]?).map (fun q => q.1)), va_rf (((p :: q :: l')[(q :: l').length]?).map (fun p => p.1))]) := by
        rw [hget_set_ne hqge (fun w => nql w.symm)]; exact g2
      obtain ⟨s', w1, w2, w3, w4, w5⟩ := ll_42 (x := some p.2) g3 hge
      refine ⟨s', w1, ⟨a1, a2, w2, fun i r hr => ?_, a5.2⟩, ⟨by rw [w4, len_hset]; omega, fun i hi => ?_, fun i t vs e n1 n2 => ?_⟩, ?_⟩
      · obtain ⟨d1, u, d2⟩ := a4 (i + 1) r hr
        have d2 : hget h r.1 = some (15, [.ref r.2, va_rf (((q :: l')[i + 1]?).map (fun q => q.1)), u]) := d2
        have nrl : r.1 ≠ lid := tag_ne d2 a3 (by omega)
        have nrp : r.1 ≠ p.1 := fun e => a5.1 (by rw [← e]; exact List.mem_map.mpr ⟨r, List.mem_of_getElem? hr, rfl⟩)
        by_cases e : r.1 = q.1
        · have : i = 0 := by
            have h1 : ((q :: l').map (fun p => p.1))[i]? = some q.1 := by rw [List.getElem?_map, hr]; simpa using e
            have h2 : ((q :: l').map (fun p => p.1))[0]? = some q.1 := rfl
            have hil : i < ((q :: l').map (fun p => p.1)).length := (List.getElem?_eq_some_iff.mp h1).1
            exact (List.getElem?_inj hil a5.2).mp (h1.trans h2.symm)
          subst this
          have hr : q = r := by simpa using hr
          subst hr
          refine ⟨d1, .null, ?_⟩
          rw [w3 _ nrl, hget_set_same hqge hqlt]; rfl
        · refine ⟨d1, u, ?_⟩
          rw [w3 _ nrl, hget_set_ne hqge e, k2 _ nrp nrl]; exact d2
      · rw [w3 i (by omega), hget_set_ne hqge (by omega), k2 i (by omega) (by omega)]
      · have n3 := tag_ne e a3 n1
        rw [w3 i n3, hget_set_ne hqge (tag_ne e cq n2), k2 i (tag_ne e b2 n2) n3]; exact e
      · rw [w5, sz_set hqge cq2 (by rfl)]; exact z2
  obtain ⟨h', m1, m2⟩ := main
  have a3' : hget h lid = some (14, [.int mc, .int (nI (p :: l).length), .ref p.1, va_rf (((p :: l)[(p :: l).length - 1]?).map (fun p => p.1))]) := a3
  refine ⟨h', ?_, m2⟩
  rw [o_gr_eq a3' rfl, if_neg (by simp), o_cr_eq ((tagIs_eq a3).trans m1)]
