set_option maxRecDepth 100000
/-! ArrayList: the history -/
def HL (h : AH) (e n : Nat) (l : List Nat) : Prop := (∃ mc, hget h 1614 = some (8, [.int mc, .ref e, .int (nI l.length)])) ∧ hget h e = some (69, arO n (fun j => l[j]?)) ∧ l.length ≤ n ∧ ((e = 2 ∧ n = 0) ∨ (n = 10 ∧ 1632 ≤ e))
theorem hl_size {h : AH} {e n : Nat} {l : List Nat} (H : HL h e n l) : tagIs 8 (some 1614) (f_J2_size (some 1614)) h = some (some (vI (nI l.length)), h) := by
  obtain ⟨⟨mc, g1⟩, _⟩ := H
  rw [tagIs_eq g1]
  unfold f_J2_size
  rw [o_gi_eq g1 rfl]
theorem hl_empty {h : AH} {e n : Nat} {l : List Nat} (H : HL h e n l) : tagIs 8 (some 1614) (f_J2_isEmpty (some 1614)) h = some (some (vI (bI (decide (l.length = 0)))), h) := by
  obtain ⟨⟨mc, g1⟩, g2, g3, g4⟩ := H
  rw [tagIs_eq g1]
  unfold f_J2_isEmpty
  rw [o_gi_eq g1 rfl, retz_0, retz_1, ite_retI, bI_ite]
  refine ret_cong ?_
  have : n ≤ 10 := by rcases g4 with g4 | g4 <;> omega
  by_cases q : l.length = 0
  · rw [if_pos (by rw [q]; rfl), decide_eq_true q]
  · rw [if_neg (by rw [li0, nI_eq (by omega) (by omega)]; exact q), decide_eq_false q]
theorem hl_row {n : Nat} {l : List Nat} {x : Nat} (h : l.length < n) : (arO n (fun j => l[j]?)).set l.length (.ref x) = arO n (fun j => (l ++ [x])[j]?) := by
  have := arO_set (n := n) (k := l.length) (f := fun j => l[j]?) (r := some x)
  refine Eq.trans this (arO_cong (fun j _ => ?_))
  by_cases e : j = l.length
  · subst e
    rw [if_pos rfl, List.getElem?_append_right (Nat.le_refl _), Nat.sub_self]; rfl
  · rw [if_neg e]
    by_cases w : j < l.length
    · rw [List.getElem?_append_left w]
    · rw [List.getElem?_eq_none (by omega), List.getElem?_eq_none (by simp; omega)]
theorem hl_add {h : AH} {e n : Nat} {l : List Nat} (H : HL h e n l) (hl : l.length ≤ 4) {x : Nat} {vx : List Value} (hx : hget h x = some (3, vx)) (hL : 608 ≤ h.length) (hz : sz h + 20 < 1200000) :
    ∃ h' e', tagIs 8 (some 1614) (f_J2_add (some 1614) (some x)) h = some (some (vI 1), h') ∧ HL h' e' 10 (l ++ [x]) ∧ (e' = e ∨ 1024 + h.length ≤ e') ∧ Fr2 1614 e h h' ∧ sz h' ≤ sz h + 11 := by
  obtain ⟨⟨mc, g1⟩, g2, g3, g4⟩ := H
  have hlt := hget_some_lt g1
  have h16 : 1024 ≤ 1614 := by omega
  have hne : e ≠ 1614 := fun w => by
    rw [w, g1] at g2
    have := congrArg (fun o => o.map Prod.fst) g2
    simp at this
  rw [tagIs_eq g1]
  unfold f_J2_add
  rw [o_gi_eq g1 rfl, o_pf_eq g1 h16 (by show 0 < 3; omega)]
  let h1 := hset h 1614 (8, ([.int mc, .ref e, .int (nI l.length)] : List Value).set 0 (.int (mc + 1)))
  have k1 : hget h1 1614 = some (8, [.int (mc + 1), .ref e, .int (nI l.length)]) := hget_set_same h16 hlt
  have k2 : hget h1 e = some (69, arO n (fun j => l[j]?)) := by
    show hget (hset _ _ _) e = _
    rw [hget_set_ne h16 hne]; exact g2
  have kx : hget h1 x = some (3, vx) := by
    show hget (hset _ _ _) x = _
    rw [hget_set_ne h16 (tag_ne hx g1 (by omega))]; exact hx
  have z1 : sz h1 = sz h := sz_set h16 g1 (by rfl)
  have l1 : h1.length = h.length := len_hset _ _ _
  show ∃ h' e', o_gr 8 (some 1614) 1 _ h1 = _ ∧ _
  rw [o_gr_eq k1 rfl, o_gi_eq k1 rfl]
  -- the store, once there is a place
  have fin : ∀ (s : AH) (ea : Nat), hget s 1614 = some (8, [.int (mc + 1), .ref ea, .int (nI l.length)]) → hget s ea = some (69, arO 10 (fun j => l[j]?)) → 1632 ≤ ea → hget s x = some (3, vx) → s.length ≥ h.length → (∀ i, i < 1024 + h.length → i ≠ 1614 → hget s i = hget h i) → sz s ≤ sz h + 11 →
      ∃ h', f_J2_add_2_11 (some 1614) (some x) (some ea) (nI l.length) s = some (none, h') ∧ HL h' ea 10 (l ++ [x]) ∧ (∀ i, i < 1024 + h.length → i ≠ 1614 → i ≠ ea → hget h' i = hget h i) ∧ h.length ≤ h'.length ∧ sz h' ≤ sz h + 11 := by
    intro s ea a1 a2 a3 a4 a5 a6 a7
    have halt := hget_some_lt a2
    have ha16 := hget_some_lt a1
    have hae : 1024 ≤ ea := by omega
    unfold f_J2_add_2_11
    rw [o_astR_eq a4 (by rfl) a2 hae (nI_pos (by omega)) (by rw [nI_clamp (by omega), arO_len]; omega), nI_clamp (by omega), hl_row (by omega)]
    have b1 : hget (hset s ea (69, arO 10 (fun j => (l ++ [x])[j]?))) 1614 = some (8, [.int (mc + 1), .ref ea, .int (nI l.length)]) := by rw [hget_set_ne hae (by omega)]; exact a1
    rw [o_pf_eq b1 h16 (by show 2 < 3; omega), li1, nI_add]
    refine ⟨_, rfl, ⟨⟨mc + 1, ?_⟩, ?_, by simp; omega, .inr ⟨rfl, a3⟩⟩, fun i hi n1 n2 => ?_, ?_, ?_⟩
    · rw [hget_set_same h16 (by rw [len_hset]; exact ha16), List.length_append]; rfl
    · rw [hget_set_ne h16 (by omega)]; exact hget_set_same hae halt
    · rw [hget_set_ne h16 n1, hget_set_ne hae n2, a6 i hi n1]
    · rw [len_hset, len_hset]; exact a5
    · rw [sz_set h16 b1 (by rfl), sz_set hae a2 (by rw [arO_len, arO_len])]; exact a7
  have main : ∃ h' e', tagIs 8 (some 1614) (f_J2_add_2 (some 1614) (some x) (some e) (nI l.length)) h1 = some (none, h') ∧ HL h' e' 10 (l ++ [x]) ∧ (e' = e ∨ 1024 + h.length ≤ e') ∧ Fr2 1614 e h h' ∧ sz h' ≤ sz h + 11 := by
    rw [tagIs_eq k1]
    unfold f_J2_add_2
    rw [alen_eq k2 (by omega), arO_len]
    rcases g4 with g4 | g4
    · obtain ⟨rfl, rfl⟩ := g4
      have hl0 : l = [] := List.eq_nil_of_length_eq_zero (by omega)
      subst hl0
      rw [if_pos (by rfl)]
      have eg : tagIs 8 (some 1614) (f_J2_grow (some 1614)) h1 = some (some (vR (some (1024 + h1.length))), hset (h1 ++ [(69, List.replicate 10 .null)]) 1614 (8, ([.int (mc + 1), .ref 2, .int (nI 0)] : List Value).set 1 (.ref (1024 + h1.length)))) := by
        rw [tagIs_eq k1]
        unfold f_J2_grow
        rw [o_gi_eq k1 rfl]
        have eg2 : tagIs 8 (some 1614) (f_J2_grow_2 (some 1614) (nI 0 + 1)) h1 = some (some (vR (some (1024 + h1.length))), hset (h1 ++ [(69, List.replicate 10 .null)]) 1614 (8, ([.int (mc + 1), .ref 2, .int (nI 0)] : List Value).set 1 (.ref (1024 + h1.length)))) := by
          rw [tagIs_eq k1]
          unfold f_J2_grow_2
          rw [o_gr_eq k1 rfl, alen_eq k2 (by omega), arO_len, if_neg (by decide), o_gr_eq k1 rfl]
          unfold o_acmp
          rw [if_pos rfl, li1, nI_add, li10, o_ci_eq (j_max 10 1 (by omega) (by omega) h1)]
          show o_nwa 69 .null (nI 10) _ h1 = _
          rw [nwa_eq (by omega) (by omega)]
          have k1' := (Pf.app h1 [(69, List.replicate 10 Value.null)]).get k1
          rw [o_pf_eq k1' h16 (by show 1 < 3; omega)]
          rfl
        show o_cr (tagIs 8 (some 1614) (f_J2_grow_2 (some 1614) (nI 0 + 1))) _ h1 = _
        rw [o_cr_eq eg2]
      rw [o_cr_eq eg]
      have pp : Pf h1 (h1 ++ [(69, List.replicate 10 Value.null)]) := Pf.app _ _
      have k1' := pp.get k1
      have hl16 := hget_some_lt k1'
      obtain ⟨h', f1, f2, f3, f4, f5⟩ := fin (hset (h1 ++ [(69, List.replicate 10 .null)]) 1614 (8, ([.int (mc + 1), .ref 2, .int (nI 0)] : List Value).set 1 (.ref (1024 + h1.length)))) (1024 + h1.length) (hget_set_same h16 hl16) (by
        rw [hget_set_ne h16 (by omega)]
        exact hget_last h1 _) (by omega) (by rw [hget_set_ne h16 (tag_ne hx g1 (by omega))]; exact pp.get kx) (by rw [len_hset]; simp; omega) (fun i hi n1 => by
          rw [hget_set_ne h16 n1, pp.same (by omega)]
          exact hget_set_ne h16 n1) (by rw [sz_set h16 k1' (by rfl), sz_app, sz_one, z1]; simp)
      exact ⟨h', 1024 + h1.length, f1, f2, .inr (by omega), ⟨f4, fun i hi n1 n2 => f3 i hi n1 (by omega)⟩, f5⟩
    · obtain ⟨rfl, ge⟩ := g4
      rw [if_neg (by rw [nI_eq (by omega) (by omega)]; omega)]
      obtain ⟨h', f1, f2, f3, f4, f5⟩ := fin h1 e k1 k2 ge kx (by omega) (fun i hi n1 => hget_set_ne h16 n1) (by omega)
      exact ⟨h', e, f1, f2, .inl rfl, ⟨f4, f3⟩, f5⟩
  obtain ⟨h', e', m1, m2, m3, m4, m5⟩ := main
  rw [o_cv_eq m1]
  exact ⟨h', e', retz_1 h', m2, m3, m4, m5⟩
