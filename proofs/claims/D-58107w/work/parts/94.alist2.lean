set_option maxRecDepth 100000
/-! ArrayList: the first or the last is taken out -/
theorem j_ci {i n : Nat} (hi : i < n) (hn : n < 1000) (h : AH) : f_J22_checkIndex (nI i) (nI n) h = some (some (vI (nI i)), h) := by
  unfold f_J22_checkIndex f_J15_checkIndex
  have : (if nI i < 0 then none else if nI i < nI n then some (some (vI (nI i)), h) else none : Res) = some (some (vI (nI i)), h) := by
    rw [if_neg (nI_pos (by omega)), if_pos (nI_lt hi (by omega))]
  rw [o_ci_eq this]
theorem hl_remove {h : AH} {e n : Nat} {l : List Nat} (H : HL h e n l) {i x : Nat} (hx : l[i]? = some x) (hl5 : l.length ≤ 5) (hobj : ∀ y, y ∈ l → ∃ vs, hget h y = some (3, vs)) :
    ∃ h', tagIs 8 (some 1614) (f_J2_remove (some 1614) (nI i)) h = some (some (vR (some x)), h') ∧ HL h' e n (l.eraseIdx i) ∧ Fr2 1614 e h h' ∧ sz h' = sz h ∧ h'.length = h.length := by
  have hi : i < l.length := (List.getElem?_eq_some_iff.mp hx).1
  obtain ⟨⟨mc, g1⟩, g2, g3, g4⟩ := H
  have hn : n = 10 ∧ 1632 ≤ e := by rcases g4 with g4 | g4 <;> omega
  obtain ⟨rfl, hge⟩ := hn
  have hlt := hget_some_lt g1
  have hle := hget_some_lt g2
  have h16 : 1024 ≤ 1614 := by omega
  have hae : 1024 ≤ e := by omega
  let h1 := hset h 1614 (8, ([.int mc, .ref e, .int (nI l.length)] : List Value).set 0 (.int (mc + 1)))
  have k1 : hget h1 1614 = some (8, [.int (mc + 1), .ref e, .int (nI l.length)]) := hget_set_same h16 hlt
  have k2 : hget h1 e = some (69, arO 10 (fun j => l[j]?)) := by
    show hget (hset _ _ _) e = _
    rw [hget_set_ne h16 (by omega)]; exact g2
  have z1 : sz h1 = sz h := sz_set h16 g1 (by rfl)
  have l1 : h1.length = h.length := len_hset _ _ _
  -- the end, on a heap where the row is moved already
  have fin : ∀ (s : AH) (f : Nat → Rf), hget s 1614 = some (8, [.int (mc + 1), .ref e, .int (nI l.length)]) → hget s e = some (69, arO 10 f) → s.length = h.length → sz s = sz h → (∀ j, j ≠ 1614 → j ≠ e → hget s j = hget h j) → (∀ j, j < 10 → (if j = l.length - 1 then none else f j) = (l.eraseIdx i)[j]?) →
      ∃ h', f_J2_fastRemove_34 (some 1614) (some e) (nI (l.length - 1)) s = some (none, h') ∧ HL h' e 10 (l.eraseIdx i) ∧ Fr2 1614 e h h' ∧ sz h' = sz h ∧ h'.length = h.length := by
    intro s f a1 a2 a3 a4 a5 a6
    have ha16 := hget_some_lt a1
    have hal := hget_some_lt a2
    unfold f_J2_fastRemove_34
    rw [o_pf_eq a1 h16 (by show 2 < 3; omega)]
    have b2 : hget (hset s 1614 (8, ([.int (mc + 1), .ref e, .int (nI l.length)] : List Value).set 2 (.int (nI (l.length - 1))))) e = some (69, arO 10 f) := by rw [hget_set_ne h16 (by omega)]; exact a2
    rw [o_astN_eq (.inl rfl) b2 hae (nI_pos (by omega)) (by rw [nI_clamp (by omega), arO_len]; omega), nI_clamp (by omega)]
    have e3 : (arO 10 f).set (l.length - 1) .null = arO 10 (fun j => (l.eraseIdx i)[j]?) := Eq.trans (arO_set (r := none)) (arO_cong (fun j hj => a6 j hj))
    rw [e3]
    have hlen : (l.eraseIdx i).length = l.length - 1 := by rw [List.length_eraseIdx]; rw [if_pos hi]
    refine ⟨_, rfl, ⟨⟨mc + 1, ?_⟩, hget_set_same hae (by rw [len_hset]; exact hal), by omega, .inr ⟨rfl, hge⟩⟩, ⟨by rw [len_hset, len_hset]; omega, fun j hj n1 n2 => ?_⟩, ?_, by rw [len_hset, len_hset]; exact a3⟩
    · rw [hget_set_ne hae (by omega), hget_set_same h16 ha16, hlen]; rfl
    · rw [hget_set_ne hae n2, hget_set_ne h16 n1, a5 j n1 n2]
    · rw [sz_set hae b2 (by rw [arO_len, arO_len]), sz_set h16 a1 (by rfl)]; exact a4
  have main : ∃ h', tagIs 8 (some 1614) (f_J2_fastRemove (some 1614) (some e) (nI i)) h = some (none, h') ∧ HL h' e 10 (l.eraseIdx i) ∧ Fr2 1614 e h h' ∧ sz h' = sz h ∧ h'.length = h.length := by
    rw [tagIs_eq g1]
    unfold f_J2_fastRemove
    rw [o_gi_eq g1 rfl, o_pf_eq g1 h16 (by show 0 < 3; omega)]
    show ∃ h', o_gi 8 (some 1614) 2 _ h1 = _ ∧ _
    rw [o_gi_eq k1 rfl, li1, pk_sub (by omega), o_let_eq]
    have fr1 : ∀ j, j ≠ 1614 → j ≠ e → hget h1 j = hget h j := fun j n1 _ => hget_set_ne h16 n1
    by_cases w : l.length - 1 ≤ i
    · rw [if_pos (nI_le w (by omega))]
      refine fin h1 (fun j => l[j]?) k1 k2 l1 z1 fr1 (fun j _ => ?_)
      rw [List.getElem?_eraseIdx]
      by_cases q : j = l.length - 1
      · rw [if_pos q, if_neg (by omega)]
        exact (List.getElem?_eq_none (by omega)).symm
      · rw [if_neg q]
        by_cases v : j < i
        · rw [if_pos v]
        · rw [if_neg v, List.getElem?_eq_none (by omega), List.getElem?_eq_none (by omega)]
    · rw [if_neg (nI_ge (by omega) (by omega)), nI_add, pk_sub (by omega), copy_eq k2 k2 hae (by omega) (by omega) (by omega) (by rw [arO_len]; omega) (by rw [arO_len]; omega) (by
        rw [List.all_eq_true]
        intro v hv
        obtain ⟨d, hd⟩ := List.getElem?_of_mem hv
        have hdn : d < l.length - 1 - i := by
          have := (List.getElem?_eq_some_iff.mp hd).1
          rwa [strch_len] at this
        rw [strch_get hdn (by rw [arO_len]; omega), arO_get (by omega)] at hd
        cases hy : l[i + 1 + d]? with
        | none =>
          rw [hy] at hd
          cases hd; rfl
        | some y =>
          rw [hy] at hd
          cases hd
          obtain ⟨vs, ey⟩ := hobj y (List.mem_of_getElem? hy)
          show (fits (.object "java/lang/Object") (.ref y) && (match hget h1 y with
            | some e => okEl (64 + 5) e.1
            | none => false)) = true
          have : hget h1 y = some (3, vs) := by
            show hget (hset _ _ _) y = _
            rw [hget_set_ne h16 (tag_ne ey g1 (by omega))]; exact ey
          rw [this]; rfl)]
      have er : setRun (arO 10 (fun j => l[j]?)) i (strch (arO 10 (fun j => l[j]?)) (i + 1) (l.length - 1 - i)) = arO 10 (fun j => if i ≤ j ∧ j < l.length - 1 then l[j + 1]? else l[j]?) := by
        apply List.ext_getElem?
        intro d
        rw [setRun_get _ _ _ _ (by rw [strch_len, arO_len]; omega), strch_len]
        by_cases hd : i ≤ d ∧ d < i + (l.length - 1 - i)
        · rw [if_pos hd, strch_get (by omega) (by rw [arO_len]; omega), arO_get (by omega), arO_get (by omega), if_pos (by omega), show i + 1 + (d - i) = d + 1 by omega]
        · rw [if_neg hd]
          by_cases h10 : d < 10
          · rw [arO_get h10, arO_get h10, if_neg (by omega)]
          · rw [List.getElem?_eq_none (by rw [arO_len]; omega), List.getElem?_eq_none (by rw [arO_len]; omega)]
      rw [er]
      have hle1 : e < 1024 + h1.length := by omega
      refine fin _ _ (by rw [hget_set_ne hae (by omega)]; exact k1) (hget_set_same hae hle1) (by rw [len_hset]; exact l1) (by rw [sz_set hae k2 (by rw [arO_len, arO_len])]; exact z1) (fun j n1 n2 => by rw [hget_set_ne hae n2]; exact fr1 j n1 n2) (fun j _ => ?_)
      rw [List.getElem?_eraseIdx]
      by_cases q : j = l.length - 1
      · rw [if_pos q, if_neg (by omega)]
        exact (List.getElem?_eq_none (by omega)).symm
      · rw [if_neg q]
        by_cases v : j < i
        · rw [if_pos v, if_neg (by omega)]
        · rw [if_neg v]
          by_cases u : j < l.length - 1
          · rw [if_pos (by omega)]
          · rw [if_neg (by omega), List.getElem?_eq_none (by omega), List.getElem?_eq_none (by omega)]
  obtain ⟨h', m1, m2⟩ := main
  refine ⟨h', ?_, m2⟩
  rw [tagIs_eq g1]
  unfold f_J2_remove
  rw [o_gi_eq g1 rfl, o_ci_eq (j_ci hi (by omega) h), o_gr_eq g1 rfl, o_aldR_eq g2 (nI_pos (by omega)) (by rw [nI_clamp (by omega), arO_get (by omega), hx]; rfl), o_cv_eq m1]
