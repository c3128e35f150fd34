set_option maxRecDepth 100000
/-! ArrayDeque: put at the end; the ring grows -/
theorem clone_ok {h : AH} {ea n : Nat} {f : Nat → Rf} (hg : hget h ea = some (69, arO n f)) (hn : n < 2 ^ 31) {m : Nat} (hm : n ≤ m) (hm2 : m < 2 ^ 31) (hf : ∀ j x, j < n → f j = some x → ∃ vs, hget h x = some (5, vs) ∨ hget h x = some (3, vs)) (hr : sz h + m + 1 < 1200000) :
    f_J18_copyOf (some ea) (nI m) h = some (some (vR (some (1024 + h.length))), h ++ [(69, arO m (fun j => if j < n then f j else none))]) := by
  unfold f_J18_copyOf o_getC
  simp only [Option.bind_some, hg]
  rw [if_pos trivial]
  have e : f_J18_copyOf_2 (some ea) (nI m) (some 4) h = some (some (vR (some (1024 + h.length))), h ++ [(69, arO m (fun j => if j < n then f j else none))]) := by
    unfold f_J18_copyOf_2 o_acmp
    rw [if_pos rfl, nwa_eq hm2 (by omega)]
    have p : Pf h (h ++ [(69, List.replicate m .null)]) := Pf.app _ _
    rw [alen_eq (p.get hg) (by omega), arO_len, o_ci_eq (j_min n m hn hm2 _), Nat.min_eq_left hm, show (0 : Int32) = nI 0 from rfl, copy_eq (p.get hg) (hget_last h _) (by omega) (by omega) (by omega) hn (by rw [arO_len]; omega) (by simp; omega) ?_, hset_new]
    · have : setRun (List.replicate m .null) 0 (strch (arO n f) 0 n) = arO m (fun j => if j < n then f j else none) := by
        apply List.ext_getElem?
        intro i
        rw [setRun_get _ _ _ _ (by rw [strch_len]; simp; omega), strch_len]
        by_cases hi : i < n
        · rw [if_pos (by omega), Nat.sub_zero, strch_get hi (by rw [arO_len]; omega), Nat.zero_add, arO_get hi, arO_get (by omega), if_pos hi]
        · rw [if_neg (by omega)]
          by_cases hi2 : i < m
          · rw [arO_get hi2, if_neg hi, List.getElem?_replicate_of_lt hi2]; rfl
          · rw [List.getElem?_eq_none (by simp; omega), List.getElem?_eq_none (by rw [arO_len]; omega)]
      rw [this]
    · rw [List.all_eq_true]
      intro v hv
      obtain ⟨i, hi⟩ := List.getElem?_of_mem hv
      have hin : i < n := by
        have := (List.getElem?_eq_some_iff.mp hi).1
        rwa [strch_len] at this
      rw [strch_get hin (by rw [arO_len]; omega), Nat.zero_add, arO_get hin] at hi
      cases hfi : f i with
      | none =>
        rw [hfi] at hi
        cases hi; rfl
      | some x =>
        rw [hfi] at hi
        cases hi
        obtain ⟨vs, hx⟩ := hf i x hin hfi
        show (fits (.object "java/lang/Object") (.ref x) && (match hget (h ++ [(69, List.replicate m .null)]) x with
          | some e => okEl (64 + 5) e.1
          | none => false)) = true
        rcases hx with hx | hx
        · rw [p.get hx]; rfl
        · rw [p.get hx]; rfl
  rw [o_cr_eq e]
/-- nulls written from a to b -/
theorem d_nulls {h : AH} {ea n : Nat} (hE : 1024 ≤ ea) : ∀ (d a b k : Nat) (f : Nat → Rf) (h : AH), hget h ea = some (69, arO n f) → a + d = b → b ≤ n → n < 1000 → d < k → ∃ h', f_J24_grow_145 k (some ea) (nI a) (nI b) h = some (none, h') ∧ hget h' ea = some (69, arO n (fun j => if a ≤ j ∧ j < b then none else f j)) ∧ h'.length = h.length ∧ (∀ i, i ≠ ea → hget h' i = hget h i) ∧ sz h' = sz h
  | 0, a, b, k, f, h, hg, hab, hb, hn, hk => by
    obtain ⟨k, rfl⟩ : ∃ m, k = m + 1 := ⟨k - 1, by omega⟩
    refine ⟨h, ?_, ?_, rfl, fun _ _ => rfl, rfl⟩
    · rw [f_J24_grow_145_s]
      simp only
      rw [if_pos (nI_le (by omega) (by omega))]
    · rw [hg]
      congr 2
      exact arO_cong (fun j _ => by rw [if_neg (by omega)])
  | d + 1, a, b, k, f, h, hg, hab, hb, hn, hk => by
    obtain ⟨k, rfl⟩ : ∃ m, k = m + 1 := ⟨k - 1, by omega⟩
    have hlt := hget_some_lt hg
    rw [f_J24_grow_145_s]
    simp only
    rw [if_neg (nI_ge (by omega) (by omega)), o_astN_eq (.inl rfl) hg hE (nI_pos (by omega)) (by rw [nI_clamp (by omega), arO_len]; omega), nI_clamp (by omega), o_let_eq, li1, nI_add]
    have e : (arO n f).set a .null = arO n (fun j => if j = a then none else f j) := arO_set (r := none)
    rw [e]
    have g := hget_set_same (e := (69, arO n (fun j => if j = a then none else f j))) hE hlt
    obtain ⟨h', m1, m2, m3, m4, m5⟩ := d_nulls (h := h) hE d (a + 1) b k (fun j => if j = a then none else f j) _ g (by omega) hb hn (by omega)
    refine ⟨h', m1, ?_, by rw [m3, len_hset], fun i hi => by rw [m4 i hi, hget_set_ne hE hi], by rw [m5]; exact sz_set hE hg (by rw [arO_len, arO_len])⟩
    rw [m2]
    congr 2
    refine arO_cong (fun j _ => ?_)
    show (if a + 1 ≤ j ∧ j < b then none else if j = a then none else f j) = if a ≤ j ∧ j < b then none else f j
    by_cases q : a ≤ j ∧ j < b
    · rw [if_pos q]
      by_cases w : j = a
      · rw [if_neg (by omega), if_pos w]
      · rw [if_pos (by omega)]
    · rw [if_neg q, if_neg (by omega), if_neg (by omega)]
/-- a full ring grows -/
theorem d_grow {h : AH} {q ea n hd : Nat} {l : List Nat} (q1 : hget h q = some (13, [.ref ea, .int (nI hd), .int (nI hd)])) (q2 : hget h ea = some (69, arO n (fun j => l[rdx hd n j]?))) (hd1 : hd < n) (hl : l.length = n) (hn : n ≤ 150) (hn17 : 17 ≤ n) (g1 : 1024 ≤ q) (g2 : 1024 ≤ ea)
    (hobj : ∀ x, x ∈ l → ∃ vs, hget h x = some (5, vs)) (hr : sz h + 700 < 1200000) :
    ∃ h' ea' n' hd', f_J24_grow (some q) 1 h = some (none, h') ∧ DQ h' q ea' n' hd' l ∧ 1024 + h.length ≤ ea' ∧ (h.length ≤ h'.length ∧ ∀ i, i < 1024 + h.length → i ≠ q → hget h' i = hget h i) ∧ sz h' ≤ sz h + 4 * (n' - n) ∧ n < n' ∧ n' ≤ 2 * n + 2 := by
  have hqlt := hget_some_lt q1
  obtain ⟨jump, hj, hj1⟩ : ∃ jump, (if 64 ≤ n then n / 2 else n + 2) = jump ∧ (8 ≤ jump ∧ n + jump + 1 ≤ 4 * jump ∧ jump ≤ 150 ∧ jump ≤ n + 2) := ⟨_, rfl, by split <;> omega⟩
  unfold f_J24_grow
  rw [o_gr_eq q1 rfl, alen_eq q2 (by omega), arO_len]
  have e21 : (if (64 : Int32) ≤ nI n then f_J24_grow_21 (some q) 1 (nI n) (nI n >>> ((1 : Int32) &&& 31)) h else f_J24_grow_21 (some q) 1 (nI n) (nI n + 2) h) = f_J24_grow_49 (some q) (nI n) (nI (n + jump)) h := by
    have hsh : ∀ n, n < 200 → nI n >>> ((1 : Int32) &&& 31) = nI (n / 2) := by decide +kernel
    have h21 : ∀ k, k = jump → f_J24_grow_21 (some q) 1 (nI n) (nI k) h = f_J24_grow_49 (some q) (nI n) (nI (n + jump)) h := by
      intro k hk
      subst hk
      unfold f_J24_grow_21
      rw [if_neg (by rw [li1, nI_ltI (by omega) (by omega)]; omega), nI_add, o_let_eq]
      have hle : ∀ m, m < 400 → nI m - 2147483639 ≤ 0 := by decide +kernel
      rw [if_pos (hle _ (by omega))]
    by_cases w : 64 ≤ n
    · rw [if_pos (by rw [show (64 : Int32) = nI 64 from rfl]; exact nI_le w (by omega)), hsh n (by omega)]
      exact h21 _ (by rw [← hj, if_pos w])
    · rw [if_neg (by rw [show (64 : Int32) = nI 64 from rfl]; exact nI_ge (by omega) (by omega)), li2, nI_add]
      exact h21 _ (by rw [← hj, if_neg w])
  rw [e21]
  unfold f_J24_grow_49
  rw [o_gr_eq q1 rfl, o_cr_eq (clone_ok q2 (by omega) (m := n + jump) (by omega) (by omega) (fun j x hj hx => by
    obtain ⟨vs, e⟩ := hobj x (List.mem_of_getElem? hx)
    exact ⟨vs, .inl e⟩) (by omega))]
  let F0 : Nat → Rf := fun j => if j < n then l[rdx hd n j]? else none
  have p : Pf h (h ++ [(69, arO (n + jump) F0)]) := Pf.app _ _
  have k1 := p.get q1
  have zz : sz (h ++ [(69, arO (n + jump) F0)]) = sz h + (1 + (n + jump)) := by
    rw [sz_app, sz_one]
    show _ + (1 + (arO (n + jump) F0).length) = _
    rw [arO_len]
  let h1 := hset (h ++ [(69, arO (n + jump) F0)]) q (13, ([.ref ea, .int (nI hd), .int (nI hd)] : List Value).set 0 (va_rf (some (1024 + h.length))))
  have hl1 : h1.length = h.length + 1 := by show (hset _ _ _).length = _; rw [len_hset]; simp
  have e1 : hget h1 q = some (13, [.ref (1024 + h.length), .int (nI hd), .int (nI hd)]) := hget_set_same g1 (by simp; omega)
  have e2 : hget h1 (1024 + h.length) = some (69, arO (n + jump) F0) := by
    show hget (hset _ _ _) _ = _
    rw [hget_set_ne g1 (by omega)]; exact hget_last h _
  have ez : sz h1 = sz h + (1 + (n + jump)) := by
    show sz (hset _ _ _) = _
    rw [sz_set g1 k1 (by rfl)]; exact zz
  have hpos : F0 hd = some (l[0]'(by omega)) := by
    show (if hd < n then l[rdx hd n hd]? else none) = _
    rw [if_pos hd1]
    unfold rdx
    rw [if_pos (Nat.le_refl _), Nat.sub_self]
    exact List.getElem?_eq_getElem _
  rw [o_pf_eq k1 g1 (by show 0 < 3; omega)]
  show ∃ h' ea' n' hd', o_gi 13 (some q) 2 _ h1 = _ ∧ _
  rw [o_gi_eq e1 rfl, o_gi_eq e1 rfl, if_neg (nI_nlt (Nat.le_refl _) (by omega)), o_gi_eq e1 rfl, o_gi_eq e1 rfl, if_pos rfl, o_gi_eq e1 rfl]
  rw [o_aldR_eq (x := l[0]'(by omega)) e2 (nI_pos (by omega)) (by rw [nI_clamp (by omega), arO_get (by omega), hpos]; rfl), if_neg (by simp)]
  unfold f_J24_grow_96
  rw [pk_sub (by omega), show n + jump - n = jump by omega, o_let_eq, o_gi_eq e1 rfl, o_gi_eq e1 rfl, o_gi_eq e1 rfl, nI_add, pk_sub (by omega)]
  have h16 : 1024 ≤ 1024 + h.length := by omega
  rw [copy_eq e2 e2 h16 (by omega) (by omega) (by omega) (by rw [arO_len]; omega) (by rw [arO_len]; omega) (by
    rw [List.all_eq_true]
    intro v hv
    obtain ⟨i, hi⟩ := List.getElem?_of_mem hv
    have hin : i < n - hd := by
      have := (List.getElem?_eq_some_iff.mp hi).1
      rwa [strch_len] at this
    rw [strch_get hin (by rw [arO_len]; omega), arO_get (by omega)] at hi
    cases hfi : F0 (hd + i) with
    | none => rw [hfi] at hi; cases hi; rfl
    | some x =>
      rw [hfi] at hi
      cases hi
      have hx : x ∈ l := by
        have hfi : (if hd + i < n then l[rdx hd n (hd + i)]? else none) = some x := hfi
        rw [if_pos (by omega)] at hfi
        exact List.mem_of_getElem? hfi
      obtain ⟨vs, ev⟩ := hobj x hx
      have hxq : x ≠ q := by
        intro w
        rw [w, q1] at ev
        have := congrArg (fun o => o.map Prod.fst) ev
        simp at this
      show (fits (.object "java/lang/Object") (.ref x) && (match hget h1 x with
        | some e => okEl (64 + 5) e.1
        | none => false)) = true
      have : hget h1 x = some (5, vs) := by
        show hget (hset _ _ _) x = _
        rw [hget_set_ne g1 hxq]; exact p.get ev
      rw [this]; rfl)]
  have es : setRun (arO (n + jump) F0) (hd + jump) (strch (arO (n + jump) F0) hd (n - hd)) = arO (n + jump) (fun j => if hd + jump ≤ j ∧ j < n + jump then F0 (j - jump) else F0 j) := by
    apply List.ext_getElem?
    intro i
    rw [setRun_get _ _ _ _ (by rw [strch_len, arO_len]; omega), strch_len]
    by_cases hi : hd + jump ≤ i ∧ i < hd + jump + (n - hd)
    · rw [if_pos hi, strch_get (by omega) (by rw [arO_len]; omega), arO_get (by omega), arO_get (by omega), if_pos (by omega), show hd + (i - (hd + jump)) = i - jump by omega]
    · rw [if_neg hi]
      by_cases hi2 : i < n + jump
      · rw [arO_get hi2, arO_get hi2, if_neg (by omega)]
      · rw [List.getElem?_eq_none (by rw [arO_len]; omega), List.getElem?_eq_none (by rw [arO_len]; omega)]
  rw [es]
  let F1 : Nat → Rf := fun j => if hd + jump ≤ j ∧ j < n + jump then F0 (j - jump) else F0 j
  let h2 := hset h1 (1024 + h.length) (64 + 5, arO (n + jump) F1)
  have f1 : hget h2 q = some (13, [.ref (1024 + h.length), .int (nI hd), .int (nI hd)]) := by
    show hget (hset _ _ _) q = _
    rw [hget_set_ne h16 (by omega)]; exact e1
  have f2 : hget h2 (1024 + h.length) = some (69, arO (n + jump) F1) := hget_set_same h16 (by omega)
  show ∃ h' ea' n' hd', o_gi 13 (some q) 1 _ h2 = _ ∧ _
  rw [o_gi_eq f1 rfl, o_gi_eq f1 rfl, nI_add, o_pf_eq f1 g1 (by show 1 < 3; omega), o_let_eq]
  let h3 := hset h2 q (13, ([.ref (1024 + h.length), .int (nI hd), .int (nI hd)] : List Value).set 1 (.int (nI (hd + jump))))
  have hl2 : h2.length = h.length + 1 := by show (hset _ _ _).length = _; rw [len_hset]; exact hl1
  have i1 : hget h3 q = some (13, [.ref (1024 + h.length), .int (nI (hd + jump)), .int (nI hd)]) := hget_set_same g1 (by omega)
  have i2 : hget h3 (1024 + h.length) = some (69, arO (n + jump) F1) := by
    show hget (hset _ _ _) _ = _
    rw [hget_set_ne g1 (by omega)]; exact f2
  have iz : sz h3 = sz h + (1 + (n + jump)) := by
    show sz (hset _ _ _) = _
    rw [sz_set g1 f1 (by rfl)]
    show sz (hset _ _ _) = _
    rw [sz_set h16 e2 (by rw [arO_len, arO_len])]; exact ez
  have hl3 : h3.length = h.length + 1 := by show (hset _ _ _).length = _; rw [len_hset]; exact hl2
  obtain ⟨h', m1, m2, m3, m4, m5⟩ := d_nulls (h := h) h16 jump hd (hd + jump) FUEL F1 h3 i2 rfl (by omega) (by omega) (by simp only [FUEL]; omega)
  refine ⟨h', 1024 + h.length, n + jump, hd + jump, m1, ⟨?_, ?_, by omega, by omega, by omega, g1, h16, by omega⟩, Nat.le_refl _, ⟨by omega, fun i hi hiq => ?_⟩, by omega, by omega, by omega⟩
  · rw [m4 q (by omega), i1]
    have : rtl (hd + jump) (n + jump) l.length = hd := by unfold rtl; rw [hl]; split <;> omega
    rw [this]
  · rw [m2]
    congr 2
    refine arO_cong (fun j hj => ?_)
    show (if hd ≤ j ∧ j < hd + jump then none else (if hd + jump ≤ j ∧ j < n + jump then (if j - jump < n then l[rdx hd n (j - jump)]? else none) else (if j < n then l[rdx hd n j]? else none))) = l[rdx (hd + jump) (n + jump) j]?
    unfold rdx
    by_cases w1 : hd ≤ j ∧ j < hd + jump
    · rw [if_pos w1, if_neg (by omega)]
      symm
      exact List.getElem?_eq_none (by omega)
    · rw [if_neg w1]
      by_cases w2 : hd + jump ≤ j ∧ j < n + jump
      · rw [if_pos w2, if_pos (by omega), if_pos (by omega), if_pos (by omega)]
        congr 1; omega
      · rw [if_neg w2, if_pos (by omega), if_neg (by omega), if_neg (by omega)]
        congr 1; omega
  · rw [m4 i (by omega)]
    show hget (hset _ _ _) i = _
    rw [hget_set_ne g1 hiq]
    show hget (hset _ _ _) i = _
    rw [hget_set_ne h16 (by omega)]
    show hget (hset _ _ _) i = _
    rw [hget_set_ne g1 hiq, p.same hi]
/-- one is put at the end -/
theorem d_push {h : AH} {q ea n hd x : Nat} {l : List Nat} (d : DQ h q ea n hd l) (hx : ∃ vs, hget h x = some (5, vs)) (hobj : ∀ y, y ∈ l → ∃ vs, hget h y = some (5, vs)) (hl : l.length ≤ 145) (hr : sz h + 700 < 1200000) :
    ∃ h' ea' n' hd', tagIs 13 (some q) (f_J24_add (some q) (some x)) h = some (some (vI 1), h') ∧ DQ h' q ea' n' hd' (l ++ [x]) ∧ (ea' = ea ∨ 1024 + h.length ≤ ea') ∧ Fr2 q ea h h' ∧ sz h' ≤ sz h + 4 * (n' - n) ∧ (n' = n ∨ (n < n' ∧ l.length + 1 = n ∧ n' ≤ 2 * n + 2)) := by
  have hne := d_ne d
  obtain ⟨d1, d2, d3, d4, d5, d6, d7, d8⟩ := d
  have hq := hget_some_lt d1
  have he := hget_some_lt d2
  obtain ⟨vx, hx'⟩ := hx
  have htl : rtl hd n l.length < n := by unfold rtl; split <;> omega
  let h1 := hset h ea (69, arO n (fun j => if j = rtl hd n l.length then some x else l[rdx hd n j]?))
  have g1 : hget h1 q = some (13, [.ref ea, .int (nI hd), .int (nI (rtl hd n l.length))]) := by
    show hget (hset _ _ _) q = _
    rw [hget_set_ne d7 hne]; exact d1
  have g2 : hget h1 ea = some (69, arO n (fun j => if j = rtl hd n l.length then some x else l[rdx hd n j]?)) := hget_set_same d7 he
  have z1 : sz h1 = sz h := sz_set d7 d2 (by rw [arO_len, arO_len])
  have hl1 : h1.length = h.length := len_hset _ _ _
  have hrow : arO n (fun j => if j = rtl hd n l.length then some x else l[rdx hd n j]?) = arO n (fun j => (l ++ [x])[rdx hd n j]?) := by
    refine arO_cong (fun j hj => ?_)
    unfold rdx rtl
    by_cases w : j = (if hd + l.length < n then hd + l.length else hd + l.length - n)
    · rw [if_pos w]
      have : (if hd ≤ j then j - hd else j + n - hd) = l.length := by
        split at w <;> split <;> omega
      rw [this, List.getElem?_append_right (Nat.le_refl _), Nat.sub_self]; rfl
    · rw [if_neg w]
      by_cases v : (if hd ≤ j then j - hd else j + n - hd) < l.length
      · rw [List.getElem?_append_left v]
      · have : (if hd ≤ j then j - hd else j + n - hd) ≠ l.length := by
          split at w <;> split <;> omega
        rw [List.getElem?_eq_none (by omega), List.getElem?_eq_none (by simp; omega)]
  let h2 := hset h1 q (13, ([.ref ea, .int (nI hd), .int (nI (rtl hd n l.length))] : List Value).set 2 (.int (nI (rtl (rtl hd n l.length) n 1))))
  have k1 : hget h2 q = some (13, [.ref ea, .int (nI hd), .int (nI (rtl (rtl hd n l.length) n 1))]) := hget_set_same d6 (by omega)
  have k2 : hget h2 ea = some (69, arO n (fun j => (l ++ [x])[rdx hd n j]?)) := by
    show hget (hset _ _ _) ea = _
    rw [hget_set_ne d6 (Ne.symm hne), g2, hrow]
  have z2 : sz h2 = sz h := by
    show sz (hset _ _ _) = _
    rw [sz_set d6 g1 (by rfl)]; exact z1
  have hl2 : h2.length = h.length := by show (hset _ _ _).length = _; rw [len_hset]; exact hl1
  have fr2 : Fr2 q ea h h2 := ⟨by omega, fun i hi a b => by
    show hget (hset _ _ _) i = _
    rw [hget_set_ne d6 a]
    exact hget_set_ne d7 b⟩
  have main : ∃ h' ea' n' hd', f_J24_addLast (some q) (some x) h = some (none, h') ∧ DQ h' q ea' n' hd' (l ++ [x]) ∧ (ea' = ea ∨ 1024 + h.length ≤ ea') ∧ Fr2 q ea h h' ∧ sz h' ≤ sz h + 4 * (n' - n) ∧ (n' = n ∨ (n < n' ∧ l.length + 1 = n ∧ n' ≤ 2 * n + 2)) := by
    unfold f_J24_addLast
    rw [if_neg (by simp), o_gr_eq d1 rfl, o_gi_eq d1 rfl, o_astR_eq hx' (by rfl) d2 d7 (nI_pos (by omega)) (by rw [nI_clamp (by omega), arO_len]; exact htl), nI_clamp (by omega)]
    have es : (arO n (fun j => l[rdx hd n j]?)).set (rtl hd n l.length) (.ref x) = arO n (fun j => if j = rtl hd n l.length then some x else l[rdx hd n j]?) := arO_set (r := some x)
    rw [es]
    show ∃ h' ea' n' hd', o_gi 13 (some q) 1 _ h1 = _ ∧ _
    rw [o_gi_eq g1 rfl, o_gi_eq g1 rfl, alen_eq g2 (by omega), arO_len, o_ci_eq (j_inc htl (by omega) h1), o_pf_eq g1 d6 (by show 2 < 3; omega)]
    by_cases hfull : l.length + 1 < n
    · rw [if_neg (by
        unfold rtl
        rw [nI_eq (by omega) (by split <;> split <;> omega)]
        split <;> split <;> omega)]
      refine ⟨h2, ea, n, hd, rfl, ⟨?_, k2, d3, by simp; omega, d5, d6, d7, d8⟩, .inl rfl, fr2, by omega, .inl rfl⟩
      rw [k1]
      have : rtl (rtl hd n l.length) n 1 = rtl hd n (l ++ [x]).length := by
        unfold rtl
        simp only [List.length_append, List.length_singleton]
        split <;> (split <;> (try split)) <;> omega
      rw [this]
    · have hh : rtl (rtl hd n l.length) n 1 = hd := by
        unfold rtl
        split <;> split <;> omega
      rw [if_pos (by rw [hh])]
      rw [hh] at k1
      have hobj2 : ∀ y, y ∈ l ++ [x] → ∃ vs, hget h2 y = some (5, vs) := by
        intro y hy
        have : ∃ vs, hget h y = some (5, vs) := by
          rcases List.mem_append.mp hy with hy | hy
          · exact hobj y hy
          · have : y = x := by simpa using hy
            subst this; exact ⟨vx, hx'⟩
        obtain ⟨vs, ev⟩ := this
        refine ⟨vs, ?_⟩
        rw [fr2.2 y (hget_some_lt ev) (fun w => by
          rw [w, d1] at ev
          have := congrArg (fun o => o.map Prod.fst) ev
          simp at this) (fun w => by
          rw [w, d2] at ev
          have := congrArg (fun o => o.map Prod.fst) ev
          simp at this)]
        exact ev
      obtain ⟨h', ea', n', hd', m1, m2, m3, m4, m5, m6, m7⟩ := d_grow k1 k2 d3 (by simp; omega) (by omega) d8 d6 d7 hobj2 (by omega)
      show ∃ h' ea' n' hd', o_cv (tagIs 13 (some q) (f_J24_grow (some q) 1)) _ h2 = _ ∧ _
      rw [o_cv_eq ((tagIs_eq k1).trans m1)]
      exact ⟨h', ea', n', hd', rfl, m2, .inr (by omega), ⟨by omega, fun i hi a b => by rw [m4.2 i (by omega) a, fr2.2 i hi a b]⟩, by omega, .inr ⟨m6, by omega, m7⟩⟩
  obtain ⟨h', ea', n', hd', m1, m2, m3, m4, m5, m6⟩ := main
  refine ⟨h', ea', n', hd', ?_, m2, m3, m4, m5, m6⟩
  rw [tagIs_eq d1]
  unfold f_J24_add
  rw [o_cv_eq ((tagIs_eq d1).trans m1)]
  exact retz_1 h'
