set_option maxRecDepth 100000
/-! ArrayDeque: a ring -/
def arO (n : Nat) (f : Nat → Rf) : List Value := (List.range n).map fun j => va_rf (f j)
theorem arO_len (n : Nat) (f : Nat → Rf) : (arO n f).length = n := by simp [arO]
theorem arO_get {n k : Nat} {f : Nat → Rf} (h : k < n) : (arO n f)[k]? = some (va_rf (f k)) := by simp [arO, h]
theorem arO_cong {n : Nat} {f g : Nat → Rf} (h : ∀ k, k < n → f k = g k) : arO n f = arO n g := by
  unfold arO
  exact List.map_congr_left (fun k hk => by rw [h k (List.mem_range.mp hk)])
theorem arO_set {n k : Nat} {f : Nat → Rf} {r : Rf} : (arO n f).set k (va_rf r) = arO n (fun j => if j = k then r else f j) := by
  apply List.ext_getElem?
  intro i
  by_cases hi : i < n
  · rw [arO_get hi]
    by_cases e : i = k
    · subst e; rw [List.getElem?_set_self (by rw [arO_len]; exact hi), if_pos rfl]
    · rw [List.getElem?_set_ne (by omega), arO_get hi, if_neg e]
  · rw [List.getElem?_eq_none (by rw [List.length_set, arO_len]; omega), List.getElem?_eq_none (by rw [arO_len]; omega)]
/-- how far j lies behind hd in a ring of n -/
def rdx (hd n j : Nat) : Nat := if hd ≤ j then j - hd else j + n - hd
def rtl (hd n m : Nat) : Nat := if hd + m < n then hd + m else hd + m - n
def DQ (h : AH) (q ea n hd : Nat) (l : List Nat) : Prop := hget h q = some (13, [.ref ea, .int (nI hd), .int (nI (rtl hd n l.length))]) ∧ hget h ea = some (69, arO n (fun j => l[rdx hd n j]?)) ∧ hd < n ∧ l.length < n ∧ n ≤ 400 ∧ 1024 ≤ q ∧ 1024 ≤ ea ∧ 17 ≤ n
theorem d_ne {h : AH} {q ea n hd : Nat} {l : List Nat} (d : DQ h q ea n hd l) : q ≠ ea := by
  intro e
  have h1 := d.1
  rw [e, d.2.1] at h1
  have := congrArg (fun o => o.map Prod.fst) h1
  simp at this
theorem new_deque {h : AH} {K : Rf → AH → Res} (hr : sz h + 22 < 1200000) : o_new 13 [.null, .int 0, .int 0] (fun r1 h => o_cv (nnF r1 (f_J24_init r1)) (fun h => K r1 h) h) h =
    K (some (1024 + h.length)) (h ++ [(13, [.ref (1024 + h.length + 1), .int 0, .int 0]), (69, List.replicate 17 .null)]) := by
  rw [new_eq (by show sz h + 3 < _; omega)]
  have e0 : hget (h ++ [(13, ([.null, .int 0, .int 0] : List Value))]) (1024 + h.length) = some (13, [.null, .int 0, .int 0]) := hget_last h _
  have z1 : sz (h ++ [(13, ([.null, .int 0, .int 0] : List Value))]) = sz h + 4 := by rw [sz_app, sz_one]; rfl
  have hl2 : (h ++ [(13, ([.null, .int 0, .int 0] : List Value))]).length = h.length + 1 := by simp
  have e1 : nnF (some (1024 + h.length)) (f_J24_init (some (1024 + h.length))) (h ++ [(13, ([.null, .int 0, .int 0] : List Value))]) = some (none, h ++ [(13, [.ref (1024 + h.length + 1), .int 0, .int 0]), (69, List.replicate 17 .null)]) := by
    rw [nnF_eq]
    unfold f_J24_init
    have e00 : nnF (some (1024 + h.length)) (f_J0_init (some (1024 + h.length))) (h ++ [(13, ([.null, .int 0, .int 0] : List Value))]) = some (none, h ++ [(13, ([.null, .int 0, .int 0] : List Value))]) := rfl
    rw [o_cv_eq e00]
    show o_nwa 69 .null (nI 17) _ _ = _
    rw [nwa_eq (by omega) (by omega), hl2]
    have e2 : hget ((h ++ [(13, ([.null, .int 0, .int 0] : List Value))]) ++ [(69, List.replicate 17 .null)]) (1024 + h.length) = some (13, [.null, .int 0, .int 0]) := (Pf.app _ _).get e0
    rw [o_pf_eq e2 (by omega) (by show 0 < 3; omega)]
    have e3 : hset ((h ++ [(13, ([.null, .int 0, .int 0] : List Value))]) ++ [(69, List.replicate 17 .null)]) (1024 + h.length) (13, ([.null, .int 0, .int 0] : List Value).set 0 (va_rf (some (1024 + (h.length + 1))))) = h ++ [(13, [.ref (1024 + h.length + 1), .int 0, .int 0]), (69, List.replicate 17 .null)] := by
      unfold hset
      rw [List.append_assoc, List.set_append_right _ _ (by omega)]
      congr 1
      rw [show 1024 + h.length - 1024 - h.length = 0 by omega]
      rfl
    rw [e3]
  rw [o_cv_eq e1]
theorem new_deque_DQ (h : AH) : DQ (h ++ [(13, [.ref (1024 + h.length + 1), .int 0, .int 0]), (69, List.replicate 17 .null)]) (1024 + h.length) (1024 + h.length + 1) 17 0 [] := by
  refine ⟨hget_new h _ _, ?_, by omega, by show 0 < 17; omega, by omega, by omega, by omega, by omega⟩
  have := hget_new (h ++ [(13, ([.ref (1024 + h.length + 1), .int 0, .int 0] : List Value))]) (69, List.replicate 17 .null) []
  simp only [List.append_assoc, List.singleton_append, List.length_append, List.length_singleton] at this
  exact this
theorem sz_deque (h : AH) : sz (h ++ [(13, [.ref (1024 + h.length + 1), .int 0, .int 0]), (69, List.replicate 17 .null)]) = sz h + 22 := by rw [sz_app]; rfl
theorem j_inc {i n : Nat} (hi : i < n) (hn : n < 1000) (h : AH) : f_J24_inc (nI i) (nI n) h = some (some (vI (nI (rtl i n 1))), h) := by
  unfold f_J24_inc rtl
  rw [li1, nI_add, o_let_eq]
  by_cases q : i + 1 < n
  · rw [if_pos (nI_lt q (by omega)), if_pos q]
  · rw [if_neg (nI_nlt (by omega) (by omega)), if_neg q, show i + 1 - n = 0 by omega]; rfl
theorem d_empty {h : AH} {q ea n hd : Nat} {l : List Nat} (d : DQ h q ea n hd l) : tagIs 13 (some q) (f_J24_isEmpty (some q)) h = some (some (vI (bI (decide (l = [])))), h) := by
  obtain ⟨d1, d2, d3, d4, d5, d6, d7, d8⟩ := d
  rw [tagIs_eq d1]
  unfold f_J24_isEmpty
  rw [o_gi_eq d1 rfl, o_gi_eq d1 rfl, retz_0, retz_1, ite_retI, bI_ite]
  refine ret_cong ?_
  unfold rtl
  by_cases e : l = []
  · subst e
    rw [if_pos (by rw [if_pos (by show hd + 0 < n; omega)]; rfl)]; rfl
  · have : l.length ≠ 0 := fun w => e (List.eq_nil_of_length_eq_zero w)
    rw [if_neg, decide_eq_false e]
    split
    · rw [nI_eq (by omega) (by omega)]; omega
    · rw [nI_eq (by omega) (by omega)]; omega
/-- the first is taken -/
theorem d_pop {h : AH} {q ea n hd a : Nat} {l : List Nat} (d : DQ h q ea n hd (a :: l)) : ∃ h', tagIs 13 (some q) (f_J24_remove (some q)) h = some (some (vR (some a)), h') ∧ DQ h' q ea n (rtl hd n 1) l ∧ Fr2 q ea h h' ∧ sz h' = sz h ∧ h'.length = h.length := by
  have hne := d_ne d
  obtain ⟨d1, d2, d3, d4, d5, d6, d7, d8⟩ := d
  have hq := hget_some_lt d1
  have he := hget_some_lt d2
  simp only [List.length_cons] at d4
  have v0 : (arO n (fun j => (a :: l)[rdx hd n j]?))[(nI hd).toNatClampNeg]? = some (.ref a) := by
    rw [nI_clamp (by omega), arO_get d3]
    unfold rdx
    rw [if_pos (Nat.le_refl _), Nat.sub_self]; rfl
  have e1 : f_J24_elementAt (some ea) (nI hd) h = some (some (vR (some a)), h) := by
    unfold f_J24_elementAt
    rw [o_aldR_eq d2 (nI_pos (by omega)) v0]
  let h1 := hset h ea (69, arO n (fun j => if j = hd then none else (a :: l)[rdx hd n j]?))
  have g1 : hget h1 q = some (13, [.ref ea, .int (nI hd), .int (nI (rtl hd n (a :: l).length))]) := by
    show hget (hset h ea _) q = _
    rw [hget_set_ne d7 hne]; exact d1
  have g2 : hget h1 ea = some (69, arO n (fun j => if j = hd then none else (a :: l)[rdx hd n j]?)) := hget_set_same d7 he
  have e2 : f_J24_pollFirst (some q) h = some (some (vR (some a)), hset h1 q (13, ([.ref ea, .int (nI hd), .int (nI (rtl hd n (a :: l).length))] : List Value).set 1 (.int (nI (rtl hd n 1))))) := by
    unfold f_J24_pollFirst
    rw [o_gr_eq d1 rfl, o_gi_eq d1 rfl, o_cr_eq e1, if_neg (by simp), o_astN_eq (.inl rfl) d2 d7 (nI_pos (by omega)) (by rw [nI_clamp (by omega), arO_len]; exact d3), nI_clamp (by omega)]
    have : (arO n (fun j => (a :: l)[rdx hd n j]?)).set hd .null = arO n (fun j => if j = hd then none else (a :: l)[rdx hd n j]?) := arO_set (r := none)
    rw [this]
    show o_alen (some ea) _ h1 = _
    rw [alen_eq g2 (by omega), arO_len, o_ci_eq (j_inc d3 (by omega) h1), o_pf_eq g1 d6 (by show 1 < 3; omega)]
  have e3 : tagIs 13 (some q) (f_J24_removeFirst (some q)) h = some (some (vR (some a)), hset h1 q (13, ([.ref ea, .int (nI hd), .int (nI (rtl hd n (a :: l).length))] : List Value).set 1 (.int (nI (rtl hd n 1))))) := by
    rw [tagIs_eq d1]
    unfold f_J24_removeFirst
    rw [o_cr_eq ((tagIs_eq d1).trans e2), if_neg (by simp)]
  have hl1 : h1.length = h.length := len_hset _ _ _
  refine ⟨hset h1 q (13, ([.ref ea, .int (nI hd), .int (nI (rtl hd n (a :: l).length))] : List Value).set 1 (.int (nI (rtl hd n 1)))), ?_, ⟨?_, ?_, ?_, by omega, d5, d6, d7, d8⟩, ⟨by rw [len_hset, hl1]; omega, fun i hi h1' h2' => ?_⟩, ?_, ?_⟩
  · rw [tagIs_eq d1]
    unfold f_J24_remove
    rw [o_cr_eq e3]
  · rw [hget_set_same d6 (by rw [hl1]; exact hq)]
    have : rtl (rtl hd n 1) n l.length = rtl hd n (a :: l).length := by
      unfold rtl
      simp only [List.length_cons]
      split <;> (split <;> (try split)) <;> omega
    rw [this]; rfl
  · rw [hget_set_ne d6 (Ne.symm hne), g2]
    congr 2
    refine arO_cong (fun j hj => ?_)
    unfold rdx rtl
    by_cases e : j = hd
    · subst e
      rw [if_pos rfl]
      symm
      apply List.getElem?_eq_none
      split <;> split <;> omega
    · rw [if_neg e]
      have : (if hd ≤ j then j - hd else j + n - hd) = (if (if hd + 1 < n then hd + 1 else hd + 1 - n) ≤ j then j - (if hd + 1 < n then hd + 1 else hd + 1 - n) else j + n - (if hd + 1 < n then hd + 1 else hd + 1 - n)) + 1 := by
        split <;> split <;> (try split) <;> omega
      rw [this, List.getElem?_cons_succ]
  · unfold rtl; split <;> omega
  · rw [hget_set_ne d6 h1']
    exact hget_set_ne d7 h2'
  · rw [sz_set d6 g1 (by rfl)]
    exact sz_set d7 d2 (by rw [arO_len, arO_len])
  · rw [len_hset]; exact hl1
