set_option maxRecDepth 100000
/-! BitSet: made, set, asked, counted -/
theorem alen_eq {h : AH} {i t : Nat} {vs : List Value} {K : Int32 → AH → Res} (hg : hget h i = some (t, vs)) (ht : 64 ≤ t ∧ t < 74) : o_alen (some i) K h = K (nI vs.length) h := o_alen_eq hg ht
theorem setRun_get : ∀ (xs l : List Value) (k i : Nat), k + xs.length ≤ l.length → (setRun l k xs)[i]? = if k ≤ i ∧ i < k + xs.length then xs[i - k]? else l[i]?
  | [], l, k, i, _ => by
    rw [if_neg (by simp)]; rfl
  | x :: xs, l, k, i, h => by
    have ih := setRun_get xs (l.set k x) (k + 1) i (by simp at h ⊢; omega)
    show (setRun (l.set k x) (k + 1) xs)[i]? = _
    rw [ih]
    by_cases e : i = k
    · subst e
      rw [if_neg (by omega), if_pos (by simp), List.getElem?_set_self (by simp at h; omega)]
      simp
    · by_cases q : k + 1 ≤ i ∧ i < k + 1 + xs.length
      · rw [if_pos q, if_pos (by simp; omega)]
        obtain ⟨d, hd⟩ : ∃ d, i - k = d + 1 := ⟨i - k - 1, by omega⟩
        rw [hd, List.getElem?_cons_succ, show i - (k + 1) = d by omega]
      · rw [if_neg q, if_neg (by simp; omega), List.getElem?_set_ne (by omega)]
theorem strch_get {l : List Value} {p n i : Nat} (hi : i < n) (hl : p + n ≤ l.length) : (strch l p n)[i]? = l[p + i]? := by
  unfold strch
  rw [List.getElem?_map, List.getElem?_range hi]
  show some (l.getD (p + i) .null) = _
  rw [List.getD_eq_getElem?_getD, List.getElem?_eq_getElem (show p + i < l.length by omega)]
  rfl
theorem strch_len (l : List Value) (p n : Nat) : (strch l p n).length = n := by simp [strch]
theorem strch_all {l : List Value} {p n : Nat} (hl : p + n ≤ l.length) {P : Value → Bool} (h : ∀ v, v ∈ l → P v = true) : (strch l p n).all P = true := by
  rw [List.all_eq_true]
  intro v hv
  obtain ⟨i, hi⟩ := List.getElem?_of_mem hv
  have hin : i < n := by
    have := (List.getElem?_eq_some_iff.mp hi).1
    rwa [strch_len] at this
  rw [strch_get hin hl] at hi
  exact h v (List.mem_of_getElem? hi)
theorem copy_eq {h : AH} {kt : Nat} {ty : FieldType} {a b sp dp n : Nat} {v1 v2 : List Value} {K : AH → Res} (h1 : hget h a = some (64 + kt, v1)) (h2 : hget h b = some (64 + kt, v2)) (hb : 1024 ≤ b) (s1 : sp < 2 ^ 31) (s2 : dp < 2 ^ 31) (s3 : n < 2 ^ 31)
    (l1 : sp + n ≤ v1.length) (l2 : dp + n ≤ v2.length) (hok : (strch v1 sp n).all (okVal h kt ty) = true) : o_copy kt ty (some a) (nI sp) (some b) (nI dp) (nI n) K h = K (hset h b (64 + kt, setRun v2 dp (strch v1 sp n))) := by
  simp only [o_copy, h1, h2, nI_clamp s1, nI_clamp s2, nI_clamp s3]
  rw [if_pos ⟨trivial, trivial, hb, ⟨nI_pos s1, nI_pos s2, nI_pos s3⟩, l1, l2, hok⟩]
theorem upN_s (W : Nat → Nat) (i x : Nat) : upN W i x i = x := if_pos rfl
theorem upN_n {W : Nat → Nat} {i j x : Nat} (h : j ≠ i) : upN W i x j = W j := if_neg h
/-- a new bit set -/
theorem new_bits {h : AH} {K : Rf → AH → Res} (hr : sz h + 6 < 1200000) : o_new 12 [.null, .int 0, .int 0] (fun r1 h => o_cv (nnF r1 (f_J23_init r1)) (fun h => K r1 h) h) h =
    K (some (1024 + h.length)) (h ++ [(12, [.ref (1024 + h.length + 1), .int (nI 0), .int 0]), (66, loW 1 (fun _ => 0))]) := by
  rw [new_eq (by show sz h + 3 < _; omega)]
  have e0 : hget (h ++ [(12, ([.null, .int 0, .int 0] : List Value))]) (1024 + h.length) = some (12, [.null, .int 0, .int 0]) := hget_last h _
  have z1 : sz (h ++ [(12, [.null, .int 0, .int 0])]) = sz h + 4 := by rw [sz_app, sz_one]; rfl
  have ew : f_J23_initWords (some (1024 + h.length)) 64 (h ++ [(12, [.null, .int 0, .int 0])]) = some (none, h ++ [(12, [.ref (1024 + h.length + 1), .int (nI 0), .int 0]), (66, loW 1 (fun _ => 0))]) := by
    unfold f_J23_initWords
    rw [show (64 : Int32) - 1 = nI 63 by decide, o_ci_eq (j_wordIndex (by omega) _)]
    show o_nwa 66 (.long 0) (nI 0 + 1) _ _ = _
    rw [li1, nI_add, nwa_eq (by omega) (by omega)]
    have hl2 : (h ++ [(12, ([.null, .int 0, .int 0] : List Value))]).length = h.length + 1 := by simp
    rw [hl2]
    have e2 : hget ((h ++ [(12, [.null, .int 0, .int 0])]) ++ [(66, List.replicate (0 + 1) (.long 0))]) (1024 + h.length) = some (12, [.null, .int 0, .int 0]) := (Pf.app _ _).get e0
    rw [o_pf_eq e2 (by omega) (by show 0 < 3; omega)]
    have e3 : hset ((h ++ [(12, [.null, .int 0, .int 0])]) ++ [(66, List.replicate (0 + 1) (.long 0))]) (1024 + h.length) (12, ([.null, .int 0, .int 0] : List Value).set 0 (va_rf (some (1024 + (h.length + 1))))) = h ++ [(12, [.ref (1024 + h.length + 1), .int (nI 0), .int 0]), (66, loW 1 (fun _ => 0))] := by
      unfold hset
      rw [List.append_assoc, List.set_append_right _ _ (by omega)]
      congr 1
      rw [show 1024 + h.length - 1024 - h.length = 0 by omega]
      rfl
    rw [e3]
  have e1 : nnF (some (1024 + h.length)) (f_J23_init (some (1024 + h.length))) (h ++ [(12, [.null, .int 0, .int 0])]) = some (none, h ++ [(12, [.ref (1024 + h.length + 1), .int (nI 0), .int 0]), (66, loW 1 (fun _ => 0))]) := by
    rw [nnF_eq]
    unfold f_J23_init
    have hz : ∀ k : Nat, (hset (h ++ [(12, ([.null, .int 0, .int 0] : List Value))]) (1024 + h.length) (12, ([.null, .int 0, .int 0] : List Value))) = h ++ [(12, ([.null, .int 0, .int 0] : List Value))] := fun _ => hset_new h _ _
    rw [o_nn_eq, o_pf_eq e0 (by omega) (by show 1 < 3; omega)]
    show o_pz _ _ _ _ _ _ (hset (h ++ [(12, [.null, .int 0, .int 0])]) (1024 + h.length) (12, [.null, .int 0, .int 0])) = _
    rw [hz 0, o_pz_eq (by decide) e0 (by omega) (by show 2 < 3; omega)]
    show o_cv _ _ (hset (h ++ [(12, [.null, .int 0, .int 0])]) (1024 + h.length) (12, [.null, .int 0, .int 0])) = _
    rw [hz 0, o_cv_eq ((tagIs_eq e0).trans ew)]
    have e4 : hget (h ++ [(12, [.ref (1024 + h.length + 1), .int (nI 0), .int 0]), (66, loW 1 (fun _ => 0))]) (1024 + h.length) = some (12, [.ref (1024 + h.length + 1), .int (nI 0), .int 0]) := hget_new h _ _
    rw [o_pz_eq (by decide) e4 (by omega) (by show 2 < 3; omega)]
    show some (none, hset _ _ (12, [.ref (1024 + h.length + 1), .int (nI 0), .int 0])) = _
    have e5 : hset (h ++ [(12, [.ref (1024 + h.length + 1), .int (nI 0), .int 0]), (66, loW 1 (fun _ => 0))]) (1024 + h.length) (12, [.ref (1024 + h.length + 1), .int (nI 0), .int 0]) = h ++ [(12, [.ref (1024 + h.length + 1), .int (nI 0), .int 0]), (66, loW 1 (fun _ => 0))] := by
      unfold hset
      rw [List.set_append_right _ _ (by omega)]
      congr 1
      rw [show 1024 + h.length - 1024 - h.length = 0 by omega]; rfl
    rw [e5]
  rw [o_cv_eq e1]
theorem new_bits_BW (h : AH) : BW (h ++ [(12, [.ref (1024 + h.length + 1), .int (nI 0), .int 0]), (66, loW 1 (fun _ => 0))]) (1024 + h.length) (1024 + h.length + 1) 0 1 (fun _ => 0) := by
  refine ⟨hget_new h _ _, ?_, by omega, by omega, by omega, by omega, fun _ => by show 0 < _; omega, fun _ _ => rfl, by omega, by omega⟩
  have := hget_new (h ++ [(12, [.ref (1024 + h.length + 1), .int (nI 0), .int 0])]) (66, loW 1 (fun _ => 0)) []
  simp only [List.append_assoc, List.singleton_append, List.length_append, List.length_singleton] at this
  exact this
theorem new_bits_BS (h : AH) : BS (h ++ [(12, [.ref (1024 + h.length + 1), .int (nI 0), .int 0]), (66, loW 1 (fun _ => 0))]) (1024 + h.length) (1024 + h.length + 1) (fun _ => false) :=
  ⟨0, 1, _, new_bits_BW h, fun k => by simp⟩
theorem sz_bits (h : AH) : sz (h ++ [(12, [.ref (1024 + h.length + 1), .int (nI 0), .int 0]), (66, loW 1 (fun _ => 0))]) = sz h + 6 := by rw [sz_app]; rfl
/-- room for req words -/
theorem b_ens {h : AH} {b wa u L : Nat} {W : Nat → Nat} (B : BW h b wa u L W) {req : Nat} (hq : 1 ≤ req ∧ req ≤ 3) (hr : sz h + 6 < 1200000) : ∃ h' wa' L', f_J23_ensureCapacity (some b) (nI req) h = some (none, h') ∧ BW h' b wa' u L' W ∧ req ≤ L' ∧ (wa' = wa ∨ 1024 + h.length ≤ wa') ∧ Fr2 b wa h h' ∧ sz h' ≤ sz h + 5 := by
  obtain ⟨b1, b2, b3, b4, b5, b6, b7, b8, b9, b10⟩ := id B
  unfold f_J23_ensureCapacity
  rw [o_gr_eq b1 rfl, alen_eq b2 (by omega), loW_len]
  by_cases hL : req ≤ L
  · rw [if_pos (show nI req ≤ nI L from nI_le hL (by omega))]
    exact ⟨h, wa, L, rfl, B, hL, .inl rfl, Fr2.rfl' _ _ _, by omega⟩
  · rw [if_neg (show ¬ nI req ≤ nI L from nI_ge (by omega) (by omega)), o_gr_eq b1 rfl, alen_eq b2 (by omega), loW_len]
    show ∃ _ _ _, o_ci (f_J12_max (2 * nI L) (nI req)) _ h = _ ∧ _
    rw [li2, pk_mul, o_ci_eq (j_max _ _ (by omega) (by omega) h), o_gr_eq b1 rfl]
    generalize hM : max (2 * L) req = M
    have hM1 : L < M ∧ M ≤ 4 ∧ req ≤ M := by omega
    have e1 : f_J18_copyOf_3 (some wa) (nI M) h = some (some (vR (some (1024 + h.length))), h ++ [(66, loW M W)]) := by
      unfold f_J18_copyOf_3
      rw [alen_eq b2 (by omega), loW_len]
      rw [if_neg (show ¬ nI M = nI L by rw [nI_eq (by omega) (by omega)]; omega), nwa_eq (by omega) (by omega)]
      have p : Pf h (h ++ [(66, List.replicate M (.long 0))]) := Pf.app _ _
      rw [alen_eq (p.get b2) (by omega), loW_len]
      show o_ci (f_J12_min (nI L) (nI M)) _ _ = _
      rw [o_ci_eq (j_min _ _ (by omega) (by omega) _), Nat.min_eq_left (by omega)]
      rw [show (0 : Int32) = nI 0 from rfl, copy_eq (p.get b2) (hget_last h _) (by omega) (by omega) (by omega) (by omega) (by rw [loW_len]; omega) (by simp; omega) (strch_all (by rw [loW_len]; omega) (fun v hv => by
        unfold loW at hv
        obtain ⟨i, _, rfl⟩ := List.mem_map.mp hv
        rfl)), hset_new]
      have : setRun (List.replicate M (.long 0)) 0 (strch (loW L W) 0 L) = loW M W := by
        apply List.ext_getElem?
        intro i
        rw [setRun_get _ _ _ _ (by rw [strch_len]; simp; omega), strch_len]
        by_cases hi : i < L
        · rw [if_pos (by omega), Nat.sub_zero, strch_get hi (by rw [loW_len]; omega), Nat.zero_add, loW_get hi, loW_get (by omega)]
        · rw [if_neg (by omega)]
          by_cases hi2 : i < M
          · rw [loW_get hi2, b8 i (by omega), List.getElem?_replicate_of_lt hi2]; rfl
          · rw [List.getElem?_eq_none (by simp; omega), List.getElem?_eq_none (by rw [loW_len]; omega)]
      rw [this]
    rw [o_cr_eq e1]
    have p : Pf h (h ++ [(66, loW M W)]) := Pf.app _ _
    have hbl := hget_some_lt b1
    have g1 := p.get b1
    rw [o_pf_eq g1 b9 (by show 0 < 3; omega)]
    have g2 : hget (hset (h ++ [(66, loW M W)]) b (12, ([.ref wa, .int (nI u), .int 0] : List Value).set 0 (va_rf (some (1024 + h.length))))) b = some (12, [.ref (1024 + h.length), .int (nI u), .int 0]) := hget_set_same b9 (by simp; omega)
    rw [o_pz_eq (by decide) g2 b9 (by show 2 < 3; omega)]
    refine ⟨_, 1024 + h.length, M, rfl, ⟨?_, ?_, by omega, by omega, b5, by omega, b7, b8, b9, by omega⟩, hM1.2.2, .inr (Nat.le_refl _), ⟨by rw [len_hset, len_hset]; simp, fun i hi h1 h2 => ?_⟩, ?_⟩
    · exact hget_set_same b9 (by rw [len_hset]; simp; omega)
    · rw [hget_set_ne b9 (by omega), hget_set_ne b9 (by omega)]
      exact hget_last h _
    · rw [hget_set_ne b9 h1, hget_set_ne b9 h1, p.same hi]
    · rw [sz_set b9 g2 (by rfl), sz_set b9 g1 (by rfl), sz_app, sz_one]
      show sz h + (1 + (loW M W).length) ≤ _
      rw [loW_len]; omega
theorem b_exp {h : AH} {b wa u L : Nat} {W : Nat → Nat} (B : BW h b wa u L W) {i : Nat} (hi : i < 3) (hr : sz h + 6 < 1200000) : ∃ h' wa' u' L', tagIs 12 (some b) (f_J23_expandTo (some b) (nI i)) h = some (none, h') ∧ BW h' b wa' u' L' W ∧ i < u' ∧ (wa' = wa ∨ 1024 + h.length ≤ wa') ∧ Fr2 b wa h h' ∧ sz h' ≤ sz h + 5 := by
  obtain ⟨b1, b2, b3, b4, b5, b6, b7, b8, b9, b10⟩ := id B
  rw [tagIs_eq b1]
  unfold f_J23_expandTo
  rw [li1, nI_add, o_let_eq, o_gi_eq b1 rfl]
  by_cases hu : i + 1 ≤ u
  · rw [if_pos (nI_le hu (by omega))]
    exact ⟨h, wa, u, L, rfl, B, by omega, .inl rfl, Fr2.rfl' _ _ _, by omega⟩
  · rw [if_neg (nI_ge (by omega) (by omega))]
    obtain ⟨h1, wa1, L1, e1, B1, q1, q2, q3, q4⟩ := b_ens B (req := i + 1) (by omega) hr
    obtain ⟨c1, c2, c3, c4, c5, c6, c7, c8, c9, c10⟩ := id B1
    rw [o_cv_eq ((tagIs_eq b1).trans e1), o_pf_eq c1 c9 (by show 1 < 3; omega)]
    have hbl := hget_some_lt c1
    refine ⟨_, wa1, i + 1, L1, rfl, ⟨hget_set_same c9 hbl, ?_, by omega, c4, by omega, c6, c7, fun j hj => b8 j (by omega), c9, c10⟩, by omega, q2, ⟨by rw [len_hset]; exact q3.1, fun j hj h1 h2 => ?_⟩, ?_⟩
    · rw [hget_set_ne c9 (Ne.symm (b_ne B1))]; exact c2
    · rw [hget_set_ne c9 h1]; exact q3.2 j hj h1 h2
    · rw [sz_set c9 c1 (by rfl)]; exact q4
theorem shl64 : ∀ k, k < 192 → (1 : Int64) <<< ((nI k).toInt64 &&& 63) = lN (2 ^ (k % 64)) := by decide +kernel
theorem pow64 {k : Nat} : 2 ^ (k % 64) < 2 ^ 64 := wb_lt2 (Nat.mod_lt _ (by omega))
/-- one bit set -/
theorem b_set {h : AH} {b wa : Nat} {f : Nat → Bool} (B : BS h b wa f) {k : Nat} (hk : k < 192) (hr : sz h + 6 < 1200000) : ∃ h' wa', tagIs 12 (some b) (f_J23_set (some b) (nI k)) h = some (none, h') ∧ BS h' b wa' (fun j => decide (j = k) || f j) ∧ (wa' = wa ∨ 1024 + h.length ≤ wa') ∧ Fr2 b wa h h' ∧ sz h' ≤ sz h + 5 := by
  obtain ⟨u, L, W, B0, hf⟩ := B
  obtain ⟨h1, wa1, u1, L1, e1, B1, q1, q2, q3, q4⟩ := b_exp B0 (i := k / 64) (by omega) hr
  obtain ⟨c1, c2, c3, c4, c5, c6, c7, c8, c9, c10⟩ := id B1
  rw [tagIs_eq B0.1]
  unfold f_J23_set
  rw [if_pos (nI_pos' (by omega)), o_ci_eq (j_wordIndex (by omega) h), o_cv_eq e1, o_gr_eq c1 rfl,
    o_aldJ_eq c2 (nI_pos (by omega)) (by rw [nI_clamp (by omega)]; exact loW_get (by omega)), o_ast_eq c2 c10 (nI_pos (by omega)) (by rw [nI_clamp (by omega), loW_len]; omega), shl64 k hk, wb_or (c7 _) pow64, nI_clamp (by omega), loW_set]
  have hw := hget_some_lt c2
  have g1 : hget (hset h1 wa1 (66, loW L1 (upN W (k / 64) (W (k / 64) ||| 2 ^ (k % 64))))) b = some (12, [.ref wa1, .int (nI u1), .int 0]) := by
    rw [hget_set_ne c10 (b_ne B1)]; exact c1
  rw [o_cv_eq ((tagIs_eq g1).trans (j_inv _))]
  refine ⟨_, wa1, rfl, ⟨u1, L1, _, ⟨g1, hget_set_same c10 hw, c3, c4, c5, c6, fun i => ?_, fun i hi => ?_, c9, c10⟩, fun j => ?_⟩, q2, ⟨by rw [len_hset]; exact q3.1, fun i hi h1 h2 => ?_⟩, ?_⟩
  · by_cases e : i = k / 64
    · subst e; rw [upN_s]; exact Nat.or_lt_two_pow (c7 _) pow64
    · rw [upN_n e]; exact c7 i
  · rw [upN_n (by omega)]; exact c8 i hi
  · show (decide (j = k) || f j) = _
    by_cases e : j / 64 = k / 64
    · rw [e, upN_s, Nat.testBit_or, Nat.testBit_two_pow, hf j, e]
      have : decide (j = k) = decide (k % 64 = j % 64) := by
        apply Bool.eq_iff_iff.mpr
        simp only [decide_eq_true_eq]
        omega
      rw [this, Bool.or_comm]
    · rw [upN_n e, hf j]
      have : j ≠ k := fun w => e (by rw [w])
      simp [this]
  · rcases q2 with q2 | q2
    · rw [hget_set_ne c10 (by omega)]; exact q3.2 i hi h1 h2
    · rw [hget_set_ne c10 (by omega)]; exact q3.2 i hi h1 h2
  · rw [sz_set c10 c2 (by rw [loW_len, loW_len])]; exact q4
theorem cmp_and {w : Nat} (hw : w < 2 ^ 64) (j : Nat) (hj : j < 64) : (lg_cmp (lN w &&& lN (2 ^ j)) 0 = 0) ↔ w.testBit j = false := by
  have h0 : ∀ x : Int64, (lg_cmp x 0 = 0) ↔ x = 0 := by
    intro x
    unfold lg_cmp
    by_cases a : x > 0
    · rw [if_pos a]
      constructor
      · intro e; exact absurd e (by decide)
      · intro e; subst e; exact absurd a (by decide)
    · rw [if_neg a]
      by_cases c : x = 0
      · rw [if_pos c]; exact ⟨fun _ => c, fun _ => rfl⟩
      · rw [if_neg c]
        constructor
        · intro e; exact absurd e (by decide)
        · intro e; exact absurd e c
  have e : w &&& 2 ^ j = if w.testBit j then 2 ^ j else 0 := by
    apply Nat.eq_of_testBit_eq
    intro i
    rw [Nat.testBit_and, Nat.testBit_two_pow]
    by_cases q : j = i
    · subst q
      cases hb : w.testBit j
      · simp
      · simp
    · cases hb : w.testBit j
      · simp [q]
      · simp [q, Nat.testBit_two_pow]
  rw [h0, wb_and hw (wb_lt2 hj), e]
  cases w.testBit j
  · exact ⟨fun _ => rfl, fun _ => rfl⟩
  · constructor
    · intro e
      have h1 := congrArg (fun x : Int64 => x.toBitVec.toNat) e
      have h2 : (lN (2 ^ j)).toBitVec.toNat = 0 := h1
      rw [wb_tn (wb_lt2 hj)] at h2
      exact absurd h2 (Nat.ne_of_gt (Nat.pow_pos (by omega)))
    · intro e; cases e
/-- is a bit set? -/
theorem b_get {h : AH} {b wa : Nat} {f : Nat → Bool} (B : BS h b wa f) {k : Nat} (hk : k < 192) : tagIs 12 (some b) (f_J23_get (some b) (nI k)) h = some (some (vI (bI (f k))), h) := by
  obtain ⟨u, L, W, B0, hf⟩ := B
  obtain ⟨c1, c2, c3, c4, c5, c6, c7, c8, c9, c10⟩ := id B0
  rw [tagIs_eq c1]
  unfold f_J23_get
  rw [if_pos (nI_pos' (by omega)), o_cv_eq ((tagIs_eq c1).trans (j_inv h)), o_ci_eq (j_wordIndex (by omega) h), o_gi_eq c1 rfl, hf k]
  by_cases hu : u ≤ k / 64
  · rw [if_pos (nI_le hu (by omega)), retz_0, c8 _ hu]; simp
  · rw [if_neg (nI_ge (by omega) (by omega)), o_gr_eq c1 rfl, o_aldJ_eq c2 (nI_pos (by omega)) (by rw [nI_clamp (by omega)]; exact loW_get (by omega)), shl64 k hk]
    cases hb : (W (k / 64)).testBit (k % 64)
    · rw [if_pos ((cmp_and (c7 _) _ (Nat.mod_lt _ (by omega))).mpr hb), retz_0]
    · rw [if_neg (fun e => by rw [(cmp_and (c7 _) _ (Nat.mod_lt _ (by omega))).mp e] at hb; cases hb), retz_1]
