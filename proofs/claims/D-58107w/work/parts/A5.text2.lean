set_option maxRecDepth 100000
/-! append, clearText, charAt; a run of bits -/
theorem XB.k17 {h : AH} {cc : Nat} {z : Value} {hh : List Nat} {e n : Nat} {tx : List Nat} (X : XB h cc z hh e n tx) {h' : AH} {tx' : List Nat} (k : Kf (fun _ t => t = 17 ∨ t = 67) h h') (T : TXT h' tx') : XB h' cc z hh e n tx' := by
  obtain ⟨y1, y2, y3, ⟨⟨mc, l1⟩, l2, l3⟩, y5⟩ := X
  exact ⟨k.2.2.cat y1, Nat.le_trans y2 k.1, k.2.1 _ _ _ y3 (by omega), ⟨⟨mc, k.2.1 _ _ _ l1 (by omega)⟩, k.2.1 _ _ _ l2 (by omega), l3⟩, T⟩
theorem xo_append {h : AH} {S : St} (X : XS h S) (hS : SV S) (x : Int32) (hz : sz h + 2000 < 1200000) : Wr 300 h (f_X0_append (some 1024) x h) (a_append S x).1 (a_append S x).2 := by
  have X0 := X
  obtain ⟨P, H, Z, e, n, s1, s2, s3, X, l⟩ := X
  obtain ⟨v, m, mb, f, t1, t2, t3, t4, t5, t6, t7⟩ := X.2.2.2.2
  have T : SB h v m mb f S.tx.length := ⟨t1, t2, t5, t6, t7⟩
  have htx := hS.2.2.2.2
  unfold f_X0_append a_append
  rw [o_ci_eq (x_in _ _ _ _), ite_bI]
  simp only [decide_eq_true_eq, ti33, ti126]
  by_cases hr : 33 ≤ x.toInt ∧ x.toInt ≤ 126
  · rw [if_pos hr, if_pos hr, b_gr4 X, o_ci_eq (sb_len T), li80]
    by_cases h8 : S.tx.length = 80
    · rw [if_pos h8, if_pos (by rw [h8])]
      exact Wr.no X0 _
    · rw [if_neg h8, if_neg (by rw [nI_eq (by omega) (by omega)]; exact h8)]
      obtain ⟨c, hc, rfl⟩ : ∃ q, (33 ≤ q ∧ q ≤ 126) ∧ x = nI q := ⟨x.toInt.toNat, by omega, nI_toNat (by omega)⟩
      rw [nat_nI (by omega), b_gr4 X, chr16 c (by omega)]
      obtain ⟨h', a1, a2, a3, a4⟩ := sb_append T t3 t4 (by omega) (fun c hc => by have := htx.2 c hc; omega) X.2.1 (by omega) (show c < 128 by omega)
      have Y := X.k17 a3 a2
      obtain ⟨v', m', mb', f', u1, u2, u3, u4, u5, u6, u7⟩ := a2
      have T' : SB h' v' m' mb' f' (S.tx ++ [c]).length := ⟨u1, u2, u5, u6, u7⟩
      rw [o_cr_eq a1, b_gr4 Y, o_ci_eq (sb_len T')]
      have el : (S.tx ++ [c]).length = S.tx.length + 1 := by simp
      rw [el]
      exact ⟨h', rfl, ⟨P, H, Z, e, n, s1, s2, s3, Y, l.keep (fun Q hQ => (l.1 Q hQ).k17 a3)⟩, a3.kc, a3.1, by omega⟩
  · rw [if_neg hr, if_neg hr]
    exact Wr.no X0 _
theorem xo_clear {h : AH} {S : St} (X : XS h S) (hS : SV S) : Wr 0 h (f_X0_clearText (some 1024) h) (a_clear S).1 (a_clear S).2 := by
  obtain ⟨P, H, Z, e, n, s1, s2, s3, X, l⟩ := X
  obtain ⟨v, m, mb, f, t1, t2, t3, t4, t5, t6, t7⟩ := X.2.2.2.2
  have T : SB h v m mb f S.tx.length := ⟨t1, t2, t5, t6, t7⟩
  unfold f_X0_clearText a_clear
  obtain ⟨h', a1, a2, a3, a4⟩ := sb_clear T t4
  rw [b_gr4 X, o_ci_eq (sb_len T), b_gr4 X, o_cv_eq a1]
  exact ⟨h', rfl, ⟨P, H, Z, e, n, s1, s2, s3, X.k17 a3 a2, l.keep (fun Q hQ => (l.1 Q hQ).k17 a3)⟩, a3.kc, a3.1, by omega⟩
theorem chrA : ∀ c, c < 128 → o_retz .char (((nI c &&& 255).toUInt32 % 65536).toInt32) = fun h => some (some (vI (nI c)), h) := by
  intro c hc
  have h1 : ∀ c, c < 128 → ((nI c &&& 255).toUInt32 % 65536).toInt32 = nI c ∧ vp_nar .char (nI c) = nI c := by decide +kernel
  funext h
  unfold o_retz
  rw [(h1 c hc).1, if_pos (h1 c hc).2]
theorem chrB : ∀ c, c < 128 → o_retz .char (nI c) = fun h => some (some (vI (nI c)), h) := by
  intro c hc
  have h1 : ∀ c, c < 128 → vp_nar .char (nI c) = nI c := by decide +kernel
  funext h
  unfold o_retz
  rw [if_pos (h1 c hc)]
theorem sb_char {h : AH} {v m len : Nat} {mb : Int32} {f : Nat → Int32} (T : SB h v m mb f len) (hlen : len ≤ m) {i c : Nat} (hi : i < len) (hf : f i = nI c) (hc : c < 128) : tagIs 17 (some 1615) (f_J21_charAt (some 1615) (nI i)) h = some (some (vI (nI c)), h) := by
  obtain ⟨t1, t2, t3, t4, t5⟩ := id T
  have e : f_J20_charAt (some 1615) (nI i) h = some (some (vI (nI c)), h) := by
    unfold f_J20_charAt
    have ck : f_J7_checkIndex (nI i) (nI len) h = some (none, h) := by
      unfold f_J7_checkIndex
      have : f_J15_checkIndex (nI i) (nI len) none h = some (some (vI (nI i)), h) := by
        unfold f_J15_checkIndex
        rw [if_neg (nI_pos (by omega)), if_pos (by rw [nI_ltI (by omega) (by omega)]; omega)]
      rw [o_ci_eq this]
    rw [o_gi_eq t1 rfl, o_gr_eq t1 rfl, o_gi_eq t1 rfl, alen_eq t2 (by omega), arI_len, shr0 m (by omega), o_ci_eq (j_min len m (by omega) (by omega) h), show min len m = len by omega, o_cv_eq ck, if_pos rfl, o_aldI_eq t2 (nI_pos (by omega)) (by rw [nI_clamp (by omega)]; exact arI_get (by omega)), hf, chrA c hc]
  rw [T.tag]
  unfold f_J21_charAt
  rw [o_ci_eq ((T.tag).trans e), chrB c hc]
/-- one word written -/
theorem b_or1 {h : AH} {b wa u L : Nat} {W : Nat → Nat} (B : BW h b wa u L W) {i m : Nat} (hi : i < u) (hm : m < 2 ^ 64) :
    ∃ h', (∀ K : AH → Res, o_aldJ 66 (some wa) (nI i) (fun x h => o_ast 66 (some wa) (nI i) (.long (x ||| lN m)) K h) h = K h') ∧ BW h' b wa u L (upN W i (W i ||| m)) ∧ h'.length = h.length ∧ (∀ j, j ≠ wa → hget h' j = hget h j) ∧ sz h' = sz h := by
  obtain ⟨c1, c2, c3, c4, c5, c6, c7, c8, c9, c10⟩ := id B
  have hw := hget_some_lt c2
  refine ⟨hset h wa (66, loW L (upN W i (W i ||| m))), fun K => ?_, ⟨?_, hget_set_same c10 hw, c3, c4, c5, c6, fun j => ?_, fun j hj => ?_, c9, c10⟩, len_hset _ _ _, fun j hj => hget_set_ne c10 hj, sz_set c10 c2 (by rw [loW_len, loW_len])⟩
  · rw [o_aldJ_eq c2 (nI_pos (by omega)) (by rw [nI_clamp (by omega)]; exact loW_get (by omega)), o_ast_eq c2 c10 (nI_pos (by omega)) (by rw [nI_clamp (by omega), loW_len]; omega), wb_or (c7 _) hm, nI_clamp (by omega), loW_set]
  · rw [hget_set_ne c10 (b_ne B)]; exact c1
  · by_cases e : j = i
    · subst e; rw [upN_s]; exact Nat.or_lt_two_pow (c7 _) hm
    · rw [upN_n e]; exact c7 j
  · rw [upN_n (by omega)]; exact c8 j hj
theorem lom : ∀ c, c < 192 → (((-1) : Int64).toUInt64 >>> ((-(nI (c + 1))).toInt64.toUInt64 &&& Int64.toUInt64 63)).toInt64 = lN (2 ^ (c % 64 + 1) - 1) := by decide +kernel
theorem lo_lt {c : Nat} : 2 ^ (c % 64 + 1) - 1 < 2 ^ 64 := by
  have : 2 ^ (c % 64 + 1) ≤ 2 ^ 64 := Nat.pow_le_pow_right (by omega) (by omega)
  have := Nat.pow_pos (n := c % 64 + 1) (show 0 < 2 by omega)
  omega
theorem hi_lt {a : Nat} : 2 ^ 64 - 2 ^ (a % 64) < 2 ^ 64 := by
  have := Nat.pow_pos (n := a % 64) (show 0 < 2 by omega)
  omega
theorem b_set2 {h : AH} {b wa : Nat} {f : Nat → Bool} (B : BS h b wa f) {a c : Nat} (hac : a < c + 1) (hc : c < 192) (hd : c / 64 ≤ a / 64 + 1) (hr : sz h + 6 < 1200000) :
    ∃ h' wa', tagIs 12 (some b) (f_J23_set_2 (some b) (nI a) (nI (c + 1))) h = some (none, h') ∧ BS h' b wa' (fun j => (decide (a ≤ j) && decide (j < c + 1)) || f j) ∧ (wa' = wa ∨ 1024 + h.length ≤ wa') ∧ Fr2 b wa h h' ∧ sz h' ≤ sz h + 5 := by
  obtain ⟨u, L, W, B0, hf⟩ := B
  obtain ⟨h1, wa1, u1, L1, e1, B1, q1, q2, q3, q4⟩ := b_exp B0 (i := c / 64) (by omega) hr
  have c1 := B1.1
  have hle : a / 64 ≤ c / 64 := Nat.div_le_div_right (by omega)
  rw [tagIs_eq B0.1]
  unfold f_J23_set_2
  have ck : f_J23_checkRange (nI a) (nI (c + 1)) h = some (none, h) := by
    unfold f_J23_checkRange
    rw [if_pos (nI_pos' (by omega)), if_pos (nI_pos' (by omega)), if_pos (nI_le (by omega) (by omega))]
  rw [o_cv_eq ck, if_neg (by rw [nI_eq (by omega) (by omega)]; omega), o_ci_eq (j_wordIndex (by omega) h), show nI (c + 1) - 1 = nI c by rw [show (1 : Int32) = nI 1 from rfl, pk_sub (by omega)]; rfl, o_ci_eq (j_wordIndex (by omega) h), o_cv_eq e1, o_let_eq, shlm a (by omega), o_let_eq, lom c hc]
  have fr : ∀ s : AH, s.length = h1.length → (∀ j, j ≠ wa1 → hget s j = hget h1 j) → Fr2 b wa h s := by
    intro s hl hk
    refine ⟨by rw [hl]; exact q3.1, fun i hi n1 n2 => ?_⟩
    rcases q2 with q2 | q2
    · rw [hk i (by omega)]; exact q3.2 i hi n1 n2
    · rw [hk i (by omega)]; exact q3.2 i hi n1 n2
  have fin : ∀ (s : AH) (W' : Nat → Nat), BW s b wa1 u1 L1 W' → s.length = h1.length → (∀ j, j ≠ wa1 → hget s j = hget h1 j) → sz s = sz h1 → (∀ j, ((decide (a ≤ j) && decide (j < c + 1)) || f j) = (W' (j / 64)).testBit (j % 64)) →
      ∃ h' wa', f_J23_set_2_119 (some b) s = some (none, h') ∧ BS h' b wa' (fun j => (decide (a ≤ j) && decide (j < c + 1)) || f j) ∧ (wa' = wa ∨ 1024 + h.length ≤ wa') ∧ Fr2 b wa h h' ∧ sz h' ≤ sz h + 5 := by
    intro s W' Bs hl hk hs ht
    unfold f_J23_set_2_119
    rw [o_cv_eq ((tagIs_eq Bs.1).trans (j_inv _))]
    exact ⟨s, wa1, rfl, ⟨u1, L1, W', Bs, ht⟩, q2, fr s hl hk, by omega⟩
  by_cases ew : a / 64 = c / 64
  · rw [if_pos (by rw [ew]), o_gr_eq c1 rfl, wb_and hi_lt lo_lt]
    obtain ⟨h2, v1, v2, v3, v4, v5⟩ := b_or1 B1 (i := a / 64) (m := (2 ^ 64 - 2 ^ (a % 64)) &&& (2 ^ (c % 64 + 1) - 1)) (by omega) (Nat.lt_of_le_of_lt Nat.and_le_left hi_lt)
    rw [v1]
    refine fin h2 _ v2 v3 v4 v5 (fun j => ?_)
    by_cases e : j / 64 = a / 64
    · rw [e, upN_s, Nat.testBit_or, Nat.testBit_and, hi_tb (by omega), Nat.testBit_two_pow_sub_one, hf j, e, Bool.or_comm, decide_eq_true (show j % 64 < 64 by omega), Bool.true_and]
      have d1 : decide (a ≤ j) = decide (a % 64 ≤ j % 64) := by apply Bool.eq_iff_iff.mpr; simp only [decide_eq_true_eq]; omega
      have d2 : decide (j < c + 1) = decide (j % 64 < c % 64 + 1) := by apply Bool.eq_iff_iff.mpr; simp only [decide_eq_true_eq]; omega
      rw [d1, d2]
    · rw [upN_n e, hf j]
      have : (decide (a ≤ j) && decide (j < c + 1)) = false := by
        rw [Bool.and_eq_false_iff]
        by_cases w : a ≤ j
        · right; rw [decide_eq_false_iff_not]; omega
        · left; rw [decide_eq_false_iff_not]; exact w
      rw [this, Bool.false_or]
  · have ew' : c / 64 = a / 64 + 1 := by omega
    rw [if_neg (by rw [nI_eq (by omega) (by omega)]; exact ew), o_gr_eq c1 rfl]
    obtain ⟨h2, v1, v2, v3, v4, v5⟩ := b_or1 B1 (i := a / 64) (m := 2 ^ 64 - 2 ^ (a % 64)) (by omega) hi_lt
    rw [v1, o_let_eq, li1, nI_add]
    show ∃ h' wa', f_J23_set_2_84 (99999 + 1) _ _ _ _ _ = _ ∧ _
    rw [f_J23_set_2_84_s]
    simp only
    obtain ⟨h3, w1, w2, w3, w4, w5⟩ := b_or1 v2 (i := c / 64) (m := 2 ^ (c % 64 + 1) - 1) (by omega) lo_lt
    rw [if_pos (nI_le (by omega) (by omega)), o_gr_eq v2.1 rfl, w1]
    refine fin h3 _ w2 (w3.trans v3) (fun j hj => (w4 j hj).trans (v4 j hj)) (w5.trans v5) (fun j => ?_)
    rw [hf j]
    by_cases e : j / 64 = c / 64
    · have ne : c / 64 ≠ a / 64 := by omega
      rw [e, upN_s, upN_n ne, Nat.testBit_or, Nat.testBit_two_pow_sub_one, Bool.or_comm, decide_eq_true (show a ≤ j by omega), Bool.true_and]
      have d2 : decide (j < c + 1) = decide (j % 64 < c % 64 + 1) := by apply Bool.eq_iff_iff.mpr; simp only [decide_eq_true_eq]; omega
      rw [d2]
    · rw [upN_n e]
      by_cases e2 : j / 64 = a / 64
      · rw [e2, upN_s, Nat.testBit_or, hi_tb (by omega), decide_eq_true (show j % 64 < 64 by omega), Bool.true_and, Bool.or_comm, decide_eq_true (show j < c + 1 by omega), Bool.and_true]
        have d1 : decide (a ≤ j) = decide (a % 64 ≤ j % 64) := by apply Bool.eq_iff_iff.mpr; simp only [decide_eq_true_eq]; omega
        rw [d1]
      · rw [upN_n e2]
        have : (decide (a ≤ j) && decide (j < c + 1)) = false := by
          rw [Bool.and_eq_false_iff]
          by_cases w : a ≤ j
          · right; rw [decide_eq_false_iff_not]; omega
          · left; rw [decide_eq_false_iff_not]; exact w
        rw [this, Bool.false_or]
