set_option maxRecDepth 100000
/-! the text -/
theorem subc : ∀ m, m < 161 → ∀ k, k < m + 1 → nI k - nI m ≤ 0 := by decide +kernel
theorem sub1 : ∀ m, m < 161 → ¬ nI (m + 1) - nI m ≤ 0 := by decide +kernel
theorem shr0 : ∀ m, m < 400 → nI m >>> ((0 : Int32) &&& 31) = nI m := by decide +kernel
theorem shl0 : ∀ m, m < 400 → nI m <<< ((0 : Int32) &&& 31) = nI m := by decide +kernel
theorem chr16 : ∀ c, c < 128 → ((nI c).toUInt32 % 65536).toInt32 = nI c := by decide +kernel
theorem chr8 : ∀ c, c < 128 → vp_nar .byte ((nI c).toInt8.toInt32) = nI c := by decide +kernel
theorem fits8 : ∀ c, c < 128 → fits .byte (.int (nI c)) = true := by decide +kernel
theorem retzB1 (h : AH) : o_retz .boolean 1 h = some (some (vI 1), h) := retz_1 h
/-- the text as cells -/
def SB (h : AH) (v m : Nat) (mb : Int32) (f : Nat → Int32) (len : Nat) : Prop := hget h 1615 = some (17, [.ref v, .int 0, .int mb, .int (nI len)]) ∧ hget h v = some (67, arI m f) ∧ 16 ≤ m ∧ m ≤ 160 ∧ mok v
theorem SB.tag {h : AH} {v m len : Nat} {mb : Int32} {f : Nat → Int32} (T : SB h v m mb f len) {F : AH → Res} : tagIs 17 (some 1615) F h = F h := tagIs_eq T.1
theorem sb_len {h : AH} {v m len : Nat} {mb : Int32} {f : Nat → Int32} (T : SB h v m mb f len) : tagIs 17 (some 1615) (f_J21_length (some 1615)) h = some (some (vI (nI len)), h) := by
  rw [T.tag]
  unfold f_J21_length
  have : f_J20_length (some 1615) h = some (some (vI (nI len)), h) := by
    unfold f_J20_length
    rw [o_gi_eq T.1 rfl]
  rw [o_ci_eq ((T.tag).trans this)]
theorem sb_lat {h : AH} {v m len : Nat} {mb : Int32} {f : Nat → Int32} (T : SB h v m mb f len) : tagIs 17 (some 1615) (f_J20_isLatin1 (some 1615)) h = some (some (vI 1), h) := by
  rw [T.tag]
  unfold f_J20_isLatin1
  rw [if_neg (by decide), o_gi_eq T.1 rfl, if_pos rfl]
  exact retzB1 h
theorem sb_cap0 {h : AH} {v m len : Nat} {mb : Int32} {f : Nat → Int32} (T : SB h v m mb f len) {k : Nat} (hk : k ≤ m) : tagIs 17 (some 1615) (f_J20_ensureCapacityInternal (some 1615) (nI k)) h = some (none, h) := by
  have hm := T.2.2.2.1
  rw [T.tag]
  unfold f_J20_ensureCapacityInternal
  rw [o_gr_eq T.1 rfl, alen_eq T.2.1 (by omega), arI_len, o_gi_eq T.1 rfl, o_let_eq, shr0 m (by omega), if_pos (subc m (by omega) k (by omega))]
theorem newLen {m : Nat} (h1 : 16 ≤ m) (h2 : m ≤ 160) (h : AH) : f_J9_newLength (nI m) (nI 1) (nI (m + 2)) h = some (some (vI (nI (2 * m + 2))), h) := by
  unfold f_J9_newLength
  rw [o_ci_eq (j_max 1 (m + 2) (by omega) (by omega) h), o_let_eq, show max 1 (m + 2) = m + 2 by omega, nI_add, show m + (m + 2) = 2 * m + 2 by omega, li0, if_neg (by rw [nI_leI (by omega) (by omega)]; omega), if_neg]
  rw [show (2147483639 : Int32) = nI 2147483639 from rfl, nI_ltI (by omega) (by omega)]
  omega
theorem arI_grow {m n : Nat} {f : Nat → Int32} (hm : m ≤ n) : setRun (List.replicate n (Value.int 0)) 0 (strch (arI m f) 0 m) = arI n (fun j => if j < m then f j else 0) := by
  rw [rep_arI]
  apply List.ext_getElem?
  intro i
  rw [setRun_get _ _ _ _ (by rw [strch_len, arI_len]; omega), strch_len]
  by_cases hi : i < m
  · rw [if_pos (by omega), Nat.sub_zero, strch_get hi (by rw [arI_len]; omega), Nat.zero_add, arI_get hi, arI_get (by omega), if_pos hi]
  · rw [if_neg (by omega)]
    by_cases q : i < n
    · rw [arI_get q, arI_get q, if_neg hi]
    · rw [List.getElem?_eq_none (by rw [arI_len]; omega), List.getElem?_eq_none (by rw [arI_len]; omega)]
/-- the array grows -/
theorem sb_cap1 {h : AH} {v m : Nat} {mb : Int32} {f : Nat → Int32} (T : SB h v m mb f m) (hf : ∀ i, i < m → ∃ c, c < 128 ∧ f i = nI c) (hm : m < 80) (hL : 608 ≤ h.length) (hz : sz h + 1000 < 1200000) :
    ∃ h' v', tagIs 17 (some 1615) (f_J20_ensureCapacityInternal (some 1615) (nI (m + 1))) h = some (none, h') ∧ SB h' v' (2 * m + 2) mb (fun j => if j < m then f j else 0) m ∧ Kf (fun _ t => t = 17 ∨ t = 67) h h' ∧ sz h' ≤ sz h + 200 := by
  obtain ⟨t1, t2, t3, t4, t5⟩ := id T
  rw [T.tag]
  unfold f_J20_ensureCapacityInternal
  have eNC : f_J20_newCapacity (some 1615) (nI (m + 1)) h = some (some (vI (nI (2 * m + 2))), h) := by
    unfold f_J20_newCapacity
    rw [o_gr_eq t1 rfl, alen_eq t2 (by omega), arI_len, o_gi_eq t1 rfl, shl0 (m + 1) (by omega), o_let_eq, pk_sub (by omega), show m + 1 - m = 1 by omega, o_let_eq, o_gi_eq t1 rfl, show (2 : Int32) <<< ((0 : Int32) &&& 31) = nI 2 by decide, nI_add, o_ci_eq (newLen t3 t4 h), if_neg, o_gi_eq t1 rfl, shr0 _ (by omega)]
    rw [show (2147483647 : Int32) = nI 2147483647 from rfl, nI_eq (by omega) (by omega)]
    omega
  rw [o_gr_eq t1 rfl, alen_eq t2 (by omega), arI_len, o_gi_eq t1 rfl, o_let_eq, shr0 m (by omega), if_neg (sub1 m (by omega)), o_gr_eq t1 rfl, o_ci_eq ((T.tag).trans eNC), o_gi_eq t1 rfl, shl0 _ (by omega)]
  have p0 : Pf h (h ++ [(67, List.replicate (2 * m + 2) (Value.int 0))]) := Pf.app _ _
  have g1 := p0.get t2
  have g2 : hget (h ++ [(67, List.replicate (2 * m + 2) (Value.int 0))]) (1024 + h.length) = some (64 + 3, List.replicate (2 * m + 2) (Value.int 0)) := hget_last h _
  have eC : f_J18_copyOf_4 (some v) (nI (2 * m + 2)) h = some (some (vR (some (1024 + h.length))), h ++ [(67, arI (2 * m + 2) (fun j => if j < m then f j else 0))]) := by
    unfold f_J18_copyOf_4
    rw [alen_eq t2 (by omega), arI_len, if_neg (by rw [nI_eq (by omega) (by omega)]; omega), nwa_eq (by omega) (by omega), alen_eq g1 (by omega), arI_len, o_ci_eq (j_min m (2 * m + 2) (by omega) (by omega) _), show min m (2 * m + 2) = m by omega]
    show o_copy 3 .byte (some v) (nI 0) (some (1024 + h.length)) (nI 0) (nI m) (fun h1 => some (some (vR (some (1024 + h.length))), h1)) (h ++ [(67, List.replicate (2 * m + 2) (Value.int 0))]) = _
    rw [copy_eq (kt := 3) g1 g2 (by omega) (by omega) (by omega) (by omega) (by rw [arI_len]; omega) (by rw [List.length_replicate]; omega)]
    · show some (_, hset _ _ (64 + 3, setRun (List.replicate (2 * m + 2) (Value.int 0)) 0 (strch (arI m f) 0 m))) = _
      rw [arI_grow (by omega), hset_new]
    · rw [List.all_eq_true]
      intro w hw
      obtain ⟨i, hi⟩ := List.getElem?_of_mem hw
      have him : i < m := by
        have := (List.getElem?_eq_some_iff.mp hi).1
        rwa [strch_len] at this
      rw [strch_get him (by rw [arI_len]; omega), Nat.zero_add, arI_get him] at hi
      obtain ⟨c, hc, ec⟩ := hf i him
      cases hi
      rw [ec]
      show (fits .byte (.int (nI c)) && true) = true
      rw [fits8 c hc]; rfl
  rw [o_cr_eq eC]
  have p1 : Pf h (h ++ [(67, arI (2 * m + 2) (fun j => if j < m then f j else 0))]) := Pf.app _ _
  have t1' := p1.get t1
  have g3 : hget (h ++ [(67, arI (2 * m + 2) (fun j => if j < m then f j else 0))]) (1024 + h.length) = some (67, arI (2 * m + 2) (fun j => if j < m then f j else 0)) := hget_last h _
  have z1 : sz (h ++ [(67, arI (2 * m + 2) (fun j => if j < m then f j else 0))]) = sz h + (2 * m + 3) := by rw [sz_app, sz_one, arI_len]; omega
  have k1 : Kf (fun _ t => t = 17 ∨ t = 67) h (h ++ [(67, arI (2 * m + 2) (fun j => if j < m then f j else 0))]) := Kf.of_pf p1 hL
  generalize h ++ [(67, arI (2 * m + 2) (fun j => if j < m then f j else 0))] = h1 at t1' g3 z1 k1 ⊢
  have hlt := hget_some_lt t1'
  rw [o_pf_eq t1' (by omega) (by show 0 < 4; omega)]
  refine ⟨_, 1024 + h.length, rfl, ⟨hget_set_same (by omega) hlt, ?_, by omega, by omega, by unfold mok; omega⟩, k1.trans ⟨Nat.le_of_eq (len_hset _ _ _).symm, fun i t vs g q => ?_, fun i hi => hget_set_ne (by omega) (by omega)⟩, ?_⟩
  · rw [hget_set_ne (by omega) (by omega)]; exact g3
  · rw [hget_set_ne (by omega) (tag_ne g t1' (fun w => q (.inl w)))]; exact g
  · rw [sz_set (by omega) t1' (by rfl)]; omega
theorem sb_put {h : AH} {v m len : Nat} {mb : Int32} {f : Nat → Int32} (T : SB h v m mb f len) (hlen : len < m) {c : Nat} (hc : c < 128) :
    ∃ h', (o_gr 17 (some 1615) 0 (fun x4 h => o_gi 17 (some 1615) 3 (fun x5 h => o_pf 17 (some 1615) 3 (.int (x5 + 1)) (fun h => o_ast 67 x4 x5 (.int (vp_nar .byte ((nI c).toInt8.toInt32))) (fun h => some (some (vR (some 1615)), h)) h) h) h) h) = some (some (vR (some 1615)), h') ∧ SB h' v m mb (up f len (nI c)) (len + 1) ∧ Kf (fun _ t => t = 17 ∨ t = 67) h h' ∧ sz h' = sz h := by
  obtain ⟨t1, t2, t3, t4, t5⟩ := id T
  have hlt := hget_some_lt t1
  have hltv := hget_some_lt t2
  have hv : 1024 ≤ v := by unfold mok at t5; omega
  have hne : v ≠ 1615 := tag_ne t2 t1 (by omega)
  rw [o_gr_eq t1 rfl, o_gi_eq t1 rfl, o_pf_eq t1 (by omega) (by show 3 < 4; omega), chr8 c hc, li1, nI_add]
  have g1 : hget (hset h 1615 (17, ([.ref v, .int 0, .int mb, .int (nI len)] : List Value).set 3 (.int (nI (len + 1))))) 1615 = some (17, [.ref v, .int 0, .int mb, .int (nI (len + 1))]) := hget_set_same (by omega) hlt
  have g2 : hget (hset h 1615 (17, ([.ref v, .int 0, .int mb, .int (nI len)] : List Value).set 3 (.int (nI (len + 1))))) v = some (67, arI m f) := by rw [hget_set_ne (by omega) hne]; exact t2
  have z1 : sz (hset h 1615 (17, ([.ref v, .int 0, .int mb, .int (nI len)] : List Value).set 3 (.int (nI (len + 1))))) = sz h := sz_set (by omega) t1 (by rfl)
  have k1 : Kf (fun _ t => t = 17 ∨ t = 67) h (hset h 1615 (17, ([.ref v, .int 0, .int mb, .int (nI len)] : List Value).set 3 (.int (nI (len + 1))))) := ⟨Nat.le_of_eq (len_hset _ _ _).symm, fun i t vs g q => by rw [hget_set_ne (by omega) (tag_ne g t1 (fun w => q (.inl w)))]; exact g, fun i hi => hget_set_ne (by omega) (by omega)⟩
  have lt2 : v < 1024 + (hset h 1615 (17, ([.ref v, .int 0, .int mb, .int (nI len)] : List Value).set 3 (.int (nI (len + 1))))).length := by rw [len_hset]; exact hltv
  generalize hset h 1615 (17, ([.ref v, .int 0, .int mb, .int (nI len)] : List Value).set 3 (.int (nI (len + 1)))) = h1 at g1 g2 z1 k1 lt2 ⊢
  rw [o_ast_eq g2 hv (nI_pos (by omega)) (by rw [nI_clamp (by omega), arI_len]; exact hlen), nI_clamp (by omega), arI_set]
  refine ⟨_, rfl, ⟨?_, hget_set_same hv lt2, t3, t4, t5⟩, k1.trans ⟨Nat.le_of_eq (len_hset _ _ _).symm, fun i t vs g q => ?_, fun i hi => hget_set_ne hv (by unfold mok at t5; omega)⟩, ?_⟩
  · rw [hget_set_ne hv (fun w => hne w.symm)]; exact g1
  · rw [hget_set_ne hv (tag_ne g g2 (fun w => q (.inr w)))]; exact g
  · rw [sz_set hv g2 (by rw [arI_len, arI_len]), z1]
theorem sb_append {h : AH} {v m : Nat} {mb : Int32} {f : Nat → Int32} {tx : List Nat} (T : SB h v m mb f tx.length) (hf : ∀ i x, tx[i]? = some x → f i = nI x) (hm : tx.length ≤ m) (hlen : tx.length < 80) (htx : ∀ c, c ∈ tx → c < 128) (hL : 608 ≤ h.length) (hz : sz h + 1000 < 1200000) {c : Nat} (hc : c < 128) :
    ∃ h', tagIs 17 (some 1615) (f_J21_append_2 (some 1615) (nI c)) h = some (some (vR (some 1615)), h') ∧ TXT h' (tx ++ [c]) ∧ Kf (fun _ t => t = 17 ∨ t = 67) h h' ∧ sz h' ≤ sz h + 200 := by
  have cap : ∃ h1 v1 m1 f1, tagIs 17 (some 1615) (f_J20_ensureCapacityInternal (some 1615) (nI (tx.length + 1))) h = some (none, h1) ∧ SB h1 v1 m1 mb f1 tx.length ∧ tx.length < m1 ∧ (∀ i x, tx[i]? = some x → f1 i = nI x) ∧ Kf (fun _ t => t = 17 ∨ t = 67) h h1 ∧ sz h1 ≤ sz h + 200 := by
    by_cases q : tx.length < m
    · exact ⟨h, v, m, f, sb_cap0 T (by omega), T, q, hf, Kf.rfl' _ _, by omega⟩
    · obtain rfl : m = tx.length := by omega
      obtain ⟨h1, v1, a1, a2, a3, a4⟩ := sb_cap1 T (fun i hi => ⟨tx[i], htx _ (List.getElem_mem hi), hf i _ (List.getElem?_eq_getElem hi)⟩) hlen hL hz
      refine ⟨h1, v1, _, _, a1, a2, by omega, fun i x hx => ?_, a3, a4⟩
      rw [if_pos (List.getElem?_eq_some_iff.mp hx).1]
      exact hf i x hx
  obtain ⟨h1, v1, m1, f1, a1, a2, a3, a4, a5, a6⟩ := cap
  obtain ⟨h2, b1, b2, b3, b4⟩ := sb_put a2 a3 hc
  have e2 : f_J20_append_2 (some 1615) (nI c) h = some (some (vR (some 1615)), h2) := by
    unfold f_J20_append_2
    have can : f_J8_canEncode (nI c) h1 = some (some (vI 1), h1) := by
      unfold f_J8_canEncode
      rw [li255, if_neg (by rw [nI_ltI (by omega) (by omega)]; omega)]
      exact retzB1 h1
    rw [o_gi_eq T.1 rfl, li1, nI_add, o_cv_eq a1, o_ci_eq (sb_lat a2), if_neg (by decide), o_ci_eq can, if_neg (by decide)]
    exact b1
  rw [T.tag]
  unfold f_J21_append_2
  rw [o_cr_eq ((T.tag).trans e2)]
  refine ⟨h2, rfl, ⟨v1, m1, mb, up f1 tx.length (nI c), ?_, b2.2.1, fun i x hx => ?_, ?_, b2.2.2.1, b2.2.2.2.1, b2.2.2.2.2⟩, a5.trans b3, by omega⟩
  · rw [List.length_append]; exact b2.1
  · by_cases hi : i < tx.length
    · rw [List.getElem?_append_left hi] at hx
      rw [up_n (by omega)]
      exact a4 i x hx
    · have : i < tx.length + 1 := by
        have := (List.getElem?_eq_some_iff.mp hx).1
        simpa using this
      obtain rfl : i = tx.length := by omega
      rw [List.getElem?_append_right (Nat.le_refl _), Nat.sub_self] at hx
      have hx : c = x := by simpa using hx
      rw [up_s, hx]
  · simp; omega
theorem sb_clear {h : AH} {v m len : Nat} {mb : Int32} {f : Nat → Int32} (T : SB h v m mb f len) (hlen : len ≤ m) :
    ∃ h', tagIs 17 (some 1615) (f_J21_setLength (some 1615) 0) h = some (none, h') ∧ TXT h' [] ∧ Kf (fun _ t => t = 17 ∨ t = 67) h h' ∧ sz h' = sz h := by
  obtain ⟨t1, t2, t3, t4, t5⟩ := id T
  have hne : v ≠ 1615 := tag_ne t2 t1 (by omega)
  have fin : ∀ mb' : Int32, ∀ s, hget s 1615 = some (17, [.ref v, .int 0, .int mb', .int (nI len)]) → hget s v = some (67, arI m f) → sz s = sz h → Kf (fun _ t => t = 17 ∨ t = 67) h s →
      ∃ h', f_J20_setLength_76 (some 1615) 0 s = some (none, h') ∧ TXT h' [] ∧ Kf (fun _ t => t = 17 ∨ t = 67) h h' ∧ sz h' = sz h := by
    intro mb' s g1 g2 hz k
    have hlt := hget_some_lt g1
    unfold f_J20_setLength_76
    rw [o_pf_eq g1 (by omega) (by show 3 < 4; omega)]
    refine ⟨_, rfl, ⟨v, m, mb', f, hget_set_same (by omega) hlt, ?_, fun i x hx => by simp at hx, Nat.zero_le _, t3, t4, t5⟩, k.trans ⟨Nat.le_of_eq (len_hset _ _ _).symm, fun i t vs g q => ?_, fun i hi => hget_set_ne (by omega) (by omega)⟩, by rw [sz_set (by omega) g1 (by rfl), hz]⟩
    · rw [hget_set_ne (by omega) hne]; exact g2
    · rw [hget_set_ne (by omega) (tag_ne g g1 (fun w => q (.inl w)))]; exact g
  have e : ∃ h', f_J20_setLength (some 1615) 0 h = some (none, h') ∧ TXT h' [] ∧ Kf (fun _ t => t = 17 ∨ t = 67) h h' ∧ sz h' = sz h := by
    unfold f_J20_setLength
    rw [if_pos (by decide), show (0 : Int32) = nI 0 from rfl, o_cv_eq (sb_cap0 T (by omega)), o_gi_eq t1 rfl, if_pos (nI_le (Nat.zero_le _) (by omega)), o_gi_eq t1 rfl]
    by_cases q : len = 0
    · subst q
      rw [if_pos (nI_le (Nat.le_refl _) (by omega))]
      exact fin mb h t1 t2 rfl (Kf.rfl' _ _)
    · rw [if_neg (nI_ge (by omega) (by omega)), o_pz_eq (by decide) t1 (by omega) (by show 2 < 4; omega)]
      have hlt := hget_some_lt t1
      refine fin 1 _ (hget_set_same (by omega) hlt) (by rw [hget_set_ne (by omega) hne]; exact t2) (sz_set (by omega) t1 (by rfl)) ⟨Nat.le_of_eq (len_hset _ _ _).symm, fun i t vs g q => ?_, fun i hi => hget_set_ne (by omega) (by omega)⟩
      rw [hget_set_ne (by omega) (tag_ne g t1 (fun w => q (.inl w)))]; exact g
  obtain ⟨h', e1, e2⟩ := e
  rw [T.tag]
  unfold f_J21_setLength
  rw [o_cv_eq ((T.tag).trans e1)]
  exact ⟨h', rfl, e2⟩
