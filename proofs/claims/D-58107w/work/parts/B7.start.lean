set_option maxRecDepth 100000
/-! the start, and the law -/
def St0 : St := (newG 8 8 false, [], none, [])
theorem HX_len : HX.length = 593 := by decide +kernel
theorem HX_sz : sz HX = 1725 := by decide +kernel
def HM : AH := HX ++ mcells Fm0 Am0
theorem HM_len : HM.length = 608 := by
  show (HX ++ mcells Fm0 Am0).length = 608
  rw [List.length_append, HX_len]; rfl
theorem HM_get {i : Nat} (hi : i < 1617) : hget HM i = hget HX i := hget_app (by rw [HX_len]; omega)
theorem HX_cat : ∀ i, i < 570 → hget HX (1025 + i) = hget CATL (1025 + i) := by decide +kernel
theorem HX_obj : hget HX 1024 = some (0, [.ref 1025, .ref 1595, .null, .ref 1614, .ref 1615]) ∧ hget HX 1614 = some (8, [.int 0, .ref 2, .int (nI 0)]) ∧ hget HX 1615 = some (17, [.ref 1616, .int 0, .int 0, .int (nI 0)]) ∧ hget HX 1616 = some (67, arI 16 (fun _ => 0)) := by decide +kernel
theorem HX_coast : hget HX 1595 = some (3, [.int (nI 8), .int (nI 8), .int (bI false), .ref 1596, .ref 1605, .ref 1024]) ∧ hget HX 1596 = some (71, arR 8 (fun r => 1597 + r)) ∧ hget HX 1605 = some (72, arR 8 (fun r => 1606 + r)) := by decide +kernel
theorem HX_rows : ∀ r, r < 8 → hget HX (1597 + r) = some (65, arI 8 (fun _ => 0)) ∧ hget HX (1606 + r) = some (64, arI 8 (fun _ => -6)) := by decide +kernel
theorem HM_CK : CK HM (newD 1595 8, newG 8 8 false) := by
  refine ⟨⟨?_, ?_, ?_, fun r hr => ⟨?_, ?_⟩⟩, newG_GV false (by omega) (by omega), newD_CI 1595 8, fun r hr => ?_⟩
  · exact (HM_get (by show 1595 < 1617; omega)).trans HX_coast.1
  · exact (HM_get (by show 1596 < 1617; omega)).trans HX_coast.2.1
  · exact (HM_get (by show 1605 < 1617; omega)).trans HX_coast.2.2
  · have hr : r < 8 := hr
    exact (HM_get (by show 1597 + r < 1617; omega)).trans (HX_rows r hr).1
  · have hr : r < 8 := hr
    exact (HM_get (by show 1606 + r < 1617; omega)).trans (HX_rows r hr).2
  · have hr : r < 8 := hr
    show mok (1597 + r) ∧ mok (1606 + r)
    unfold mok
    omega
theorem HM_XS : XS HM St0 := by
  refine ⟨(newD 1595 8, newG 8 8 false), [], none, 2, 0, rfl, rfl, rfl, ⟨fun i h1 h2 => ?_, ?_, ?_, ⟨⟨0, ?_⟩, rfl, Nat.le_refl _, .inl ⟨rfl, rfl⟩⟩, 1616, 16, 0, fun _ => 0, ?_, ?_, fun i x hx => ?_, ?_, ?_, ?_, ?_⟩, fun Q hQ => ?_, ?_⟩
  · rw [HM_get (by omega)]
    have := HX_cat (i - 1025) (by omega)
    rw [show 1025 + (i - 1025) = i by omega] at this
    exact this
  · rw [HM_len]; omega
  · exact (HM_get (by omega)).trans HX_obj.1
  · exact (HM_get (by omega)).trans HX_obj.2.1
  · exact (HM_get (by omega)).trans HX_obj.2.2.1
  · exact (HM_get (by omega)).trans HX_obj.2.2.2
  · cases hx
  · show 0 ≤ 16; omega
  · omega
  · omega
  · unfold mok; omega
  · have : Q = (newD 1595 8, newG 8 8 false) := by simpa using hQ
    subst this
    exact HM_CK
  · exact List.pairwise_singleton _ _
/-- how many masks below k are regular -/
def ctR (k : Nat) : Nat := cntN (fun m => red m == m) k
theorem ctR_yes : ∀ k, k < 256 → (red k == k) = true → ctR k < 47 ∧ msk (ctR k) = k ∧ shp k = nI (ctR k) := by decide +kernel
theorem ctR_no : ∀ k, k < 256 → (red k == k) = false → shp k = -6 := by decide +kernel
theorem ctR_end : ctR 256 = 47 := by decide +kernel
theorem ctR_le : ∀ k, k < 257 → ctR k ≤ 47 := by decide +kernel
theorem ctR_s1 {k : Nat} (h : (red k == k) = true) : ctR (k + 1) = ctR k + 1 := by
  show cntN _ (k + 1) = cntN _ k + 1
  rw [cntN, if_pos h]
theorem ctR_s0 {k : Nat} (h : (red k == k) = false) : ctR (k + 1) = ctR k := by
  show cntN _ (k + 1) = cntN _ k
  rw [cntN, if_neg (by rw [h]; decide)]; rfl
theorem m_init {g : AH} (hL : 608 ≤ g.length) : ∃ (F : Nat → Int32) (A : Nat → Nat → Int32), f_X4_init_132 FUEL (some 1617) 0 0 (mset g Fm0 Am0) = some (none, mset g F A) ∧ MI F A St0 := by
  refine loop1 (σ := Nat → Nat → Int32) 256 (fun n k A => f_X4_init_132 n (some 1617) (nI (ctR k)) (nI k) (mset g Fm0 A)) (fun k A => (∀ s, s < ctR k → A 7 s = nI (msk s)) ∧ (∀ m, m < k → A 8 m = shp m) ∧ A 0 = fun _ => 0)
    (fun res => ∃ (F : Nat → Int32) (A : Nat → Nat → Int32), res = some (none, mset g F A) ∧ MI F A St0) ?_ ?_ 0 Am0 FUEL (by omega) ⟨fun s hs => absurd hs (by show ¬ s < 0; omega), fun m hm => absurd hm (by omega), rfl⟩ (by simp only [FUEL]; omega)
  · rintro A n ⟨q1, q2, q3⟩
    rw [f_X4_init_132_s]
    simp only
    rw [if_pos (by decide), m_gr0 hL, li0, m_st0 hL (by omega), m_gr0 hL, li1, m_st0 hL (by omega), upA_s, upA_upA, m_cv hL (m_water hL), upA_s, upA_upA]
    refine ⟨_, _, rfl, ⟨wat_MZ (by omega) ?_ ?_ ?_, ⟨fun s hs => ?_, fun m hm => ?_⟩, rfl, fun i G h => ?_, rfl, fun G h => ?_, rfl, fun i c h => ?_⟩⟩
    · rw [up_n (by omega), up_s]; rfl
    · rw [up_s]; rfl
    · rw [up_n (by omega), up_n (by omega), q3]; rfl
    · exact q1 s (by rw [ctR_end]; exact hs)
    · exact q2 m hm
    · cases h
    · cases h
    · cases h
  · rintro k A n hk ⟨q1, q2, q3⟩ hn
    have hle := ctR_le k (by omega)
    have hrl := red_lt k hk
    rw [f_X4_init_132_s]
    simp only
    unfold f_X4_init_172
    rw [if_neg (by rw [li256, nI_leI (by omega) (by omega)]; omega), m_gr8 hL, m_st8 hL hk, o_ci_eq (m_reduced hk _)]
    cases hr : (red k == k) with
    | true =>
      obtain ⟨c1, c2, c3⟩ := ctR_yes k hk hr
      rw [if_pos (by rw [beq_iff_eq.mp hr]), m_gr7 hL, m_st7 hL c1, m_gr8 hL, m_st8 hL hk, o_let_eq, o_let_eq, li1, nI_add, nI_add, ← ctR_s1 hr]
      refine hn _ ⟨fun s hs => ?_, fun m hm => ?_, q3⟩
      · rw [ctR_s1 hr] at hs
        show up (A 7) (ctR k) (nI k) s = nI (msk s)
        by_cases e : s = ctR k
        · subst e
          rw [up_s, c2]
        · rw [up_n e]; exact q1 s (by omega)
      · show up (up (A 8) k (-6)) k (nI (ctR k)) m = shp m
        by_cases e : m = k
        · subst e
          rw [up_s, c3]
        · rw [up_n e, up_n e]; exact q2 m (by omega)
    | false =>
      rw [if_neg (fun w => by rw [nI_eq (by omega) (by omega)] at w; rw [beq_iff_eq.mpr w] at hr; cases hr), o_let_eq, li1, nI_add, ← ctR_s0 hr]
      refine hn _ ⟨fun s hs => ?_, fun m hm => ?_, q3⟩
      · rw [ctR_s0 hr] at hs
        exact q1 s hs
      · show up (A 8) k (-6) m = shp m
        by_cases e : m = k
        · subst e
          rw [up_s, ctR_no m hk hr]
        · rw [up_n e]; exact q2 m (by omega)
theorem HM_eq : HM = mset HM Fm0 Am0 := mset_self (by rw [HM_len]; omega) (fun k e he => by
  show hget (HX ++ mcells Fm0 Am0) (1617 + k) = some e
  unfold hget
  rw [if_pos (by omega), List.getElem?_append_right (by rw [HX_len]; omega), HX_len, show 1617 + k - 1024 - 593 = k by omega]
  exact he)
theorem law_true (ys : List Int32) (h : ys.length ≤ 320) : ∃ h', f_L_law ys (some 8) [] = some (some (vI 1), h') := by
  have hL : 608 ≤ HM.length := by rw [HM_len]; omega
  obtain ⟨F, A, i1, i2⟩ := m_init hL
  have X : XS (mset HM F A) St0 := XS.mset hL (by rw [← HM_eq]; exact HM_XS) F A
  have hz : sz (mset HM F A) ≤ 6000 := by
    rw [sz_mset HM F Fm0 A Am0, ← HM_eq]
    show sz (HX ++ mcells Fm0 Am0) ≤ 6000
    rw [sz_app, HX_sz, sz_mcells]
    omega
  have hsv : SV St0 := by
    refine ⟨newG_GV false (by omega) (by omega), ?_, ?_, ?_, ?_, ?_⟩
    · intro G hG
      exact absurd hG List.not_mem_nil
    · show 0 ≤ 5
      omega
    · intro G hG
      cases hG
    · show 0 ≤ 80
      omega
    · intro c hc
      exact absurd hc List.not_mem_nil
  have j : J 6000 (mset HM F A) St0 := ⟨HM, F, A, rfl, hL, X, i2, hsv, hz⟩
  unfold f_L_law
  rw [new_eq (by decide)]
  have e1 : nnF (some (1024 + ([] : AH).length)) (f_X0_init (some (1024 + ([] : AH).length))) ([] ++ [(0, [.null, .null, .null, .null, .null])]) = some (none, HX) := by
    rw [nnF_eq]
    exact ct_tiles
  rw [o_cv_eq e1, new_eq (by rw [HX_sz]; show 1725 + 22 < _; omega), HX_len]
  have e2 : nnF (some (1024 + 593)) (f_X4_init (some (1024 + 593))) (HX ++ [(4, [.null, .null, .int 0, .null, .int 0, .null, .int 0, .null, .null, .null, .null, .null, .int 0, .null, .null, .null, .null, .null, .int 0, .int 0, .int 0, .int 0])]) = some (none, mset HM F A) := by
    rw [nnF_eq]
    unfold f_X4_init
    rw [o_nn_eq]
    have := preM_B (fun h => f_X4_init_132 FUEL (some 1617) 0 0 h) (HX ++ [(4, [.null, .null, .int 0, .null, .int 0, .null, .int 0, .null, .null, .null, .null, .null, .int 0, .null, .null, .null, .null, .null, .int 0, .int 0, .int 0, .int 0])])
    rw [ct_preM, Bd_end] at this
    have e3 : HX ++ mcells Fm0 Am0 = mset HM Fm0 Am0 := HM_eq
    rw [e3, i1] at this
    exact this
  rw [o_cv_eq e2]
  exact law_loop h 65 0 FUEL (mset HM F A) St0 (by omega) (by simp only [FUEL]; omega) (by omega) (j.mono (by omega))
