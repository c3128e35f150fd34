set_option maxRecDepth 100000
/-! a map as an object: turned by a quarter -/
def tuG (G : Gr) (K : Nat) : Gr := (G.C, G.R, G.o, fun j => if tnI G.R G.C j < K then G.l (tnI G.R G.C j) else false, fun j => if tnI G.R G.C j < K then tpin (G.p (tnI G.R G.C j)) else -6)
theorem tuG_GV {G : Gr} (h : GV G) (K : Nat) : GV (tuG G K) := by
  have ht := turnG_GV h
  refine ⟨ht.1, fun j hj => ?_⟩
  show isP (if tnI G.R G.C j < K then tpin (G.p (tnI G.R G.C j)) else -6)
  split
  · exact ht.2 j hj
  · exact .inl rfl
theorem tn_lt_succ {G : Gr} {K j : Nat} (hK : K < G.N) (hj : j < G.N) : (tnI G.R G.C j < K + 1) = (j = tnT G.R G.C K ∨ tnI G.R G.C j < K) := by
  apply propext
  constructor
  · intro w
    by_cases e : tnI G.R G.C j = K
    · left; rw [← e, tn_inv2 hj]
    · right; omega
  · rintro (w | w)
    · subst w; rw [tn_inv hK]; omega
    · omega
theorem x_turnedC {h : AH} {D : CD} {G : Gr} (c : CR h D G) (hG : GV G) (b : Bs h) (hz : sz h + 2000 < 1200000) :
    ∃ h' D', tagIs 3 (some D.c) (f_X3_turned (some D.c)) h = some (some (vR (some (CD.c D'))), h') ∧ Pf h h' ∧ CR h' D' (turnG G) ∧ CI D' (turnG G).R (1024 + h.length) ∧ sz h' ≤ sz h + 750 := by
  obtain ⟨⟨g1, g2, g3, g4, g5, g6⟩, g7⟩ := id hG
  have g5' : G.C * G.R ≤ 144 := g5
  rw [c_tag c]
  unfold f_X3_turned
  rw [new_eq (by show sz h + 6 < _; omega)]
  have p0 : Pf h (h ++ [(3, [.int 0, .int 0, .int 0, .null, .null, .null])]) := Pf.app _ _
  have c0 := c.pf p0
  rw [c_gr5 c0, c_gi1 c0, c_gi0 c0, c_gi2 c0]
  obtain ⟨h1, e1, p1, c1, l1, z1⟩ := x_init (h := h) (R := G.C) (C := G.R) (o := G.o) ⟨g3, g4⟩ ⟨g1, g2⟩ (by omega)
  rw [o_cv_eq e1]
  have hge : 1024 ≤ 1024 + h.length := by omega
  have hci : CI (newD (1024 + h.length) G.C) G.C (1024 + h.length) := newD_CI _ _
  have hc1 : CR h1 (newD (1024 + h.length) G.C) (tuG G 0) := c1.cong rfl rfl rfl (fun k _ => by
    show (if tnI G.R G.C k < 0 then G.l (tnI G.R G.C k) else false) = false
    rw [if_neg (by omega)]) (fun k _ => by
    show (if tnI G.R G.C k < 0 then tpin (G.p (tnI G.R G.C k)) else -6) = -6
    rw [if_neg (by omega)])
  show ∃ h' D', f_X3_turned_26 FUEL (some D.c) (some (CD.c (newD (1024 + h.length) G.C))) 0 h1 = some (some (vR (some (CD.c D'))), h') ∧ _
  generalize hDD : newD (1024 + h.length) G.C = D' at hci hc1 ⊢
  refine loop2 (σ := AH) G.R G.C (by omega) (by omega) (fun n r s => f_X3_turned_26 n (some D.c) (some (CD.c D')) (nI r) s) (fun n m r k s => f_X3_turned_36 (f_X3_turned_26 n) m (some D.c) (some (CD.c D')) (nI r) (nI k) s)
    (fun K s => Pf h s ∧ CR s D' (tuG G K) ∧ sz s ≤ sz h1 + 2 * K) (fun res => ∃ h' D', res = some (some (vR (some (CD.c D'))), h') ∧ Pf h h' ∧ CR h' D' (turnG G) ∧ CI D' (turnG G).R (1024 + h.length) ∧ sz h' ≤ sz h + 750) ?_ ?_ ?_ ?_ h1 ⟨p1, hc1, by omega⟩
  · rintro s n ⟨q1, q2, q3⟩
    rw [f_X3_turned_26_s]
    simp only
    rw [c_gi0 (c.pf q1), if_pos (nI_le (Nat.le_refl _) (by omega))]
    refine ⟨s, D', rfl, q1, q2.cong rfl rfl rfl (fun k hk => ?_) (fun k hk => ?_), hci, by omega⟩
    · have hk : k < G.R * G.C := hk
      show G.l (tnI G.R G.C k) = if tnI G.R G.C k < G.C * G.R then G.l (tnI G.R G.C k) else false
      rw [if_pos (tnI_lt (by rw [Nat.mul_comm]; exact hk))]
    · have hk : k < G.R * G.C := hk
      show tpin (G.p (tnI G.R G.C k)) = if tnI G.R G.C k < G.C * G.R then tpin (G.p (tnI G.R G.C k)) else -6
      rw [if_pos (tnI_lt (by rw [Nat.mul_comm]; exact hk))]
  · rintro r s n hr ⟨q1, q2, q3⟩ hk
    rw [f_X3_turned_26_s]
    simp only
    rw [c_gi0 (c.pf q1), if_neg (nI_ge hr (by omega))]
    exact hk s ⟨q1, q2, q3⟩
  · rintro r s n m hr ⟨q1, q2, q3⟩ hk
    rw [f_X3_turned_36_s]
    simp only
    rw [c_gi1 (c.pf q1), if_pos (nI_le (Nat.le_refl _) (by omega)), o_let_eq, li1, nI_add]
    exact hk s (by rw [Nat.mul_succ]; exact ⟨q1, q2, q3⟩)
  · rintro r k s n m hr hk hkN ⟨q1, q2, q3⟩ hn
    have cs := c.pf q1
    have hKN : G.C * r + k < G.N := hkN
    have et : ((nI G.R - nI 1) - nI r) = nI (G.R - 1 - r) := by rw [pk_sub (by omega), pk_sub (by omega)]
    have htile : G.R * k + (G.R - 1 - r) = tnT G.R G.C (G.C * r + k) := by unfold tnT; rw [rc_mod hk, rc_div hk]
    have hGK := tuG_GV hG (G.C * r + k)
    rw [f_X3_turned_36_s]
    simp only
    rw [c_gi1 cs, if_neg (nI_ge hk (by omega)), c_gr4 cs, c_rowp cs hG hr, c_p cs hG hr hk, c_gr3 q2, c_row q2 hGK (show k < (tuG G (G.C * r + k)).R from hk), c_gi0 cs, c_gr3 cs, c_row cs hG hr, c_l cs hG hr hk, nar_bI, li1, et]
    obtain ⟨s1, w1, w2, w3⟩ := cw_l q2 hGK hci hge (r := k) (k := G.R - 1 - r) hk (show G.R - 1 - r < G.R by omega) (G.l (G.C * r + k))
    rw [w1]
    have hrl : 1024 + h.length ≤ D'.rl k := (hci.2.2.2.2.2 k hk).1
    have hrp : 1024 + h.length ≤ D'.rp k := (hci.2.2.2.2.2 k hk).2
    have pf1 : Pf h s1 := Pf.of (by rw [w3.1]; exact q1.len) (fun i hi => by rw [w3.2.2 i (by omega), q1.same hi])
    have cs1 := c.pf pf1
    have hGL : GV (landG (tuG G (G.C * r + k)) (G.R * k + (G.R - 1 - r)) (G.l (G.C * r + k))) := landG_GV hGK _ _
    have w2' : CR s1 D' (landG (tuG G (G.C * r + k)) (G.R * k + (G.R - 1 - r)) (G.l (G.C * r + k))) := w2
    -- what is left, once the pin is known
    have fin : ∀ (s2 : AH) (x : Int32), Pf h s2 → CR s2 D' (landG (tuG G (G.C * r + k)) (G.R * k + (G.R - 1 - r)) (G.l (G.C * r + k))) → sz s2 ≤ sz h1 + 2 * (G.C * r + k) + 2 → x = tpin (G.p (G.C * r + k)) →
        ∃ h' D'', f_X3_turned_129 (f_X3_turned_26 n) (f_X3_turned_36 (f_X3_turned_26 n) m) (some D.c) (some (CD.c D')) (nI r) (nI k) (some (D'.rp k)) (nI (G.R - 1 - r)) x s2 = some (some (vR (some (CD.c D''))), h') ∧ Pf h h' ∧ CR h' D'' (turnG G) ∧ CI D'' (turnG G).R (1024 + h.length) ∧ sz h' ≤ sz h + 750 := by
      intro s2 x a1 a2 a3 a4
      unfold f_X3_turned_129
      obtain ⟨s3, v1, v2, v3⟩ := cw_p a2 hGL hci hge (r := k) (k := G.R - 1 - r) hk (show G.R - 1 - r < G.R by omega) x
      rw [v1, o_let_eq, li1, nI_add]
      refine hn s3 ⟨Pf.of (by rw [v3.1]; exact a1.len) (fun i hi => by rw [v3.2.2 i (by omega), a1.same hi]), v2.cong rfl rfl rfl (fun j hj => ?_) (fun j hj => ?_), by rw [v3.2.1]; omega⟩
      · have hj : j < G.N := by have hj : j < G.R * G.C := hj; show j < G.C * G.R; rw [Nat.mul_comm]; exact hj
        show (if tnI G.R G.C j < G.C * r + k + 1 then G.l (tnI G.R G.C j) else false) = if j = G.R * k + (G.R - 1 - r) then G.l (G.C * r + k) else (if tnI G.R G.C j < G.C * r + k then G.l (tnI G.R G.C j) else false)
        simp only [tn_lt_succ hKN hj]
        rw [htile]
        by_cases e : j = tnT G.R G.C (G.C * r + k)
        · rw [if_pos (.inl e), if_pos e, e, tn_inv hKN]
        · rw [if_neg e]
          by_cases e2 : tnI G.R G.C j < G.C * r + k
          · rw [if_pos (.inr e2), if_pos e2]
          · rw [if_neg (fun w => w.elim e e2), if_neg e2]
      · have hj : j < G.N := by have hj : j < G.R * G.C := hj; show j < G.C * G.R; rw [Nat.mul_comm]; exact hj
        show (if tnI G.R G.C j < G.C * r + k + 1 then tpin (G.p (tnI G.R G.C j)) else -6) = up (fun j => if tnI G.R G.C j < G.C * r + k then tpin (G.p (tnI G.R G.C j)) else -6) (G.R * k + (G.R - 1 - r)) x j
        unfold up
        simp only [tn_lt_succ hKN hj]
        rw [htile]
        by_cases e : j = tnT G.R G.C (G.C * r + k)
        · rw [if_pos (.inl e), if_pos e, e, tn_inv hKN, a4]
        · rw [if_neg e]
          by_cases e2 : tnI G.R G.C j < G.C * r + k
          · rw [if_pos (.inr e2), if_pos e2]
          · rw [if_neg (fun w => w.elim e e2), if_neg e2]
    rw [c_gr4 w2', c_rowp w2' hGL (show k < G.C from hk), c_gi0 cs1, et]
    have hN3 : G.C * r + k < 144 := by omega
    by_cases hp : G.p (G.C * r + k) = -6
    · rw [if_pos hp]
      exact fin s1 (-6) pf1 w2' (by rw [w3.2.1]; omega) (by rw [hp]; rfl)
    · rw [if_neg hp]
      obtain ⟨sh, hsh, es⟩ := (g7 _ hKN).resolve_left hp
      have b1 := b.pf pf1
      obtain ⟨m1, m2⟩ := x_mask b1.1 hsh
      have hzs : sz s1 + 2 ≤ 1200000 := by rw [w3.2.1]; omega
      have xt := x_turned (q := 1) m2 (msk_lt sh hsh) (by omega) hzs
      rw [es, c_gr5 cs1, b1.cat, c_gr5 cs1, b1.cat, o_cr_eq ((cat_tag1 b1).trans m1), o_cr_eq xt]
      have pm : Pf s1 (s1 ++ [(2, [.int (nI (trn (msk sh) 1))])]) := Pf.app _ _
      rw [o_ci_eq ((cat_tag1 (b1.pf pm)).trans (x_shape (b1.pf pm).1 (mk_new s1 _) (trn_lt _ (msk_lt sh hsh) 1 (by omega))))]
      refine fin _ _ (pf1.trans pm) (w2'.pf pm) (by rw [sz_mask, w3.2.1]; omega) ?_
      unfold tpin
      rw [if_neg hp, es, nat_nI (by omega)]
