set_option maxRecDepth 100000
/-! many tiles: brush, smooth -/
theorem nsb_s {f : Nat → Bool} {k : Nat} (hk : k < 192) : nsb f k = if f k then nI k else nsb f (k + 1) := by
  unfold nsb
  rw [show 192 - k = (192 - (k + 1)) + 1 by omega, fst]
  by_cases q : f k = true
  · rw [if_pos q, if_pos q]
  · rw [if_neg q, if_neg q]
theorem nsb_end (f : Nat → Bool) : nsb f 192 = -1 := rfl
/-- over the bits that are set, from the lowest on -/
theorem bits_iter {σ : Type} (f : Nat → Bool) (L : Nat → Int32 → σ → Res) (Inv : Nat → σ → Prop) (Q : Res → Prop) (hx : ∀ s n, Inv 192 s → Q (L (n + 1) (-1) s))
    (hs : ∀ t s n, t < 192 → f t = true → Inv t s → (∀ s', Inv (t + 1) s' → Q (L n (nsb f (t + 1)) s')) → Q (L (n + 1) (nI t) s))
    (hk : ∀ t s, t < 192 → f t = false → Inv t s → Inv (t + 1) s) : ∀ s, Inv 0 s → Q (L FUEL (nsb f 0) s) := by
  have key : ∀ (d K : Nat) (s : σ) (n : Nat), K + d = 192 → Inv K s → d < n → Q (L n (nsb f K) s) := by
    intro d
    induction d with
    | zero =>
      intro K s n e hi hn
      obtain rfl : K = 192 := by omega
      obtain ⟨m, rfl⟩ : ∃ m, n = m + 1 := ⟨n - 1, by omega⟩
      rw [nsb_end]
      exact hx s m hi
    | succ d ih =>
      intro K s n e hi hn
      obtain ⟨m, rfl⟩ : ∃ m, n = m + 1 := ⟨n - 1, by omega⟩
      rw [nsb_s (by omega)]
      by_cases q : f K = true
      · rw [if_pos q]
        exact hs K s m (by omega) q hi (fun s' hi' => ih (K + 1) s' m (by omega) hi' (by omega))
      · rw [if_neg q]
        exact ih (K + 1) s (m + 1) (by omega) (hk K s (by omega) (by simpa using q) hi) (by omega)
  intro s hi
  exact key 192 0 s FUEL (by omega) hi (by simp only [FUEL]; omega)
theorem apC_nat (G : Gr) (f : Nat → Option Bool) : ∀ n, ∃ m, m ≤ n ∧ apC G f n = nI m
  | 0 => ⟨0, Nat.le_refl _, rfl⟩
  | n + 1 => by
    obtain ⟨m, hm, e⟩ := apC_nat G f n
    have h1 : ∃ b, apC G f (n + 1) = apC G f n + bI b := by
      cases q : f n with
      | none => exact ⟨_, apC_none q⟩
      | some b => exact ⟨_, apC_some q⟩
    obtain ⟨b, hb⟩ := h1
    rw [hb, e]
    cases b
    · exact ⟨m, by omega, by rw [show bI false = nI 0 from rfl, nI_add]; rfl⟩
    · exact ⟨m + 1, by omega, by rw [show bI true = nI 1 from rfl, nI_add]⟩
theorem c_gi0R {h : AH} {D : CD} {G : Gr} (c : CR h D G) {R : Nat} (e : G.R = R) {K : Int32 → AH → Res} : o_gi 3 (some D.c) 0 K h = K (nI R) h := by subst e; exact c_gi0 c
theorem c_gi1R {h : AH} {D : CD} {G : Gr} (c : CR h D G) {R : Nat} (e : G.C = R) {K : Int32 → AH → Res} : o_gi 3 (some D.c) 1 K h = K (nI R) h := by subst e; exact c_gi1 c
/-- a tile of the map that is edited is put -/
theorem e_put {h1 s : AH} {P : CG} {Gk : Gr} (c1 : CK h1 P) (hR : Gk.R = P.2.R) (hG : GV Gk) (q : CR s P.1 Gk) (kf : Kf (rowW P.1 P.2.R) h1 s) {r k : Nat} (hr : r < Gk.R) (hk : k < Gk.C) (b : Bool) :
    ∃ s', tagIs 3 (some P.1.c) (f_X3_put (some P.1.c) (nI r) (nI k) (bI b)) s = some (some (vI (bI (Gk.l (Gk.C * r + k) != b))), s') ∧ CR s' P.1 (putG Gk (Gk.C * r + k) b) ∧ Kf (rowW P.1 P.2.R) h1 s' ∧ sz s' = sz s := by
  have ci : CI P.1 Gk.R 1595 := by rw [hR]; exact c1.2.2.1
  obtain ⟨s', u1, u2, u3⟩ := x_put q hG (ci.mono (by omega)) (Nat.le_refl 1024) hr hk b
  have cs : CK s (P.1, Gk) := ⟨q, hG, ci, fun r hr => by have hr : r < Gk.R := hr; rw [hR] at hr; exact c1.2.2.2 r hr⟩
  have k2 := u3.kf cs
  rw [hR] at k2
  exact ⟨s', u1, u2, kf.trans k2, u3.2.1⟩
theorem x_brushE {h1 : AH} {P : CG} {z : Value} {hh : List Nat} {e n : Nat} {tx : List Nat} (X : XB h1 P.1.c z hh e n tx) (c1 : CK h1 P) (x y rad : Int32) (b : Bool) :
    ∃ h2, f_X0_lambda_brush_2 (some 1024) x y rad (bI b) h1 = some (some (vI (apC P.2 (nearF P.2 x y rad b) P.2.N)), h2) ∧ CR h2 P.1 (apG P.2 (nearF P.2 x y rad b) P.2.N) ∧ Kf (rowW P.1 P.2.R) h1 h2 ∧ sz h2 ≤ sz h1 := by
  have hG := c1.2.1
  obtain ⟨⟨g1, g2, g3, g4, g5, g6⟩, g7⟩ := id hG
  unfold f_X0_lambda_brush_2
  have ci : CI P.1 P.2.R 1024 := c1.2.2.1.mono (by omega)
  refine loop2 (σ := AH) P.2.R P.2.C (by omega) (by omega) (fun n r s => f_X0_lambda_brush_2_6 n (some 1024) x y rad (bI b) (apC P.2 (nearF P.2 x y rad b) (P.2.C * r)) (nI r) s)
    (fun n m r k s => f_X0_lambda_brush_2_21 (f_X0_lambda_brush_2_6 n) m (some 1024) x y rad (bI b) (apC P.2 (nearF P.2 x y rad b) (P.2.C * r + k)) (nI r) (nI k) s)
    (fun K s => CR s P.1 (apG P.2 (nearF P.2 x y rad b) K) ∧ Kf (rowW P.1 P.2.R) h1 s ∧ sz s ≤ sz h1)
    (fun res => ∃ h2, res = some (some (vI (apC P.2 (nearF P.2 x y rad b) P.2.N)), h2) ∧ CR h2 P.1 (apG P.2 (nearF P.2 x y rad b) P.2.N) ∧ Kf (rowW P.1 P.2.R) h1 h2 ∧ sz h2 ≤ sz h1) ?_ ?_ ?_ ?_ h1 ⟨by rw [apG_0]; exact c1.1, Kf.rfl' _ _, Nat.le_refl _⟩
  · rintro s n' ⟨q1, q2, q3⟩
    rw [f_X0_lambda_brush_2_6_s]
    simp only
    have Y := X.kr q2
    rw [b_gr1 Y, c_gi0R q1 (R := P.2.R) rfl, if_pos (show nI P.2.R ≤ nI P.2.R from nI_le (Nat.le_refl _) (by omega))]
    exact ⟨s, rfl, q1, q2, q3⟩
  · rintro r s n' hr ⟨q1, q2, q3⟩ hk
    rw [f_X0_lambda_brush_2_6_s]
    simp only
    have Y := X.kr q2
    rw [b_gr1 Y, c_gi0R q1 (R := P.2.R) rfl, if_neg (show ¬ nI P.2.R ≤ nI r from nI_ge hr (by omega))]
    exact hk s ⟨q1, q2, q3⟩
  · rintro r s n' m hr ⟨q1, q2, q3⟩ hk
    rw [f_X0_lambda_brush_2_21_s]
    simp only
    have Y := X.kr q2
    rw [b_gr1 Y, c_gi1R q1 (R := P.2.C) rfl, if_pos (show nI P.2.C ≤ nI P.2.C from nI_le (Nat.le_refl _) (by omega)), o_let_eq, li1, nI_add]
    exact hk s (by rw [Nat.mul_succ]; exact ⟨q1, q2, q3⟩)
  · rintro r k s n' m hr hk hkN ⟨q1, q2, q3⟩ hn
    rw [f_X0_lambda_brush_2_21_s]
    simp only
    have Y := X.kr q2
    rw [b_gr1 Y, c_gi1R q1 (R := P.2.C) rfl, if_neg (show ¬ nI P.2.C ≤ nI k from nI_ge hk (by omega))]
    have e1 : (P.2.C * r + k) / P.2.C = r := rc_div hk
    have e2 : (P.2.C * r + k) % P.2.C = k := rc_mod hk
    have d93 : ∀ (t : Int32) s', f_X0_lambda_brush_2_93 (f_X0_lambda_brush_2_6 n') (f_X0_lambda_brush_2_21 (f_X0_lambda_brush_2_6 n') m) (some 1024) x y rad (bI b) (nI r) (nI k) (apC P.2 (nearF P.2 x y rad b) (P.2.C * r + k)) t s' = f_X0_lambda_brush_2_21 (f_X0_lambda_brush_2_6 n') m (some 1024) x y rad (bI b) (apC P.2 (nearF P.2 x y rad b) (P.2.C * r + k) + t) (nI r) (nI (k + 1)) s' := by
      intro t s'
      unfold f_X0_lambda_brush_2_93
      simp only [o_let_eq, li1, nI_add]
    unfold f_X0_lambda_brush_2_63 f_X0_lambda_brush_2_92
    by_cases q : rad * rad < (nI r - x) * (nI r - x) + (nI k - y) * (nI k - y)
    · have e : nearF P.2 x y rad b (P.2.C * r + k) = none := if_pos (by rw [e1, e2]; exact q)
      rw [if_pos q, if_pos rfl, d93]
      have := hn s ⟨by rw [apG_none e]; exact q1, q2, q3⟩
      rw [show P.2.C * r + (k + 1) = P.2.C * r + k + 1 from rfl, apC_none e] at this
      exact this
    · have e : nearF P.2 x y rad b (P.2.C * r + k) = some b := if_neg (by rw [e1, e2]; exact q)
      obtain ⟨s', u1, u2, u3, u4⟩ := e_put (Gk := apG P.2 (nearF P.2 x y rad b) (P.2.C * r + k)) c1 rfl (apG_GV hG _ _) q1 q2 (show r < P.2.R from hr) (show k < P.2.C from hk) b
      have := hn s' ⟨by rw [← apG_some e]; exact u2, u3, by omega⟩
      have el : (apG P.2 (nearF P.2 x y rad b) (P.2.C * r + k)).l (P.2.C * r + k) = P.2.l (P.2.C * r + k) := apG_l _ _ _
      have u1 : tagIs 3 (some P.1.c) (f_X3_put (some P.1.c) (nI r) (nI k) (bI b)) s = some (some (vI (bI ((apG P.2 (nearF P.2 x y rad b) (P.2.C * r + k)).l (P.2.C * r + k) != b))), s') := u1
      rw [el] at u1
      rw [if_neg q, if_neg (by decide), b_gr1 Y, o_ci_eq u1, ite_bI, d93, d93]
      rw [show P.2.C * r + (k + 1) = P.2.C * r + k + 1 from rfl, apC_some e] at this
      revert this
      cases (P.2.l (P.2.C * r + k) != b)
      · exact fun w => w
      · exact fun w => w
theorem x_smoothE {h1 : AH} {P : CG} {z : Value} {hh : List Nat} {e n : Nat} {tx : List Nat} (X : XB h1 P.1.c z hh e n tx) (c1 : CK h1 P) (x : Int32) (hz : sz h1 + 3000 < 1200000) :
    ∃ h2, f_X0_lambda_smooth_3 (some 1024) x h1 = some (some (vI (apC P.2 (smoF P.2 x) P.2.N)), h2) ∧ CR h2 P.1 (apG P.2 (smoF P.2 x) P.2.N) ∧ Kf (rowW P.1 P.2.R) h1 h2 ∧ sz h2 ≤ sz h1 + 1100 := by
  have hG := c1.2.1
  obtain ⟨⟨g1, g2, g3, g4, g5, g6⟩, g7⟩ := id hG
  unfold f_X0_lambda_smooth_3
  obtain ⟨h0, B, t1, t2, t3, t4, t5⟩ := x_same X c1 (by omega)
  rw [b_gr1 X, o_cr_eq t1]
  have cB0 : CK h0 (B, P.2) := CK.fresh t3 hG t4 X.2.1
  have dj : Dj P (B, P.2) := (Dj.fresh t4 c1).symm
  have c0 := c1.pf t2
  have X0 := X.pf t2
  have k0 : Kf (rowW P.1 P.2.R) h1 h0 := Kf.of_pf t2 X.2.1
  refine loop2 (σ := AH) P.2.R P.2.C (by omega) (by omega) (fun n r s => f_X0_lambda_smooth_3_14 n (some 1024) x (some B.c) (apC P.2 (smoF P.2 x) (P.2.C * r)) (nI r) s)
    (fun n m r k s => f_X0_lambda_smooth_3_29 (f_X0_lambda_smooth_3_14 n) m (some 1024) x (some B.c) (apC P.2 (smoF P.2 x) (P.2.C * r + k)) (nI r) (nI k) s)
    (fun K s => CR s P.1 (apG P.2 (smoF P.2 x) K) ∧ Kf (rowW P.1 P.2.R) h0 s ∧ sz s ≤ sz h0 + 2 * K)
    (fun res => ∃ h2, res = some (some (vI (apC P.2 (smoF P.2 x) P.2.N)), h2) ∧ CR h2 P.1 (apG P.2 (smoF P.2 x) P.2.N) ∧ Kf (rowW P.1 P.2.R) h1 h2 ∧ sz h2 ≤ sz h1 + 1100) ?_ ?_ ?_ ?_ h0 ⟨by rw [apG_0]; exact c0.1, Kf.rfl' _ _, by omega⟩
  · rintro s n' ⟨q1, q2, q3⟩
    rw [f_X0_lambda_smooth_3_14_s]
    simp only
    have Y := X0.kr q2
    rw [b_gr1 Y, c_gi0R q1 (R := P.2.R) rfl, if_pos (show nI P.2.R ≤ nI P.2.R from nI_le (Nat.le_refl _) (by omega))]
    have g5' : P.2.C * P.2.R ≤ 144 := g5
    exact ⟨s, rfl, q1, k0.trans q2, by omega⟩
  · rintro r s n' hr ⟨q1, q2, q3⟩ hk
    rw [f_X0_lambda_smooth_3_14_s]
    simp only
    have Y := X0.kr q2
    rw [b_gr1 Y, c_gi0R q1 (R := P.2.R) rfl, if_neg (show ¬ nI P.2.R ≤ nI r from nI_ge hr (by omega))]
    exact hk s ⟨q1, q2, q3⟩
  · rintro r s n' m hr ⟨q1, q2, q3⟩ hk
    rw [f_X0_lambda_smooth_3_29_s]
    simp only
    have Y := X0.kr q2
    rw [b_gr1 Y, c_gi1R q1 (R := P.2.C) rfl, if_pos (show nI P.2.C ≤ nI P.2.C from nI_le (Nat.le_refl _) (by omega)), o_let_eq, li1, nI_add]
    exact hk s (by rw [Nat.mul_succ]; exact ⟨q1, q2, q3⟩)
  · rintro r k s n' m hr hk hkN ⟨q1, q2, q3⟩ hn
    rw [f_X0_lambda_smooth_3_29_s]
    simp only
    have Y := X0.kr q2
    have cB : CK s (B, P.2) := cB0.kr q2 dj
    have g5' : P.2.C * P.2.R ≤ 144 := g5
    rw [b_gr1 Y, c_gi1R q1 (R := P.2.C) rfl, if_neg (show ¬ nI P.2.C ≤ nI k from nI_ge hk (by omega)), c_cr cB.1 (x_sur cB.1 hG (show r < P.2.R from hr) (show k < P.2.C from hk) (by omega)), o_gi_eq (mk_new s _) rfl, o_ci_eq (j_bitCount (sur_lt _ _) _)]
    have p3 : Pf s (s ++ [(2, [.int (nI (sur P.2 (P.2.C * r + k)))])]) := Pf.app _ _
    have z3 : sz (s ++ [(2, [.int (nI (sur P.2 (P.2.C * r + k)))])]) = sz s + 2 := sz_mask s _
    have z4 : sz (s ++ [(2, [.int (nI (sur (B, P.2).2 ((B, P.2).2.C * r + k)))])]) = sz s + 2 := sz_mask s _
    have cB3 := cB.pf p3
    have q13 := q1.pf p3
    have Y3 := Y.pf p3
    have q23 : Kf (rowW P.1 P.2.R) h0 _ := q2.trans (Kf.of_pf p3 Y.2.1)
    show ∃ h2, o_gr 3 (some B.c) 3 _ (s ++ [(2, [.int (nI (sur P.2 (P.2.C * r + k)))])]) = _ ∧ _
    generalize s ++ [(2, [.int (nI (sur P.2 (P.2.C * r + k)))])] = s3 at p3 z3 cB3 q13 Y3 q23 ⊢
    rw [c_gr3 cB3.1, c_row cB3.1 hG (show r < P.2.R from hr), c_l cB3.1 hG (show r < P.2.R from hr) (show k < P.2.C from hk), ite_bI]
    have d107 : ∀ (t : Int32) s', f_X0_lambda_smooth_3_107 (f_X0_lambda_smooth_3_14 n') (f_X0_lambda_smooth_3_29 (f_X0_lambda_smooth_3_14 n') m) (some 1024) x (some B.c) (nI r) (nI k) (apC P.2 (smoF P.2 x) (P.2.C * r + k)) t s' = f_X0_lambda_smooth_3_29 (f_X0_lambda_smooth_3_14 n') m (some 1024) x (some B.c) (apC P.2 (smoF P.2 x) (P.2.C * r + k) + t) (nI r) (nI (k + 1)) s' := by
      intro t s'
      unfold f_X0_lambda_smooth_3_107
      simp only [o_let_eq, li1, nI_add]
    have e96 : ∀ v : Bool, smoF P.2 x (P.2.C * r + k) = some v → ∃ h2, f_X0_lambda_smooth_3_96 (f_X0_lambda_smooth_3_14 n') (f_X0_lambda_smooth_3_29 (f_X0_lambda_smooth_3_14 n') m) (some 1024) x (some B.c) (nI r) (nI k) (apC P.2 (smoF P.2 x) (P.2.C * r + k)) (some P.1.c) (nI r) (nI k) (bI v) s3 = some (some (vI (apC P.2 (smoF P.2 x) P.2.N)), h2) ∧ CR h2 P.1 (apG P.2 (smoF P.2 x) P.2.N) ∧ Kf (rowW P.1 P.2.R) h1 h2 ∧ sz h2 ≤ sz h1 + 1100 := by
      intro v e
      obtain ⟨s', u1, u2, u3, u4⟩ := e_put (Gk := apG P.2 (smoF P.2 x) (P.2.C * r + k)) c0 rfl (apG_GV hG _ _) q13 q23 (show r < P.2.R from hr) (show k < P.2.C from hk) v
      have := hn s' ⟨by rw [← apG_some e]; exact u2, u3, by omega⟩
      have el : (apG P.2 (smoF P.2 x) (P.2.C * r + k)).l (P.2.C * r + k) = P.2.l (P.2.C * r + k) := apG_l _ _ _
      have u1 : tagIs 3 (some P.1.c) (f_X3_put (some P.1.c) (nI r) (nI k) (bI v)) s3 = some (some (vI (bI ((apG P.2 (smoF P.2 x) (P.2.C * r + k)).l (P.2.C * r + k) != v))), s') := u1
      rw [el] at u1
      unfold f_X0_lambda_smooth_3_96
      rw [o_ci_eq u1, ite_bI, d107, d107]
      rw [show P.2.C * r + (k + 1) = P.2.C * r + k + 1 from rfl, apC_some e] at this
      revert this
      cases (P.2.l (P.2.C * r + k) != v)
      · exact fun w => w
      · exact fun w => w
    have e73 : ∀ t : Int32, nI (popc (sur P.2 (P.2.C * r + k))) + t = suml P.2 (P.2.C * r + k) → ∃ h2, f_X0_lambda_smooth_3_73 (f_X0_lambda_smooth_3_14 n') (f_X0_lambda_smooth_3_29 (f_X0_lambda_smooth_3_14 n') m) (some 1024) x (some B.c) (apC P.2 (smoF P.2 x) (P.2.C * r + k)) (nI r) (nI k) (nI (popc (sur P.2 (P.2.C * r + k)))) t s3 = some (some (vI (apC P.2 (smoF P.2 x) P.2.N)), h2) ∧ CR h2 P.1 (apG P.2 (smoF P.2 x) P.2.N) ∧ Kf (rowW P.1 P.2.R) h1 h2 ∧ sz h2 ≤ sz h1 + 1100 := by
      intro t et
      unfold f_X0_lambda_smooth_3_73
      rw [o_let_eq, et, b_gr1 Y3]
      by_cases q : suml P.2 (P.2.C * r + k) < x
      · rw [if_pos q]
        exact e96 false (by unfold smoF; rw [decide_eq_false (fun w => w q)])
      · rw [if_neg q]
        exact e96 true (by unfold smoF; rw [decide_eq_true q])
    show ∃ h2, (if P.2.l (P.2.C * r + k) = true then f_X0_lambda_smooth_3_73 _ _ _ _ _ _ _ _ (nI (popc (sur P.2 (P.2.C * r + k)))) 1 s3 else f_X0_lambda_smooth_3_73 _ _ _ _ _ _ _ _ (nI (popc (sur P.2 (P.2.C * r + k)))) 0 s3) = _ ∧ _
    by_cases q : P.2.l (P.2.C * r + k) = true
    · rw [if_pos q]
      exact e73 1 (by unfold suml; rw [q]; rfl)
    · rw [if_neg q]
      exact e73 0 (by unfold suml; rw [show P.2.l (P.2.C * r + k) = false by simpa using q]; rfl)
