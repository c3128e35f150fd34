set_option maxRecDepth 100000
/-! a map as an object, and what only reads it -/
abbrev CD : Type := Nat × Nat × Nat × (Nat → Nat) × (Nat → Nat)
abbrev CD.c (D : CD) : Nat := D.1
abbrev CD.a (D : CD) : Nat := D.2.1
abbrev CD.p (D : CD) : Nat := D.2.2.1
abbrev CD.rl (D : CD) : Nat → Nat := D.2.2.2.1
abbrev CD.rp (D : CD) : Nat → Nat := D.2.2.2.2
def arR (n : Nat) (f : Nat → Nat) : List Value := (List.range n).map fun k => .ref (f k)
theorem arR_len (n : Nat) (f : Nat → Nat) : (arR n f).length = n := by simp [arR]
theorem arR_get {n k : Nat} {f : Nat → Nat} (h : k < n) : (arR n f)[k]? = some (.ref (f k)) := by simp [arR, h]
def CR (h : AH) (D : CD) (G : Gr) : Prop := hget h D.c = some (3, [.int (nI G.R), .int (nI G.C), .int (bI G.o), .ref D.a, .ref D.p, .ref 1024]) ∧ hget h D.a = some (71, arR G.R D.rl) ∧ hget h D.p = some (72, arR G.R D.rp) ∧
  ∀ r, r < G.R → hget h (D.rl r) = some (65, arI G.C (fun c => bI (G.l (G.C * r + c)))) ∧ hget h (D.rp r) = some (64, arI G.C (fun c => G.p (G.C * r + c)))
theorem CR.pf {h h' : AH} {D : CD} {G : Gr} (p : Pf h h') (c : CR h D G) : CR h' D G :=
  ⟨p.get c.1, p.get c.2.1, p.get c.2.2.1, fun r hr => ⟨p.get (c.2.2.2 r hr).1, p.get (c.2.2.2 r hr).2⟩⟩
def Bs (h : AH) : Prop := Cat h ∧ 608 ≤ h.length ∧ ∃ c sv, hget h 1024 = some (0, [.ref 1025, .ref c, sv, .ref 1614, .ref 1615])
theorem Bs.pf {h h' : AH} (p : Pf h h') (b : Bs h) : Bs h' := by
  obtain ⟨b1, b2, c, sv, b3⟩ := b
  have := p.len
  exact ⟨b1.pf p (by omega), by omega, c, sv, p.get b3⟩
theorem Bs.cat {h : AH} {K : Rf → AH → Res} (b : Bs h) : o_gr 0 (some 1024) 0 K h = K (some 1025) h := by
  obtain ⟨_, _, c, sv, b3⟩ := b
  exact o_gr_eq b3 rfl
theorem c_gi0 {h : AH} {D : CD} {G : Gr} (c : CR h D G) {K : Int32 → AH → Res} : o_gi 3 (some D.c) 0 K h = K (nI G.R) h := o_gi_eq c.1 rfl
theorem c_gi1 {h : AH} {D : CD} {G : Gr} (c : CR h D G) {K : Int32 → AH → Res} : o_gi 3 (some D.c) 1 K h = K (nI G.C) h := o_gi_eq c.1 rfl
theorem c_gi2 {h : AH} {D : CD} {G : Gr} (c : CR h D G) {K : Int32 → AH → Res} : o_gi 3 (some D.c) 2 K h = K (bI G.o) h := o_gi_eq c.1 rfl
theorem c_gr3 {h : AH} {D : CD} {G : Gr} (c : CR h D G) {K : Rf → AH → Res} : o_gr 3 (some D.c) 3 K h = K (some D.a) h := o_gr_eq c.1 rfl
theorem c_gr4 {h : AH} {D : CD} {G : Gr} (c : CR h D G) {K : Rf → AH → Res} : o_gr 3 (some D.c) 4 K h = K (some D.p) h := o_gr_eq c.1 rfl
theorem c_gr5 {h : AH} {D : CD} {G : Gr} (c : CR h D G) {K : Rf → AH → Res} : o_gr 3 (some D.c) 5 K h = K (some 1024) h := o_gr_eq c.1 rfl
theorem c_tag {h : AH} {D : CD} {G : Gr} (c : CR h D G) {F : AH → Res} : tagIs 3 (some D.c) F h = F h := tagIs_eq c.1
theorem c_ci {h : AH} {D : CD} {G : Gr} (c : CR h D G) {f : AH → Res} {K : Int32 → AH → Res} {x : Int32} {h1 : AH} (hf : f h = some (some (vI x), h1)) : o_ci (tagIs 3 (some D.c) f) K h = K x h1 := o_ci_eq ((c_tag c).trans hf)
theorem c_cr {h : AH} {D : CD} {G : Gr} (c : CR h D G) {f : AH → Res} {K : Rf → AH → Res} {x : Rf} {h1 : AH} (hf : f h = some (some (vR x), h1)) : o_cr (tagIs 3 (some D.c) f) K h = K x h1 := o_cr_eq ((c_tag c).trans hf)
theorem c_row {h : AH} {D : CD} {G : Gr} (c : CR h D G) (hG : GV G) {r : Nat} (hr : r < G.R) {K : Rf → AH → Res} : o_aldR 71 (some D.a) (nI r) K h = K (some (D.rl r)) h := by
  have := hG.1
  exact o_aldR_eq c.2.1 (nI_pos (by omega)) (by rw [nI_clamp (by omega)]; exact arR_get hr)
theorem c_rowp {h : AH} {D : CD} {G : Gr} (c : CR h D G) (hG : GV G) {r : Nat} (hr : r < G.R) {K : Rf → AH → Res} : o_aldR 72 (some D.p) (nI r) K h = K (some (D.rp r)) h := by
  have := hG.1
  exact o_aldR_eq c.2.2.1 (nI_pos (by omega)) (by rw [nI_clamp (by omega)]; exact arR_get hr)
theorem c_l {h : AH} {D : CD} {G : Gr} (c : CR h D G) (hG : GV G) {r k : Nat} (hr : r < G.R) (hk : k < G.C) {K : Int32 → AH → Res} : o_aldI 65 (some (D.rl r)) (nI k) K h = K (bI (G.l (G.C * r + k))) h := by
  have := hG.1
  exact o_aldI_eq (c.2.2.2 r hr).1 (nI_pos (by omega)) (by rw [nI_clamp (by omega)]; exact arI_get hk)
theorem c_p {h : AH} {D : CD} {G : Gr} (c : CR h D G) (hG : GV G) {r k : Nat} (hr : r < G.R) (hk : k < G.C) {K : Int32 → AH → Res} : o_aldI 64 (some (D.rp r)) (nI k) K h = K (G.p (G.C * r + k)) h := by
  have := hG.1
  exact o_aldI_eq (c.2.2.2 r hr).2 (nI_pos (by omega)) (by rw [nI_clamp (by omega)]; exact arI_get hk)
theorem x_isTile {h : AH} {D : CD} {G : Gr} (c : CR h D G) (hG : GV G) (x y : Int32) : f_X3_isTile (some D.c) x y h = some (some (vI (bI (inG G x.toInt y.toInt))), h) := by
  obtain ⟨⟨g1, g2, g3, g4, g5, g6⟩, g7⟩ := id hG
  unfold f_X3_isTile
  rw [c_gi0 c, c_gi1 c, retz_0, retz_1]
  simp only [ite_retI, bI_ite]
  refine ret_cong ?_
  unfold inG
  rw [show (0 : Int32) = nI 0 from rfl]
  simp only [t_lt_nI (show 0 < 2 ^ 31 by omega), nI_le_t (show G.R < 2 ^ 31 by omega), nI_le_t (show G.C < 2 ^ 31 by omega)]
  by_cases a : (0 ≤ x.toInt ∧ x.toInt < G.R) ∧ 0 ≤ y.toInt ∧ y.toInt < G.C
  · rw [decide_eq_true a, if_neg (by omega), if_neg (by omega), if_neg (by omega), if_neg (by omega)]
  · rw [decide_eq_false a]
    repeat' split
    all_goals first | rfl | omega
theorem x_isLandAt {h : AH} {D : CD} {G : Gr} (c : CR h D G) (hG : GV G) (x y : Int32) : f_X3_isLandAt (some D.c) x y h = some (some (vI (bI (lat G x.toInt y.toInt))), h) := by
  unfold f_X3_isLandAt lat
  rw [c_ci c (x_isTile c hG x y), ite_bI]
  by_cases a : inG G x.toInt y.toInt = true
  · obtain ⟨r, k, hr, hk, rfl, rfl, e⟩ := inG_nI a
    rw [if_pos a, if_pos a, e, c_gr3 c, c_row c hG hr, c_l c hG hr hk, retz_bI]
  · rw [if_neg a, if_neg a, c_gi2 c, retz_bI]
theorem pre_steps : preobj 0 = some (74, ints [-1, -1, 0, 1, 1, 1, 0, -1]) ∧ preobj 1 = some (75, ints [0, 1, 1, 1, 0, -1, -1, -1]) := ⟨rfl, rfl⟩
theorem ld_rs {h : AH} {d : Nat} (hd : d < 8) {K : Int32 → AH → Res} : o_aldI 74 (some 0) (nI d) K h = K (dRI d) h := by
  have g : hget h 0 = some (74, ints [-1, -1, 0, 1, 1, 1, 0, -1]) := rfl
  refine o_aldI_eq g (nI_pos (by omega)) ?_
  rw [nI_clamp (by omega)]
  have : d = 0 ∨ d = 1 ∨ d = 2 ∨ d = 3 ∨ d = 4 ∨ d = 5 ∨ d = 6 ∨ d = 7 := by omega
  rcases this with e | e | e | e | e | e | e | e <;> subst e <;> rfl
theorem ld_cs {h : AH} {d : Nat} (hd : d < 8) {K : Int32 → AH → Res} : o_aldI 75 (some 1) (nI d) K h = K (dCI d) h := by
  have g : hget h 1 = some (75, ints [0, 1, 1, 1, 0, -1, -1, -1]) := rfl
  refine o_aldI_eq g (nI_pos (by omega)) ?_
  rw [nI_clamp (by omega)]
  have : d = 0 ∨ d = 1 ∨ d = 2 ∨ d = 3 ∨ d = 4 ∨ d = 5 ∨ d = 6 ∨ d = 7 := by omega
  rcases this with e | e | e | e | e | e | e | e <;> subst e <;> rfl
theorem x_isLandIn {h : AH} {D : CD} {G : Gr} (c : CR h D G) (hG : GV G) {r k d : Nat} (hr : r < G.R) (hk : k < G.C) (hd : d < 8) : f_X3_isLandIn (some D.c) (nI r) (nI k) (nI d) h = some (some (vI (bI (nb G (G.C * r + k) d))), h) := by
  have := hG.1
  unfold f_X3_isLandIn
  rw [ld_rs hd, ld_cs hd, c_ci c (x_isLandAt c hG _ _), nbr_t (by omega), nbc_t (by omega), retz_bI]
  unfold nb nbX nbY
  rw [rc_div hk, rc_mod hk]
theorem x_sur {h : AH} {D : CD} {G : Gr} (c : CR h D G) (hG : GV G) {r k : Nat} (hr : r < G.R) (hk : k < G.C) (hz : sz h + 2 ≤ 1200000) : f_X3_surroundings (some D.c) (nI r) (nI k) h = some (some (vR (some (1024 + h.length))), h ++ [(2, [.int (nI (sur G (G.C * r + k)))])]) := by
  unfold f_X3_surroundings
  refine loopE 8 (fun n i => f_X3_surroundings_5 n (some D.c) (nI r) (nI k) (nI (bitsT (nb G (G.C * r + k)) i)) (nI i) h) _ ?_ ?_ 0 FUEL (by omega) (by simp only [FUEL]; omega)
  · intro n
    rw [f_X3_surroundings_5_s]
    simp only
    rw [if_pos (by decide), new_mask hz]
    rfl
  · intro i n hi hk'
    rw [f_X3_surroundings_5_s]
    simp only
    rw [li8, if_neg (by rw [nI_leI (by omega) (by omega)]; omega), c_ci c (x_isLandIn c hG hr hk hi), ite_bI, ← hk']
    unfold f_X3_surroundings_32
    have e : bitsT (nb G (G.C * r + k)) (i + 1) = bitsT (nb G (G.C * r + k)) i ||| (if nb G (G.C * r + k) i then 2 ^ i else 0) := rfl
    split <;> rename_i q
    · rw [e, if_pos q, shl1_1 i hi]; simp only [o_let_eq, nI_or, li1, nI_add]
    · rw [e, if_neg q]; simp only [o_let_eq, li0, nI_or, li1, nI_add]
theorem x_rsh {h : AH} {D : CD} {G : Gr} (c : CR h D G) (hG : GV G) (b : Bs h) {r k : Nat} (hr : r < G.R) (hk : k < G.C) (hz : sz h + 4 ≤ 1200000) : Al 4 h (f_X3_rightShape (some D.c) (nI r) (nI k) h) (some (vI (rsh G (G.C * r + k)))) := by
  unfold f_X3_rightShape
  have hs := sur_lt G (G.C * r + k)
  rw [c_gr5 c, b.cat, c_cr c (x_sur c hG hr hk (by omega)), o_cr_eq (x_regular (mk_new h _) hs (by rw [sz_mask]; omega))]
  have p : Pf h ((h ++ [(2, [.int (nI (sur G (G.C * r + k)))])]) ++ [(2, [.int (nI (red (sur G (G.C * r + k))))])]) := (Pf.app _ _).trans (Pf.app _ _)
  have e := x_shape (b.pf p).1 (mk_new (h ++ [(2, [.int (nI (sur G (G.C * r + k)))])]) (red (sur G (G.C * r + k)))) (red_lt _ hs)
  rw [o_ci_eq ((tagIs_eq ((b.pf p).1.at (by decide) cat_1025)).trans e)]
  refine ⟨_, rfl, p, ?_⟩
  rw [sz_mask, sz_mask]; omega
theorem x_sha {h : AH} {D : CD} {G : Gr} (c : CR h D G) (hG : GV G) (b : Bs h) {r k : Nat} (hr : r < G.R) (hk : k < G.C) (hz : sz h + 4 ≤ 1200000) : Al 4 h (f_X3_shape (some D.c) (nI r) (nI k) h) (some (vI (sha G (G.C * r + k)))) := by
  unfold f_X3_shape sha
  rw [c_gr3 c, c_row c hG hr, c_l c hG hr hk, ite_bI, c_gr4 c, c_rowp c hG hr, c_p c hG hr hk, c_gr4 c, c_rowp c hG hr, c_p c hG hr hk]
  split
  · split
    · obtain ⟨h1, e, p, z⟩ := x_rsh c hG b hr hk hz
      rw [c_ci c e]
      exact ⟨h1, rfl, p, z⟩
    · exact Al.ret
  · exact Al.ret
theorem cat_tag1 {h : AH} (b : Bs h) {F : AH → Res} : tagIs 1 (some 1025) F h = F h := tagIs_eq (b.1.at (by decide) cat_1025)
theorem x_flt {h : AH} {D : CD} {G : Gr} (c : CR h D G) (hG : GV G) (b : Bs h) {r k : Nat} (hr : r < G.R) (hk : k < G.C) (hz : sz h + 8 ≤ 1200000) : Al 8 h (f_X3_faults (some D.c) (nI r) (nI k) h) (some (vI (nI (flt G (G.C * r + k))))) := by
  unfold f_X3_faults flt
  rw [c_gr3 c, c_row c hG hr, c_l c hG hr hk, ite_bI, c_gr5 c, b.cat]
  split
  · rename_i hl
    obtain ⟨s, hs, es⟩ := sha_ok hG (rc_lt hr hk) hl
    obtain ⟨t, ht, et⟩ := rsh_ok G (G.C * r + k)
    obtain ⟨h1, e, p, z⟩ := x_sha c hG b hr hk (by omega)
    have c1 := c.pf p
    have b1 := b.pf p
    obtain ⟨m1, m2⟩ := x_mask b1.1 hs
    rw [c_ci c e, es, o_cr_eq ((cat_tag1 b1).trans m1), c_gr5 c1, b1.cat]
    obtain ⟨h2, e2, p2, z2⟩ := x_rsh c1 hG b1 hr hk (by omega)
    have b2 := b1.pf p2
    obtain ⟨n1, n2⟩ := x_mask b2.1 ht
    rw [c_ci c1 e2, et, o_cr_eq ((cat_tag1 b2).trans n1), o_ci_eq (x_distance (m2.pf p2) n2 (msk_lt s hs) (msk_lt t ht)), nat_nI (by omega), nat_nI (by omega)]
    exact ⟨h2, rfl, p.trans p2, by omega⟩
  · exact Al.ret
theorem x_land {h : AH} {D : CD} {G : Gr} (c : CR h D G) (hG : GV G) : f_X3_land (some D.c) h = some (some (vI (lnd G)), h) := by
  obtain ⟨⟨g1, g2, g3, g4, g5, g6⟩, g7⟩ := id hG
  unfold f_X3_land
  rw [c_gr3 c, o_alen_eq c.2.1 (by omega), arR_len]
  refine loop2 (σ := Unit) G.R G.C (by omega) (by omega) (fun n r _ => f_X3_land_13 n (sm (fun k => bI (G.l k)) (G.C * r)) (some D.a) (nI G.R) (nI r) h)
    (fun n m r k _ => f_X3_land_37 (f_X3_land_13 n) m (sm (fun k => bI (G.l k)) (G.C * r + k)) (some D.a) (nI G.R) (nI r) (some (D.rl r)) (nI G.C) (nI k) h) (fun _ _ => True) (fun res => res = some (some (vI (lnd G)), h)) ?_ ?_ ?_ ?_ () trivial
  · intro _ n _
    rw [f_X3_land_13_s]
    simp only
    rw [if_pos (nI_le (Nat.le_refl _) (by omega))]; rfl
  · intro r _ n hr _ hk
    show f_X3_land_13 (n + 1) _ _ _ _ _ = _
    rw [f_X3_land_13_s]
    simp only
    rw [if_neg (nI_ge hr (by omega)), c_row c hG hr, o_alen_eq (c.2.2.2 r hr).1 (by omega), arI_len]
    exact hk () trivial
  · intro r _ n m hr _ hk
    show f_X3_land_37 _ (m + 1) _ _ _ _ _ _ _ _ = _
    rw [f_X3_land_37_s]
    simp only
    rw [if_pos (nI_le (Nat.le_refl _) (by omega)), o_let_eq, li1, nI_add]
    exact hk () trivial
  · intro r k _ n m hr hk _ _ hn
    show f_X3_land_37 _ (m + 1) _ _ _ _ _ _ _ _ = _
    rw [f_X3_land_37_s]
    simp only
    rw [if_neg (nI_ge hk (by omega)), c_l c hG hr hk, ite_bI]
    unfold f_X3_land_62
    simp only [o_let_eq, li1, nI_add]
    have := hn () trivial
    have e : sm (fun k => bI (G.l k)) (G.C * r + (k + 1)) = sm (fun k => bI (G.l k)) (G.C * r + k) + bI (G.l (G.C * r + k)) := rfl
    rw [e] at this
    revert this
    cases G.l (G.C * r + k)
    · exact fun w => w
    · exact fun w => w
