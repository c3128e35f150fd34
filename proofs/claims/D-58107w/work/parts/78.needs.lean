set_option maxRecDepth 100000
/-! needs: the component tries all masks -/
theorem popc_cnt : ∀ m, m < 256 → popc m = cntN (fun d => m.testBit d) 8 := by decide +kernel
theorem cntN_mono {f g : Nat → Bool} : ∀ {n : Nat}, (∀ d, d < n → f d = true → g d = true) → cntN f n ≤ cntN g n
  | 0, _ => Nat.le_refl _
  | n + 1, h => by
    have h1 := cntN_mono (n := n) (fun d hd => h d (by omega))
    have h2 := h n (by omega)
    unfold cntN
    by_cases e : f n = true
    · rw [if_pos e, if_pos (h2 e)]; omega
    · rw [if_neg e]; omega
theorem cntN_cong {f g : Nat → Bool} : ∀ {n : Nat}, (∀ d, d < n → f d = g d) → cntN f n = cntN g n
  | 0, _ => rfl
  | n + 1, h => by rw [cntN, cntN, cntN_cong (n := n) (fun d hd => h d (by omega)), h n (by omega)]
theorem star_lt (nw m : Nat) : star nw m < 256 := bitsT_lt _ 8
theorem red_mat : ∀ t, t < 256 → ∀ d, d < 8 → mat (red t) d = true → t.testBit d = (red t).testBit d := by decide +kernel
def chg (G : Gr) (k nw t : Nat) : Option Nat := if (List.range 8).any (fun d => oud G k d && (nw.testBit d != t.testBit d)) then none else some (popc (nw ^^^ t))
def toI (o : Option Nat) : Int32 := match o with
  | none => -6
  | some n => nI n
def numN (G : Gr) (k nw m t : Nat) : Option Nat := if red t = m then chg G k nw t else none
def lstN (f : Nat → Option Nat) : Nat → Option Nat
  | 0 => none
  | i + 1 => match f i with
    | none => lstN f i
    | some n => match lstN f i with
      | none => some n
      | some l => if n < l then some n else some l
theorem lstN_none {f : Nat → Option Nat} : ∀ {i : Nat}, (∀ t, t < i → f t = none) → lstN f i = none
  | 0, _ => rfl
  | i + 1, h => by
    rw [lstN, h i (by omega)]
    exact lstN_none (fun t ht => h t (by omega))
theorem lstN_min {f : Nat → Option Nat} {v : Nat} : ∀ {i : Nat}, (∀ t n, t < i → f t = some n → v ≤ n) → (∃ t, t < i ∧ f t = some v) → lstN f i = some v
  | 0, _, ⟨t, ht, _⟩ => absurd ht (by omega)
  | i + 1, h, ⟨t, ht, e⟩ => by
    rw [lstN]
    by_cases q : ∃ t, t < i ∧ f t = some v
    · have ih := lstN_min (i := i) (fun t n ht => h t n (by omega)) q
      cases hf : f i with
      | none => exact ih
      | some n =>
        have := h i n (by omega) hf
        simp only [ih]
        rw [if_neg (by omega)]
    · have hi : t = i := by
        by_cases w : t = i
        · exact w
        · exact absurd ⟨t, by omega, e⟩ q
      subst hi
      rw [e]
      simp only
      cases hl : lstN f t with
      | none => rfl
      | some l =>
        simp only
        by_cases w : v < l
        · rw [if_pos w]
        · exfalso
          -- l is some earlier value, hence v ≤ l; so l = v and it was found earlier
          have key : ∀ (j : Nat) (l : Nat), lstN f j = some l → ∃ t, t < j ∧ f t = some l := by
            intro j
            induction j with
            | zero => intro l h; cases h
            | succ j ih =>
              intro l hl
              rw [lstN] at hl
              cases hfj : f j with
              | none =>
                rw [hfj] at hl
                obtain ⟨t, a, b⟩ := ih l hl
                exact ⟨t, by omega, b⟩
              | some n =>
                rw [hfj] at hl
                simp only at hl
                cases hlj : lstN f j with
                | none =>
                  rw [hlj] at hl
                  simp only at hl
                  cases hl
                  exact ⟨j, by omega, hfj⟩
                | some l' =>
                  rw [hlj] at hl
                  simp only at hl
                  by_cases w : n < l'
                  · rw [if_pos w] at hl
                    cases hl
                    exact ⟨j, by omega, hfj⟩
                  · rw [if_neg w] at hl
                    have hl2 := Option.some.inj hl
                    subst hl2
                    obtain ⟨t, a, b⟩ := ih l' hlj
                    exact ⟨t, by omega, b⟩
          obtain ⟨t', a, b⟩ := key t l hl
          have := h t' l (by omega) b
          have e3 : l = v := by omega
          subst e3
          exact q ⟨t', a, b⟩
theorem sur_tb (G : Gr) (k : Nat) {d : Nat} (hd : d < 8) : (sur G k).testBit d = nb G k d := by
  unfold sur
  rw [bitsT_tb]
  simp [hd]
theorem popc_xor {a b : Nat} (ha : a < 256) (hb : b < 256) : popc (a ^^^ b) = cntN (fun d => a.testBit d != b.testBit d) 8 := by
  rw [popc_cnt _ (xor_lt256 ha hb)]
  exact cntN_cong (fun d _ => by rw [Nat.testBit_xor])
theorem ned_lst (G : Gr) (k : Nat) {s : Nat} (hs : s < 47) : toI (lstN (numN G k (sur G k) (msk s)) 256) = ned G k (msk s) := by
  have hsur := sur_lt G k
  unfold ned
  by_cases hb : (List.range 8).any (fun d => bad G k (msk s) d && oud G k d) = true
  · rw [if_pos hb]
    obtain ⟨d, hd, hbd⟩ := List.any_eq_true.mp hb
    have hd := List.mem_range.mp hd
    rw [Bool.and_eq_true] at hbd
    rw [lstN_none]
    · rfl
    · intro t ht
      unfold numN
      split
      · rename_i er
        unfold chg
        rw [if_pos]
        refine List.any_eq_true.mpr ⟨d, List.mem_range.mpr hd, ?_⟩
        have h1 := hbd.1
        unfold bad at h1
        rw [Bool.and_eq_true] at h1
        have h2 := red_mat t ht d hd (by rw [er]; exact h1.1)
        rw [er] at h2
        rw [hbd.2, sur_tb G k hd, h2]
        simpa using h1.2
      · rfl
  · rw [if_neg hb]
    have hb' : ∀ d, d < 8 → bad G k (msk s) d = true → oud G k d = false := by
      intro d hd h1
      have hb2 : (List.range 8).any (fun d => bad G k (msk s) d && oud G k d) = false := by simpa using hb
      rw [List.any_eq_false] at hb2
      have := hb2 d (List.mem_range.mpr hd)
      rw [h1] at this
      simpa using this
    have hstar : ∀ d, d < 8 → (((sur G k).testBit d != (star (sur G k) (msk s)).testBit d) = bad G k (msk s) d) := by
      intro d hd
      unfold star bad
      rw [bitsT_tb, sur_tb G k hd]
      simp only [hd, decide_true, Bool.true_and]
      by_cases hm : mat (msk s) d = true
      · rw [if_pos hm, hm]; simp
      · have hm' : mat (msk s) d = false := by simpa using hm
        rw [if_neg hm, hm']; simp
    have e : lstN (numN G k (sur G k) (msk s)) 256 = some (cntN (bad G k (msk s)) 8) := by
      refine lstN_min ?_ ⟨star (sur G k) (msk s), star_lt _ _, ?_⟩
      · intro t n ht hn
        unfold numN at hn
        split at hn
        · rename_i er
          unfold chg at hn
          split at hn
          · cases hn
          · cases hn
            rw [popc_xor hsur ht]
            refine cntN_mono (fun d hd h1 => ?_)
            unfold bad at h1
            rw [Bool.and_eq_true] at h1
            have h2 := red_mat t ht d hd (by rw [er]; exact h1.1)
            rw [er] at h2
            rw [sur_tb G k hd, h2]
            exact h1.2
        · cases hn
      · unfold numN
        rw [if_pos (star_red s hs _ hsur)]
        unfold chg
        rw [if_neg]
        · rw [popc_xor hsur (star_lt _ _)]
          exact congrArg some (cntN_cong (fun d hd => hstar d hd))
        · intro w
          obtain ⟨d, hd, hw⟩ := List.any_eq_true.mp w
          have hd := List.mem_range.mp hd
          rw [Bool.and_eq_true, hstar d hd] at hw
          rw [hb' d hd hw.2] at hw
          exact absurd hw.1 (by simp)
    rw [e]
    rfl
theorem x_changes {h : AH} {D : CD} {G : Gr} (x : XC h D G) {r c kn kt nw t : Nat} (hr : r < G.R) (hc : c < G.C) (h1 : MK h kn nw) (h2 : MK h kt t) (hn : nw < 256) (ht : t < 256) :
    tagIs 0 (some 1024) (f_X0_changes (some 1024) (nI r) (nI c) (some kn) (some kt)) h = some (some (vI (toI (chg G (G.C * r + c) nw t))), h) := by
  have hg := x.gv.1
  rw [t_tag x]
  unfold f_X0_changes
  refine loop1 (σ := Unit) 8 (fun n i _ => f_X0_changes_3 n (some 1024) (nI r) (nI c) (some kn) (some kt) (nI i) h) (fun i _ => ∀ d, d < i → (oud G (G.C * r + c) d && (nw.testBit d != t.testBit d)) = false)
    (fun res => res = some (some (vI (toI (chg G (G.C * r + c) nw t))), h)) ?_ ?_ 0 () FUEL (by omega) (fun d hd => absurd hd (by omega)) (by simp only [FUEL]; omega)
  · intro _ n hI
    show f_X0_changes_3 (n + 1) _ _ _ _ _ _ _ = _
    rw [f_X0_changes_3_s]
    simp only
    rw [if_pos (by decide), o_ci_eq (x_distance h1 h2 hn ht)]
    unfold chg
    rw [if_neg]
    · rfl
    · intro w
      obtain ⟨d, hd, hw⟩ := List.any_eq_true.mp w
      rw [hI d (List.mem_range.mp hd)] at hw
      cases hw
  · intro i _ n hi hI hk
    have e1 := nbr_t (r := r) (by omega) i
    have e2 := nbc_t (r := c) (by omega) i
    show f_X0_changes_3 (n + 1) _ _ _ _ _ _ _ = _
    rw [f_X0_changes_3_s]
    simp only
    rw [if_neg (by rw [li8, nI_leI (by omega) (by omega)]; omega), t_gr1 x, ld_rs hi, ld_cs hi, c_ci x.cr (x_isTile x.cr x.gv _ _), e1, e2, ite_bI]
    unfold f_X0_changes_41 f_X0_changes_67
    simp only [o_let_eq, li1, nI_add]
    have eo : oud G (G.C * r + c) i = !inG G (r + dR i) (c + dC i) := by
      unfold oud nbX nbY
      rw [rc_div hc, rc_mod hc]
    by_cases a : inG G (r + dR i) (c + dC i) = true
    · rw [if_pos a, if_pos trivial]
      refine hk () (fun d hd => ?_)
      by_cases e : d = i
      · subst e; rw [eo, a]; rfl
      · exact hI d (by omega)
    · rw [if_neg a, if_neg (by decide), o_ci_eq (x_has' h1 hn hi), o_ci_eq (x_has' h2 ht hi)]
      simp only [bI_inj]
      by_cases b : nw.testBit i = t.testBit i
      · rw [if_pos b]
        refine hk () (fun d hd => ?_)
        by_cases e : d = i
        · subst e; rw [b]; simp
        · exact hI d (by omega)
      · rw [if_neg b]
        have : chg G (G.C * r + c) nw t = none := by
          unfold chg
          rw [if_pos]
          refine List.any_eq_true.mpr ⟨i, List.mem_range.mpr hi, ?_⟩
          rw [eo]
          have a' : inG G (r + dR i) (c + dC i) = false := by simpa using a
          rw [a']
          simpa using b
        rw [this]; rfl
theorem chg_le {G : Gr} {k nw t n : Nat} (hn : nw < 256) (ht : t < 256) (h : chg G k nw t = some n) : n ≤ 8 := by
  unfold chg at h
  split at h
  · cases h
  · cases h
    exact popc_le _ (xor_lt256 hn ht)
theorem lstN_le {f : Nat → Option Nat} (h : ∀ t n, f t = some n → n ≤ 8) : ∀ (i n : Nat), lstN f i = some n → n ≤ 8
  | 0, n, e => by cases e
  | i + 1, n, e => by
    rw [lstN] at e
    cases hf : f i with
    | none =>
      rw [hf] at e
      exact lstN_le h i n e
    | some m =>
      have hm := h i m hf
      rw [hf] at e
      simp only at e
      cases hl : lstN f i with
      | none =>
        rw [hl] at e
        simp only at e
        cases e
        exact hm
      | some l =>
        rw [hl] at e
        simp only at e
        split at e
        · have e2 := Option.some.inj e
          subst e2; exact hm
        · have e2 := Option.some.inj e
          subst e2; exact lstN_le h i l hl
theorem xo_needs {h : AH} {D : CD} {G : Gr} (x : XC h D G) (a b s : Int32) (hz : sz h + 1030 ≤ 1200000) : Al 1030 h (f_X0_needs (some 1024) a b s h) (some (vI (a_needs G a b s))) := by
  unfold f_X0_needs a_needs
  rw [t_gr1 x, c_ci x.cr (x_isTile x.cr x.gv a b), ite_bI]
  by_cases hin : inG G a.toInt b.toInt = true
  · rw [if_pos hin, o_ci_eq (x_isShape _ _), ite_bI]
    by_cases hsh : 0 ≤ s.toInt ∧ s.toInt ≤ 46
    · rw [if_pos (decide_eq_true hsh), if_pos ⟨hin, hsh⟩]
      obtain ⟨r, c, hr, hc, rfl, rfl, e⟩ := inG_nI hin
      obtain ⟨s, hs, rfl⟩ := shp_or.mp hsh
      obtain ⟨m1, m2⟩ := x_mask x.1 hs
      rw [e, nat_nI (by omega), x.bs.cat, o_cr_eq ((cat_tag1 x.bs).trans m1), t_gr1 x, c_cr x.cr (x_sur x.cr x.gv hr hc (by omega))]
      generalize hk : G.C * r + c = k
      have p0 : Pf h (h ++ [(2, [.int (nI (sur G k))])]) := Pf.app _ _
      have z0 := sz_mask h (nI (sur G k))
      have hsur := sur_lt G k
      let f := numN G k (sur G k) (msk s)
      have hf8 : ∀ t n, t < 256 → f t = some n → n ≤ 8 := by
        intro t n ht hn
        have hn : numN G k (sur G k) (msk s) t = some n := hn
        unfold numN at hn
        split at hn
        · exact chg_le hsur ht hn
        · cases hn
      have hl8 : ∀ i n, i ≤ 256 → lstN f i = some n → n ≤ 8 := by
        intro i n hi hn
        let f' : Nat → Option Nat := fun t => if t < 256 then f t else none
        have e : ∀ j, j ≤ 256 → lstN f' j = lstN f j := by
          intro j
          induction j with
          | zero => intro _; rfl
          | succ j ih =>
            intro hj
            have : f' j = f j := if_pos (by omega)
            rw [lstN, lstN, this, ih (by omega)]
        rw [← e i hi] at hn
        refine lstN_le (f := f') (fun t n ht => ?_) i n hn
        have ht : (if t < 256 then f t else none) = some n := ht
        split at ht
        · exact hf8 t n (by assumption) ht
        · cases ht
      rw [← ned_lst G k hs]
      refine loop1 (σ := AH) 256 (fun n i g => f_X0_needs_49 n (some 1024) (nI r) (nI c) (some (mid s)) (some (1024 + h.length)) (toI (lstN f i)) (nI i) g) (fun i g => Pf (h ++ [(2, [.int (nI (sur G k))])]) g ∧ sz g ≤ sz h + 2 + 4 * i)
        (fun res => Al 1030 h res (some (vI (toI (lstN f 256))))) ?_ ?_ 0 (h ++ [(2, [.int (nI (sur G k))])]) FUEL (by omega) ⟨Pf.refl _, by omega⟩ (by simp only [FUEL]; omega)
      · intro g n hg
        rw [f_X0_needs_49_s]
        simp only
        rw [if_pos (by decide)]
        exact ⟨g, rfl, p0.trans hg.1, by have := hg.2; omega⟩
      · intro i g n hi hg hnx
        have hzg := hg.2
        rw [f_X0_needs_49_s]
        simp only
        rw [if_neg (by rw [li256, nI_leI (by omega) (by omega)]; omega), new_mask (by omega)]
        have p1 : Pf g (g ++ [(2, [.int (nI i)])]) := Pf.app _ _
        have mi := mk_new g i
        have z1 := sz_mask g (nI i)
        rw [o_cr_eq (x_regular mi hi (by omega))]
        have p2 : Pf (g ++ [(2, [.int (nI i)])]) ((g ++ [(2, [.int (nI i)])]) ++ [(2, [.int (nI (red i))])]) := Pf.app _ _
        have z2 := sz_mask (g ++ [(2, [.int (nI i)])]) (nI (red i))
        have mr := mk_new (g ++ [(2, [.int (nI i)])]) (red i)
        generalize hg2 : (g ++ [(2, [.int (nI i)])]) ++ [(2, [.int (nI (red i))])] = g2 at p2 z2 mr
        have pp : Pf h g2 := ((p0.trans hg.1).trans p1).trans p2
        have mi2 := mi.pf p2
        have mw : MK g2 (mid s) (msk s) := m2.pf pp
        have mn : MK g2 (1024 + h.length) (sur G k) := (mk_new h (sur G k)).pf ((hg.1.trans p1).trans p2)
        have pg2 : Pf (h ++ [(2, [.int (nI (sur G k))])]) g2 := (hg.1.trans p1).trans p2
        rw [o_ci_eq ((tagIs_eq mr).trans (x_equals mr mw (red_lt i hi) (msk_lt s hs))), ite_bI]
        have h96 : ∀ o : Option Nat, o = f i → f_X0_needs_96 (f_X0_needs_49 n) (some 1024) (nI r) (nI c) (some (mid s)) (some (1024 + h.length)) (toI (lstN f i)) (nI i) (toI o) g2 = f_X0_needs_49 n (some 1024) (nI r) (nI c) (some (mid s)) (some (1024 + h.length)) (toI (lstN f (i + 1))) (nI (i + 1)) g2 := by
          intro o ho
          unfold f_X0_needs_96 f_X0_needs_124 f_X0_needs_119 f_X0_needs_126
          simp only [o_let_eq, li1, nI_add]
          rw [lstN, ← ho]
          cases o with
          | none => rw [show toI none = -6 from rfl, if_pos rfl]
          | some v =>
            have hv := hf8 i v hi ho.symm
            have e1 : toI (some v) = nI v := rfl
            rw [e1]
            simp only [nI_m6 (show v < 2 ^ 31 by omega), if_false]
            cases hl : lstN f i with
            | none => rw [show toI none = -6 from rfl, if_pos rfl]; rfl
            | some l =>
              have hl' := hl8 i l (by omega) hl
              have e2 : toI (some l) = nI l := rfl
              rw [e2]
              simp only [nI_m6 (show l < 2 ^ 31 by omega), if_false]
              by_cases w : v < l
              · rw [if_neg (nI_ge w (by omega)), if_pos w]; rfl
              · rw [if_pos (nI_le (by omega) (by omega)), if_neg w]; rfl
        have hI2 : Pf (h ++ [(2, [.int (nI (sur G k))])]) g2 ∧ sz g2 ≤ sz h + 2 + 4 * (i + 1) := ⟨pg2, by omega⟩
        have fi : f i = if red i = msk s then chg G k (sur G k) i else none := rfl
        by_cases q : red i = msk s
        · rw [if_pos (decide_eq_true q)]
          have xc := x_changes (x.pf pp) hr hc mn mi2 hsur hi
          rw [hk] at xc
          rw [o_ci_eq xc, h96 _ (by rw [fi, if_pos q])]
          exact hnx g2 hI2
        · rw [if_neg (by simpa using q)]
          have : (-6 : Int32) = toI none := rfl
          rw [this, h96 none (by rw [fi, if_neg q])]
          exact hnx g2 hI2
    · rw [if_neg (fun q => hsh (of_decide_eq_true q)), if_neg (fun q => hsh q.2)]
      exact Al.ret
  · rw [if_neg hin, if_neg (fun q => hin q.1)]
    exact Al.ret
