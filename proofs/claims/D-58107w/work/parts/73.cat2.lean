set_option maxRecDepth 100000
/-! what is asked of the catalogue -/
theorem MK_ge {h : AH} {k m : Nat} (hk : MK h k m) : 1024 ≤ k := by
  unfold MK hget at hk
  split at hk
  · assumption
  · exfalso
    unfold preobj at hk
    split at hk
    · simp at hk
    · split at hk
      · simp at hk
      · split at hk
        · simp at hk
        · split at hk
          · simp at hk
          · split at hk
            · simp at hk
            · split at hk
              · simp at hk
              · split at hk
                · simp at hk
                · split at hk
                  · simp at hk
                  · simp at hk
theorem acmp_m {h : AH} {kk k m m' : Nat} (hkk : MK h kk m') (hk : MK h k m) (hm : m < 256) (hm' : m' < 256) (A B : AH → Res) :
    o_acmp (some kk) (some k) (A h) (if (some k : Rf) = none then B h else (o_ci (tagIs 2 (some k) (f_X2_equals (some k) (some kk))) (fun x h => if x = 0 then B h else A h) h)) = if m' = m then A h else B h := by
  rw [if_neg (by simp)]
  have e2 : tagIs 2 (some k) (f_X2_equals (some k) (some kk)) h = some (some (vI (bI (decide (m = m')))), h) := (tagIs_eq hk).trans (x_equals hk hkk hm hm')
  have e1 := acmp_mask hkk hk hm hm' (A h) (B h) (fun _ => by
    have := MK_ge hkk
    have := MK_ge hk
    simp [okNe]; omega) (fun _ => trivial)
  rw [o_ci_eq e2] at e1 ⊢
  exact e1
def GoodN (h : AH) (r : Rf) (o : Option Nat) : Prop := match o with
  | none => r = none
  | some s => ∃ i a b nx, r = some i ∧ hget h i = some (10, [a, b, .ref (384 + s), nx]) ∧ s < 47
theorem look_cons (m' s m : Nat) (t : List (Nat × Nat)) : look ((m', s) :: t) m = if m' = m then some s else look t m := by
  unfold look
  by_cases e : m' = m
  · subst e; simp
  · rw [List.find?_cons_of_neg (by simpa using e), if_neg e]
theorem getN99 {h : AH} (c : Cat h) {k m : Nat} (hk : MK h k m) (hm : m < 256) : ∀ (l : List (Nat × Nat)) (i n : Nat), nodeB (.ref i) l = true → l.length < n + 1 → l ≠ [] →
    ∃ r, f_J4_getNode_99 n (some k) (some i) (nI m) h = some (some (vR r), h) ∧ GoodN h r (look l m)
  | [], _, _, _, _, hl => absurd rfl hl
  | (m', s) :: t, i, 0, _, hn, _ => by simp at hn
  | (m', s) :: t, i, n + 1, hb, hn, _ => by
    obtain ⟨i', kk, nx, e1, e2, e3, e4, e5, e6, e7, e8⟩ := nodeB_cons hb
    cases e1
    have g1 := c.at e2 e3
    have g2 : MK h kk m' := c.at e4 e5
    obtain ⟨r, er, er2⟩ := va_of e8
    rw [f_J4_getNode_99_s]
    simp only
    rw [o_gi_eq g1 rfl]
    have h137 : ∃ r, f_J4_getNode_137 (f_J4_getNode_99 n) (some k) (some i) (nI m) h = some (some (vR r), h) ∧ GoodN h r (look t m) := by
      unfold f_J4_getNode_137
      rw [o_gr_cat g1 (v := nx) rfl er]
      cases t with
      | nil =>
        have : r = none := er2.mpr rfl
        subst this
        exact ⟨none, rfl, rfl⟩
      | cons p t =>
        cases r with
        | none => exact absurd (er2.mp rfl) (by simp)
        | some j =>
          rw [if_neg (by simp)]
          have er : nx = .ref j := er
          rw [er] at e8
          exact getN99 c hk hm (p :: t) j n e8 (by simp at hn ⊢; omega) (by simp)
    rw [look_cons]
    by_cases q : m' = m
    · have ea := acmp_m g2 hk hm e6 (fun h => some (some (vR (some i)), h)) (fun h => f_J4_getNode_137 (f_J4_getNode_99 n) (some k) (some i) (nI m) h)
      rw [if_pos (by rw [q]), o_gr_eq g1 rfl, ea, if_pos q, if_pos q]
      exact ⟨some i, rfl, i, _, _, _, rfl, g1, e7⟩
    · rw [if_neg (by rw [nI_eq (by omega) (by omega)]; exact q), if_neg q]
      exact h137
theorem bin_and : ∀ m, m < 256 → (nI 64 - 1) &&& nI m = nI (m % 64) := by decide +kernel
theorem binL_len : ∀ b, b < 64 → (binL b).length < 50 := by decide +kernel
theorem getNode {h : AH} (c : Cat h) {k m : Nat} (hk : MK h k m) (hm : m < 256) : ∃ r, f_J4_getNode (some 1027) (some k) h = some (some (vR r), h) ∧ GoodN h r (look (binL (m % 64)) m) := by
  have g0 := c.at (by decide) cat_1027.1
  have g1 := c.at (by decide) cat_1247.1
  obtain ⟨hb, hv⟩ := cat_bin (m % 64) (Nat.mod_lt _ (by omega))
  have hlen := binL_len (m % 64) (Nat.mod_lt _ (by omega))
  unfold f_J4_getNode
  rw [o_gr_eq g0 cat_1027.2, if_neg (by simp), o_alen_eq g1 (by omega), cat_1247.2]
  show ∃ r, (if nI 64 ≤ 0 then _ else _) = _ ∧ _
  rw [if_neg (by decide), o_ci_eq (h_hash hk hm)]
  have e : Int32.ofNat 64 - 1 &&& nI m = nI (m % 64) := bin_and m hm
  rw [e]
  generalize binL (m % 64) = l at hb hlen ⊢
  cases l with
  | nil =>
    have hv2 := nodeB_nil hb
    rw [hv2] at hv
    rw [o_aldN_eq g1 (nI_pos (by omega)) (by rw [nI_clamp (by omega)]; exact hv), if_pos rfl]
    exact ⟨none, rfl, rfl⟩
  | cons p t =>
    obtain ⟨m', s⟩ := p
    obtain ⟨i, kk, nx, e1, e2, e3, e4, e5, e6, e7, e8⟩ := nodeB_cons hb
    rw [e1] at hv
    have n1 := c.at e2 e3
    have n2 : MK h kk m' := c.at e4 e5
    obtain ⟨r, er, er2⟩ := va_of e8
    rw [o_aldR_eq g1 (nI_pos (by omega)) (by rw [nI_clamp (by omega)]; exact hv), if_neg (by simp), o_gi_eq n1 rfl]
    have h71 : ∃ r, f_J4_getNode_71 (some k) (some i) (nI m) h = some (some (vR r), h) ∧ GoodN h r (look t m) := by
      unfold f_J4_getNode_71
      rw [o_gr_cat n1 (v := nx) rfl er]
      cases t with
      | nil =>
        have : r = none := er2.mpr rfl
        subst this
        exact ⟨none, rfl, rfl⟩
      | cons p t =>
        cases r with
        | none => exact absurd (er2.mp rfl) (by simp)
        | some j =>
          rw [if_neg (by simp), o_io_eq n1, if_pos rfl]
          have er : nx = .ref j := er
          rw [er] at e8
          exact getN99 c hk hm (p :: t) j FUEL e8 (by simp only [FUEL]; simp at hlen ⊢; omega) (by simp)
    rw [look_cons]
    by_cases q : m' = m
    · have ea := acmp_m n2 hk hm e6 (fun h => some (some (vR (some i)), h)) (fun h => f_J4_getNode_71 (some k) (some i) (nI m) h)
      rw [if_pos (by rw [q]), o_gr_eq n1 rfl, ea, if_pos q, if_pos q]
      exact ⟨some i, rfl, i, _, _, _, rfl, n1, e7⟩
    · rw [if_neg (by rw [nI_eq (by omega) (by omega)]; exact q), if_neg q]
      exact h71
theorem int_pre : ∀ s, s < 47 → preobj (384 + s) = some (11, [.int (nI s)]) := by decide +kernel
theorem x_shape {h : AH} (c : Cat h) {k m : Nat} (hk : MK h k m) (hm : m < 256) : f_X1_shape (some 1025) (some k) h = some (some (vI (shp m)), h) := by
  have g0 := c.at (by decide) cat_1025
  have g1 := c.at (by decide) cat_1027.1
  obtain ⟨r, e, g⟩ := getNode c hk hm
  have hget4 : ∃ r2, tagIs 9 (some 1027) (f_J4_get (some 1027) (some k)) h = some (some (vR r2), h) ∧ (match look (binL (m % 64)) m with
      | none => r2 = none
      | some s => r2 = some (384 + s) ∧ s < 47) := by
    rw [tagIs_eq g1]
    unfold f_J4_get
    rw [o_cr_eq ((tagIs_eq g1).trans e)]
    cases hl : look (binL (m % 64)) m with
    | none =>
      rw [hl] at g
      have g : r = none := g
      subst g
      exact ⟨none, rfl, rfl⟩
    | some s =>
      rw [hl] at g
      obtain ⟨i, a, b, nx, rfl, gi, hs⟩ := g
      rw [if_neg (by simp), o_gr_eq gi rfl]
      exact ⟨some (384 + s), rfl, rfl, hs⟩
  obtain ⟨r2, e2, g2⟩ := hget4
  unfold f_X1_shape
  rw [o_gr_eq g0 rfl, o_cr_eq e2, look_shp m hm]
  cases hl : look (binL (m % 64)) m with
  | none =>
    rw [hl] at g2
    have g2 : r2 = none := g2
    subst g2
    rfl
  | some s =>
    rw [hl] at g2
    obtain ⟨rfl, hs⟩ := g2
    have gp : hget h (384 + s) = some (11, [.int (nI s)]) := by
      unfold hget
      rw [if_neg (by omega)]
      exact int_pre s hs
    rw [o_cc_eq gp, if_neg (by simp)]
    have e3 : tagIs 11 (some (384 + s)) (f_J6_intValue (some (384 + s))) h = some (some (vI (nI s)), h) := by
      rw [tagIs_eq gp]
      unfold f_J6_intValue
      rw [o_gi_eq gp rfl]
    rw [o_ci_eq e3]
theorem x_mask {h : AH} (c : Cat h) {s : Nat} (hs : s < 47) : f_X1_mask (some 1025) (nI s) h = some (some (vR (some (mid s))), h) ∧ MK h (mid s) (msk s) := by
  have g0 := c.at (by decide) cat_1025
  have g1 := c.at (by decide) cat_1026
  have g2 := c.at (by decide) cat_1325
  obtain ⟨m1, m2, m3⟩ := cat_mid s hs
  have hk : MK h (mid s) (msk s) := c.at m2 m3
  refine ⟨?_, hk⟩
  unfold f_X1_mask
  rw [o_gr_eq g0 rfl]
  have e1 : f_J22_checkIndex (nI s) 47 h = some (some (vI (nI s)), h) := by
    unfold f_J22_checkIndex f_J15_checkIndex
    have : (if nI s < 0 then none else if nI s < 47 then some (some (vI (nI s)), h) else none : Res) = some (some (vI (nI s)), h) := by
      rw [if_neg (nI_pos (by omega)), if_pos (by rw [li47]; exact nI_lt hs (by omega))]
    rw [o_ci_eq this]
  have e2 : tagIs 8 (some 1026) (f_J2_elementData (some 1026) (nI s)) h = some (some (vR (some (mid s))), h) := by
    rw [tagIs_eq g1]
    unfold f_J2_elementData
    rw [o_gr_eq g1 rfl, o_aldR_eq g2 (nI_pos (by omega)) (by rw [nI_clamp (by omega)]; exact m1)]
  have e3 : tagIs 8 (some 1026) (f_J2_get (some 1026) (nI s)) h = some (some (vR (some (mid s))), h) := by
    rw [tagIs_eq g1]
    unfold f_J2_get
    rw [o_gi_eq g1 rfl, o_ci_eq e1, o_cr_eq e2]
  rw [o_cr_eq e3, o_cc_eq hk]
