set_option maxRecDepth 100000
/-! BitSet -/
theorem Pf.of {h0 h : AH} (hl : h0.length ≤ h.length) (e : ∀ i, i < 1024 + h0.length → hget h i = hget h0 i) : Pf h0 h := by
  refine ⟨h.drop h0.length, ?_⟩
  apply List.ext_getElem?
  intro i
  by_cases hi : i < h0.length
  · have := e (1024 + i) (by omega)
    unfold hget at this
    rw [if_pos (by omega), if_pos (by omega), show 1024 + i - 1024 = i by omega] at this
    rw [this, List.getElem?_append_left hi]
  · rw [List.getElem?_append_right (by omega), List.getElem?_drop]
    congr 1; omega
/-- lowest bit -/
def LB (w j : Nat) : Prop := w.testBit j = true ∧ ∀ i, i < j → w.testBit i = false
theorem LB_dec {w j : Nat} (h : LB w j) : ∃ q, w = 2 ^ j * (2 * q + 1) := by
  have h0 : w % 2 ^ j = 0 := by
    apply Nat.eq_of_testBit_eq
    intro i
    rw [Nat.testBit_mod_two_pow, Nat.zero_testBit]
    by_cases hi : i < j
    · rw [h.2 i hi]; simp
    · simp [hi]
  have h1 : (w / 2 ^ j) % 2 = 1 := by
    have := h.1
    rw [Nat.testBit_eq_decide_div_mod_eq] at this
    exact of_decide_eq_true this
  refine ⟨w / 2 ^ j / 2, ?_⟩
  have h2 : 2 * (w / 2 ^ j / 2) + 1 = w / 2 ^ j := by omega
  rw [h2]
  have := Nat.div_add_mod w (2 ^ j)
  omega
theorem low_mask {v j : Nat} (hv : v < 2 ^ 32) (h : LB v j) : (2 ^ 32 - (v + 1)) &&& (v - 1) = 2 ^ j - 1 := by
  obtain ⟨q, e⟩ := LB_dec h
  have hp : 0 < 2 ^ j := Nat.pow_pos (by omega)
  have e1 : v - 1 = 2 ^ j * (2 * q) + (2 ^ j - 1) := by
    rw [e, Nat.mul_add, Nat.mul_one]; omega
  apply Nat.eq_of_testBit_eq
  intro i
  rw [Nat.testBit_and, Nat.testBit_two_pow_sub_succ hv, Nat.testBit_two_pow_sub_one, e1, Nat.testBit_two_pow_mul_add _ (by omega)]
  by_cases hi : i < j
  · rw [if_pos hi, Nat.testBit_two_pow_sub_one, h.2 i hi]
    have : i < 32 := by
      have h3 : j < 32 := by
        by_cases w : j < 32
        · exact w
        · have : 2 ^ 32 ≤ 2 ^ j := Nat.pow_le_pow_right (by omega) (by omega)
          have : 2 ^ j ≤ v := by rw [e, Nat.mul_add, Nat.mul_one]; omega
          omega
      omega
    simp [hi, this]
  · rw [if_neg hi]
    by_cases e2 : i = j
    · subst e2
      rw [h.1]; simp
    · have hq : (2 * q).testBit (i - j) = v.testBit i := by
        have e3 : v = 2 ^ j * (2 * q + 1) + 0 := by rw [e]; rfl
        rw [e3, Nat.testBit_two_pow_mul_add _ hp, if_neg hi]
        obtain ⟨k, hk⟩ : ∃ k, i - j = k + 1 := ⟨i - j - 1, by omega⟩
        rw [hk, Nat.testBit_succ, Nat.testBit_succ]
        congr 1; omega
      rw [hq]
      simp [hi]
theorem mask_I {v j : Nat} (hv : v < 2 ^ 32) (h : LB v j) : (nI v ^^^ (-1)) &&& (nI v - 1) = nI (2 ^ j - 1) := by
  have hpos : 1 ≤ v := by
    rcases Nat.eq_zero_or_pos v with e | e
    · subst e; have := h.1; simp at this
    · exact e
  have e1 : nI v ^^^ (-1) = nI (2 ^ 32 - (v + 1)) := by
    apply Int32.toBitVec_inj.mp
    show BitVec.ofNat 32 v ^^^ BitVec.allOnes 32 = BitVec.ofNat 32 _
    rw [BitVec.xor_allOnes]
    apply BitVec.eq_of_toNat_eq
    rw [BitVec.toNat_not, BitVec.toNat_ofNat, BitVec.toNat_ofNat, Nat.mod_eq_of_lt hv, Nat.mod_eq_of_lt (by omega)]
    omega
  have e2 : nI v - 1 = nI (v - 1) := by rw [li1, pk_sub hpos]
  rw [e1, e2]
  apply Int32.toBitVec_inj.mp
  show BitVec.ofNat 32 _ &&& BitVec.ofNat 32 _ = BitVec.ofNat 32 _
  apply BitVec.eq_of_toNat_eq
  rw [BitVec.toNat_and, BitVec.toNat_ofNat, BitVec.toNat_ofNat, BitVec.toNat_ofNat, Nat.mod_eq_of_lt (show 2 ^ 32 - (v + 1) < 2 ^ 32 by omega), Nat.mod_eq_of_lt (show v - 1 < 2 ^ 32 by omega), low_mask hv h]
  have := low_mask hv h
  have h2 : 2 ^ j - 1 < 2 ^ 32 := by rw [← this]; exact Nat.lt_of_le_of_lt Nat.and_le_right (by omega)
  rw [Nat.mod_eq_of_lt h2]
theorem j_ntz {v j : Nat} (hv : v < 2 ^ 32) (hl : LB v j) (hj : j < 32) (h : AH) : f_J6_numberOfTrailingZeros (nI v) h = some (some (vI (nI j)), h) := by
  unfold f_J6_numberOfTrailingZeros
  rw [mask_I hv hl, o_let_eq]
  have : j = 0 ∨ j = 1 ∨ j = 2 ∨ j = 3 ∨ j = 4 ∨ j = 5 ∨ j = 6 ∨ j = 7 ∨ j = 8 ∨ j = 9 ∨ j = 10 ∨ j = 11 ∨ j = 12 ∨ j = 13 ∨ j = 14 ∨ j = 15 ∨ j = 16 ∨ j = 17 ∨ j = 18 ∨ j = 19 ∨ j = 20 ∨ j = 21 ∨ j = 22 ∨ j = 23 ∨ j = 24 ∨ j = 25 ∨ j = 26 ∨ j = 27 ∨ j = 28 ∨ j = 29 ∨ j = 30 ∨ j = 31 := by omega
  clear hl
  rcases this with e | e | e | e | e | e | e | e | e | e | e | e | e | e | e | e | e | e | e | e | e | e | e | e | e | e | e | e | e | e | e | e <;> subst e <;> rfl
theorem j_ntz64 {w j : Nat} (hw : w < 2 ^ 64) (hl : LB w j) (hj : j < 64) (h : AH) : f_J14_numberOfTrailingZeros (lN w) h = some (some (vI (nI j)), h) := by
  unfold f_J14_numberOfTrailingZeros
  rw [o_let_eq, lN_i]
  have em : nI w = nI (w % 2 ^ 32) := by
    apply Int32.toBitVec_inj.mp
    show BitVec.ofNat 32 w = BitVec.ofNat 32 _
    apply BitVec.eq_of_toNat_eq
    rw [BitVec.toNat_ofNat, BitVec.toNat_ofNat, Nat.mod_mod]
  have hz : (nI w = 0) ↔ w % 2 ^ 32 = 0 := by
    rw [em]
    constructor
    · intro e
      have := congrArg (fun x : Int32 => x.toBitVec.toNat) e
      have h2 : (BitVec.ofNat 32 (w % 2 ^ 32)).toNat = (BitVec.ofNat 32 0).toNat := this
      rw [BitVec.toNat_ofNat, BitVec.toNat_ofNat] at h2
      omega
    · intro e; rw [e]; rfl
  by_cases h32 : j < 32
  · have hv : LB (w % 2 ^ 32) j := by
      refine ⟨?_, fun i hi => ?_⟩
      · rw [Nat.testBit_mod_two_pow, hl.1]; simp [h32]
      · rw [Nat.testBit_mod_two_pow, hl.2 i hi]; simp
    have hne : ¬ nI w = 0 := by
      rw [hz]
      intro e
      have := hv.1
      rw [e] at this
      simp at this
    rw [if_neg hne, em, o_ci_eq (j_ntz (Nat.mod_lt _ (by omega)) hv h32 h)]
  · have h0 : w % 2 ^ 32 = 0 := by
      apply Nat.eq_of_testBit_eq
      intro i
      rw [Nat.testBit_mod_two_pow, Nat.zero_testBit]
      by_cases hi : i < 32
      · rw [hl.2 i (by omega)]; simp
      · simp [hi]
    have hv : LB (w / 2 ^ 32) (j - 32) := by
      refine ⟨?_, fun i hi => ?_⟩
      · rw [Nat.testBit_div_two_pow, show j - 32 + 32 = j by omega]; exact hl.1
      · rw [Nat.testBit_div_two_pow]; exact hl.2 _ (by omega)
    rw [if_pos (hz.mpr h0), show (32 : Int32) = nI 32 from rfl, wb_shr hw (by omega), lN_i, o_ci_eq (j_ntz (by omega) hv (by omega) h), nI_add]
    rw [show 32 + (j - 32) = j by omega]
def loW (L : Nat) (W : Nat → Nat) : List Value := (List.range L).map (fun i => .long (lN (W i)))
theorem loW_len (L : Nat) (W : Nat → Nat) : (loW L W).length = L := by simp [loW]
theorem loW_get {L i : Nat} {W : Nat → Nat} (h : i < L) : (loW L W)[i]? = some (.long (lN (W i))) := by simp [loW, h]
def upN (W : Nat → Nat) (i x : Nat) : Nat → Nat := fun j => if j = i then x else W j
theorem loW_set {L i x : Nat} {W : Nat → Nat} : (loW L W).set i (.long (lN x)) = loW L (upN W i x) := by
  apply List.ext_getElem?
  intro k
  by_cases hk : k < L
  · rw [loW_get hk]
    by_cases e : k = i
    · subst e; rw [List.getElem?_set_self (by rw [loW_len]; exact hk)]; simp [upN]
    · rw [List.getElem?_set_ne (by omega), loW_get hk]; simp [upN, e]
  · rw [List.getElem?_eq_none (by rw [List.length_set, loW_len]; omega), List.getElem?_eq_none (by rw [loW_len]; omega)]
/-- the bit set b, its words at wa: u words in use of L -/
def BW (h : AH) (b wa u L : Nat) (W : Nat → Nat) : Prop := hget h b = some (12, [.ref wa, .int (nI u), .int 0]) ∧ hget h wa = some (66, loW L W) ∧ u ≤ L ∧ L ≤ 4 ∧ u ≤ 3 ∧ 1 ≤ L ∧ (∀ i, W i < 2 ^ 64) ∧ (∀ i, u ≤ i → W i = 0) ∧ 1024 ≤ b ∧ 1024 ≤ wa
def BS (h : AH) (b wa : Nat) (f : Nat → Bool) : Prop := ∃ u L W, BW h b wa u L W ∧ ∀ k, f k = (W (k / 64)).testBit (k % 64)
/-- nothing but b and wa is another -/
def Fr2 (b wa : Nat) (h h' : AH) : Prop := h.length ≤ h'.length ∧ ∀ i, i < 1024 + h.length → i ≠ b → i ≠ wa → hget h' i = hget h i
theorem Fr2.rfl' (b wa : Nat) (h : AH) : Fr2 b wa h h := ⟨Nat.le_refl _, fun _ _ _ _ => rfl⟩
theorem Fr2.pf {b wa : Nat} {h0 h h' : AH} (f : Fr2 b wa h h') (p : Pf h0 h) (h1 : 1024 + h0.length ≤ b) (h2 : 1024 + h0.length ≤ wa) : Pf h0 h' := by
  have := p.len
  refine Pf.of (by have := f.1; omega) (fun i hi => ?_)
  rw [f.2 i (by omega) (by omega) (by omega), p.same hi]
theorem b_ne {h : AH} {b wa u L : Nat} {W : Nat → Nat} (B : BW h b wa u L W) : b ≠ wa := by
  intro e
  have h1 := B.1
  rw [e, B.2.1] at h1
  have := congrArg (fun o => o.map Prod.fst) h1
  simp at this
theorem j_min (a b : Nat) (ha : a < 2 ^ 31) (hb : b < 2 ^ 31) (h : AH) : f_J12_min (nI a) (nI b) h = some (some (vI (nI (min a b))), h) := by
  unfold f_J12_min
  by_cases q : b < a
  · rw [if_pos (nI_lt q ha), Nat.min_eq_right (by omega)]
  · rw [if_neg (nI_nlt (by omega) hb), Nat.min_eq_left (by omega)]
theorem j_max (a b : Nat) (ha : a < 2 ^ 31) (hb : b < 2 ^ 31) (h : AH) : f_J12_max (nI a) (nI b) h = some (some (vI (nI (max a b))), h) := by
  unfold f_J12_max
  by_cases q : a < b
  · rw [if_pos (nI_lt q hb), Nat.max_eq_right (by omega)]
  · rw [if_neg (nI_nlt (by omega) ha), Nat.max_eq_left (by omega)]
theorem j_inv {r : Rf} (h : AH) : f_J23_checkInvariants r h = some (none, h) := by
  unfold f_J23_checkInvariants f_J23_checkInvariants_37 f_J23_checkInvariants_70
  rw [if_neg (by decide), if_neg (by decide), if_neg (by decide)]
theorem wi : ∀ k, k < 256 → nI k >>> ((6 : Int32) &&& 31) = nI (k / 64) := by decide +kernel
theorem j_wordIndex {k : Nat} (hk : k < 256) (h : AH) : f_J23_wordIndex (nI k) h = some (some (vI (nI (k / 64))), h) := by
  unfold f_J23_wordIndex
  rw [wi k hk]
