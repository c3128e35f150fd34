set_option maxRecDepth 100000
/-! the model's text, tile, mirrored, shapes, needs -/
def a_append (S : St) (x : Int32) : Int32 × St :=
  if 33 ≤ x.toInt ∧ x.toInt ≤ 126 then (if S.tx.length = 80 then (-4, S) else (nI (S.tx.length + 1), (S.g, S.hi, S.sv, S.tx ++ [nat x]))) else (-2, S)
theorem a_append_SV {S : St} (hS : SV S) (x : Int32) : SV (a_append S x).2 := by
  obtain ⟨s1, s2, s3, s4, s5, s6⟩ := id hS
  unfold a_append
  split
  · rename_i h
    split
    · exact hS
    · refine ⟨s1, s2, s3, s4, ?_, ?_⟩
      · show (S.tx ++ [nat x]).length ≤ 80
        simp; omega
      · intro c hc
        have hc : c ∈ S.tx ++ [nat x] := hc
        rcases List.mem_append.mp hc with hc | hc
        · exact s6 c hc
        · have : c = nat x := by simpa using hc
          unfold nat at this
          omega
  · exact hS
theorem nar_char : ∀ c, c < 128 → vp_nar .char (((nI c).toUInt32 % 65536).toInt32) = nI c := by decide +kernel
theorem m_append {h : AH} (hL : 608 ≤ h.length) {F : Nat → Int32} {A : Nat → Nat → Int32} {S : St} (hI : MI F A S) (hS : SV S) (x : Int32) : ∃ F' A', f_X4_append (some 1617) x (mset h F A) = some (some (vI (a_append S x).1), mset h F' A') ∧ MI F' A' (a_append S x).2 := by
  obtain ⟨i1, i2, i3, i4, i5, i6, i7, i8⟩ := id hI
  obtain ⟨s1, s2, s3, s4, s5, s6⟩ := id hS
  unfold f_X4_append a_append
  rw [o_ci_eq (m_in _ _ _ _), ite_bI]
  simp only [decide_eq_true_eq, ti33, ti126]
  by_cases hr : 33 ≤ x.toInt ∧ x.toInt ≤ 126
  · rw [if_pos hr, if_pos hr, m_gi6 hL, i7, li80]
    by_cases h8 : S.tx.length = 80
    · rw [if_pos h8, if_pos (by rw [h8])]
      exact ⟨F, A, rfl, hI⟩
    · rw [if_neg h8, if_neg (by rw [nI_eq (by omega) (by omega)]; exact h8)]
      obtain ⟨c, hc, rfl⟩ : ∃ q, (33 ≤ q ∧ q ≤ 126) ∧ x = nI q := ⟨x.toInt.toNat, by omega, nI_toNat (by omega)⟩
      rw [nat_nI (by omega), m_gr5 hL, m_gi6 hL, i7, nar_char c (by omega), m_st5 hL (by omega), m_gi6 hL, i7, li1, nI_add, m_pf6 hL, m_gi6 hL, up_s]
      refine ⟨_, _, rfl, i1, i2, i3, i4, i5, i6, ?_, ?_⟩
      · rw [up_s]; show _ = nI (S.tx ++ [c]).length; simp
      · intro i d hd
        rw [upA_s]
        have hd : (S.tx ++ [c])[i]? = some d := hd
        by_cases hi : i < S.tx.length
        · rw [List.getElem?_append_left hi] at hd
          rw [up_n (by omega)]; exact i8 i d hd
        · have : i < S.tx.length + 1 := by
            have := (List.getElem?_eq_some_iff.mp hd).1
            simpa using this
          obtain rfl : i = S.tx.length := by omega
          rw [List.getElem?_append_right (by omega)] at hd
          simp at hd
          rw [up_s, hd]
  · rw [if_neg hr, if_neg hr]
    exact ⟨F, A, rfl, hI⟩
def a_clear (S : St) : Int32 × St := (nI S.tx.length, (S.g, S.hi, S.sv, []))
theorem a_clear_SV {S : St} (hS : SV S) : SV (a_clear S).2 := by
  obtain ⟨s1, s2, s3, s4, s5, s6⟩ := id hS
  exact ⟨s1, s2, s3, s4, by show 0 ≤ 80; omega, fun c hc => by cases hc⟩
theorem m_clear {h : AH} (hL : 608 ≤ h.length) {F : Nat → Int32} {A : Nat → Nat → Int32} {S : St} (hI : MI F A S) (hS : SV S) : ∃ F' A', f_X4_clearText (some 1617) (mset h F A) = some (some (vI (a_clear S).1), mset h F' A') ∧ MI F' A' (a_clear S).2 := by
  obtain ⟨i1, i2, i3, i4, i5, i6, i7, i8⟩ := id hI
  unfold f_X4_clearText a_clear
  rw [m_gi6 hL, m_pf6 hL, i7]
  exact ⟨_, _, rfl, i1, i2, i3, i4, i5, i6, up_s _ _ _, fun i d hd => by cases hd⟩
def a_tile (G : Gr) (x y z : Int32) : Int32 :=
  if inG G x.toInt y.toInt then
    (if z.toInt = 0 then bI (G.l (plc G x.toInt y.toInt)) else if z.toInt = 1 then nI (sur G (plc G x.toInt y.toInt)) else if z.toInt = 2 then rsh G (plc G x.toInt y.toInt)
     else if z.toInt = 3 then sha G (plc G x.toInt y.toInt) else if z.toInt = 4 then (if G.p (plc G x.toInt y.toInt) = -6 then nI 0 else nI 1) else if z.toInt = 5 then nI (flt G (plc G x.toInt y.toInt)) else -2)
  else -1
theorem tsw6 (z : Int32) (a b c d e f g : Res) : o_tsw z 0 [a, b, c, d, e, f] g = if z.toInt = 0 then a else if z.toInt = 1 then b else if z.toInt = 2 then c else if z.toInt = 3 then d else if z.toInt = 4 then e else if z.toInt = 5 then f else g := by
  unfold o_tsw
  by_cases h : z.toInt < 0
  · rw [if_pos h, if_neg (by omega), if_neg (by omega), if_neg (by omega), if_neg (by omega), if_neg (by omega), if_neg (by omega)]
  · rw [if_neg h]
    obtain ⟨n, hn⟩ : ∃ n : Nat, z.toInt = n := ⟨z.toInt.toNat, by omega⟩
    rw [hn]
    have e0 : ((n : Int) - 0).toNat = n := by omega
    rw [e0]
    by_cases h6 : n < 6
    · have : n = 0 ∨ n = 1 ∨ n = 2 ∨ n = 3 ∨ n = 4 ∨ n = 5 := by omega
      rcases this with q | q | q | q | q | q <;> subst q <;> rfl
    · rw [if_neg (by omega), if_neg (by omega), if_neg (by omega), if_neg (by omega), if_neg (by omega), if_neg (by omega), List.getElem?_eq_none (by simp; omega)]; rfl
theorem m_tile {h : AH} (hL : 608 ≤ h.length) {F : Nat → Int32} {A : Nat → Nat → Int32} {G : Gr} (hz : MZ (A 0) G) (hG : GV G) (hm : MC A) (x y z : Int32) : f_X4_tile (some 1617) x y z (mset h F A) = some (some (vI (a_tile G x y z)), mset h F A) := by
  obtain ⟨z0, z1, z2, z3⟩ := id hz
  obtain ⟨⟨g1, g2, g3, g4, g5, g6⟩, g7⟩ := id hG
  unfold f_X4_tile a_tile
  rw [m_ci hL (m_isTile hL hz hG x y), ite_bI]
  by_cases hin : inG G x.toInt y.toInt = true
  · rw [if_pos hin, if_pos hin]
    obtain ⟨r, c, hr, hc, rfl, rfl, e⟩ := inG_nI hin
    rw [e]
    have hk : G.C * r + c < G.N := rc_lt hr hc
    have hk3 : G.C * r + c < 144 := Nat.lt_of_lt_of_le hk g5
    rw [m_ci hL (m_at hL hz hG r c), tsw6]
    rw [m_ci hL (m_around hL hz hG hr hc), m_ci hL (m_right hL hz hG hm hk), m_ci hL (m_shapeAt hL hz hG hm hk), m_ci hL (m_faultsAt hL hz hG hm hk), m_gr0 hL, m_gr0 hL, li3, nI_add, m_ld0 hL (by omega), li147, nI_add, m_ld0 hL (by omega), (z3 _ hk).1, (z3 _ hk).2]
    simp only [ite_retI, li0, li1]
  · rw [if_neg hin, if_neg hin]
def a_mirrored (x : Int32) : Int32 := if 0 ≤ x.toInt ∧ x.toInt ≤ 46 then shp (mir (msk (nat x))) else -1
theorem mirI : ∀ m, m < 256 → ∀ d, d < 8 → (((nI m >>> (((nI 8 - nI d) &&& 7) &&& 31)) &&& 1) <<< (nI d &&& 31)) = nI (if m.testBit ((8 - d) % 8) then 2 ^ d else 0) := by decide +kernel
theorem m_mirrored {h : AH} (hL : 608 ≤ h.length) {F : Nat → Int32} {A : Nat → Nat → Int32} (hm : MC A) (x : Int32) : f_X4_mirrored (some 1617) x (mset h F A) = some (some (vI (a_mirrored x)), mset h F A) := by
  unfold f_X4_mirrored a_mirrored
  rw [o_ci_eq (m_isShape _ _), ite_bI]
  simp only [decide_eq_true_eq]
  split
  · rename_i q
    obtain ⟨s, hs, rfl⟩ := shp_or.mp q
    rw [nat_nI (by omega)]
    refine loopE 8 (fun n i => f_X4_mirrored_13 n (some 1617) (nI s) (nI (bitsT (fun d => (msk s).testBit ((8 - d) % 8)) i)) (nI i) (mset h F A)) _ ?_ ?_ 0 FUEL (by omega) (by simp only [FUEL]; omega)
    · intro n
      rw [f_X4_mirrored_13_s]
      simp only
      rw [if_pos (by decide), m_gr8 hL, m_ld8 hL (bitsT_lt _ 8), hm.2 _ (bitsT_lt _ 8)]; rfl
    · intro i n hi hk
      rw [f_X4_mirrored_13_s, ← hk]
      simp only
      rw [if_neg (by rw [li8, nI_leI (by omega) (by omega)]; omega), m_gr7 hL, m_ld7 hL hs, hm.1 s hs]
      unfold f_X4_bit
      simp only [o_ci, o_let_eq]
      rw [li8, mirI _ (msk_lt s hs) i hi, nI_or, li1, nI_add, bitsT]
  · rfl
def a_shapes (G : Gr) : Int32 := sm (fun s => if cnt G (nI s) ≤ 0 then nI 0 else nI 1) 47
theorem m_shapes {h : AH} (hL : 608 ≤ h.length) {F : Nat → Int32} {A : Nat → Nat → Int32} {G : Gr} (hz : MZ (A 0) G) (hG : GV G) (hm : MC A) : f_X4_shapes (some 1617) (mset h F A) = some (some (vI (a_shapes G)), mset h F A) := by
  unfold f_X4_shapes
  refine loopE 47 (fun n i => f_X4_shapes_4 n (some 1617) (sm (fun s => if cnt G (nI s) ≤ 0 then nI 0 else nI 1) i) (nI i) (mset h F A)) _ ?_ ?_ 0 FUEL (by omega) (by simp only [FUEL]; omega)
  · intro n
    rw [f_X4_shapes_4_s]
    simp only
    rw [if_pos (by decide)]; rfl
  · intro i n hi hk
    rw [f_X4_shapes_4_s, ← hk, sm]
    simp only
    rw [if_neg (by rw [li47, nI_leI (by omega) (by omega)]; omega), m_ci hL (m_counted hL hz hG hm _)]
    unfold f_X4_shapes_24
    simp only [o_let_eq, li1, nI_add]
    split <;> rfl
/-- the directions that matter for a mask -/
def mat (m d : Nat) : Bool := d % 2 == 0 || (m.testBit ((d - 1) % 8) && m.testBit ((d + 1) % 8))
def bad (G : Gr) (k m d : Nat) : Bool := mat m d && (nb G k d != m.testBit d)
def oud (G : Gr) (k d : Nat) : Bool := !inG G (nbX G k d) (nbY G k d)
def cntN (f : Nat → Bool) : Nat → Nat
  | 0 => 0
  | n + 1 => cntN f n + (if f n then 1 else 0)
theorem cntN_le (f : Nat → Bool) : ∀ n, cntN f n ≤ n
  | 0 => Nat.le_refl _
  | n + 1 => by
    have := cntN_le f n
    unfold cntN
    split <;> omega
def ned (G : Gr) (k m : Nat) : Int32 := if (List.range 8).any (fun d => bad G k m d && oud G k d) then -6 else nI (cntN (bad G k m) 8)
def a_needs (G : Gr) (x y z : Int32) : Int32 := if inG G x.toInt y.toInt ∧ 0 ≤ z.toInt ∧ z.toInt ≤ 46 then ned G (plc G x.toInt y.toInt) (msk (nat z)) else -1
theorem bitI : ∀ m, m < 256 → ∀ d, d < 8 → ((nI m >>> ((nI d &&& 7) &&& 31)) &&& 1) = bI (m.testBit d) := by decide +kernel
theorem matI : ∀ m, m < 256 → ∀ d, d < 8 → d % 2 = 1 → ((((nI m >>> (((nI d - 1) &&& 7) &&& 31)) &&& 1) + ((nI m >>> (((nI d + 1) &&& 7) &&& 31)) &&& 1) = 2) ↔ (m.testBit ((d - 1) % 8) && m.testBit ((d + 1) % 8)) = true) := by decide +kernel
theorem m_needsS {h : AH} (hL : 608 ≤ h.length) {F : Nat → Int32} {A : Nat → Nat → Int32} {G : Gr} (hz : MZ (A 0) G) (hG : GV G) {r c m i : Nat} (hr : r < G.R) (hc : c < G.C) (hm8 : m < 256) (hi : i < 8) (n cn : Nat) (hcn : cn < 100) : f_X4_needs_32 (n + 1) (some 1617) (nI r) (nI c) (nI m) (nI cn) (nI i) (mset h F A) =
    if bad G (G.C * r + c) m i && oud G (G.C * r + c) i then some (some (vI (-6)), mset h F A) else f_X4_needs_32 n (some 1617) (nI r) (nI c) (nI m) (nI (cn + (if bad G (G.C * r + c) m i then 1 else 0))) (nI (i + 1)) (mset h F A) := by
  obtain ⟨z0, z1, z2, z3⟩ := id hz
  obtain ⟨⟨g1, g2, g3, g4, g5, g6⟩, g7⟩ := id hG
  have e1 := nbr_t (r := r) (by omega) i
  have e2 := nbc_t (r := c) (by omega) i
  unfold dRI at e1
  unfold dCI at e2
  have h105 : ∀ b : Bool, f_X4_needs_105 (f_X4_needs_32 n) (some 1617) (nI r) (nI c) (nI m) (nI cn) (nI i) (bI (nb G (G.C * r + c) i)) (bI b) (mset h F A) =
      if (nb G (G.C * r + c) i != b) && oud G (G.C * r + c) i then some (some (vI (-6)), mset h F A) else f_X4_needs_32 n (some 1617) (nI r) (nI c) (nI m) (nI (cn + (if (nb G (G.C * r + c) i != b) then 1 else 0))) (nI (i + 1)) (mset h F A) := by
    intro b
    unfold f_X4_needs_105 f_X4_needs_135
    simp only [bI_inj]
    by_cases q : nb G (G.C * r + c) i = b
    · rw [if_pos q, q]
      simp [o_let_eq, li1, nI_add]
    · rw [if_neg q]
      have q' : (nb G (G.C * r + c) i != b) = true := by simpa using q
      rw [q', o_ci_eq (m_rowBy i hi _), o_ci_eq (m_columnBy i hi _), m_ci hL (m_isTile hL hz hG _ _), e1, e2, ite_bI]
      unfold oud nbX nbY
      rw [rc_div hc, rc_mod hc]
      cases inG G (r + dR i) (c + dC i)
      · simp
      · simp [o_let_eq, li1, nI_add]
  have h74 : ∀ b : Bool, f_X4_needs_74 (f_X4_needs_32 n) (some 1617) (nI r) (nI c) (nI m) (nI cn) (nI i) (bI b) (mset h F A) =
      if (b && (nb G (G.C * r + c) i != m.testBit i)) && oud G (G.C * r + c) i then some (some (vI (-6)), mset h F A) else f_X4_needs_32 n (some 1617) (nI r) (nI c) (nI m) (nI (cn + (if b && (nb G (G.C * r + c) i != m.testBit i) then 1 else 0))) (nI (i + 1)) (mset h F A) := by
    intro b
    unfold f_X4_needs_74
    rw [ite_bI]
    cases b
    · unfold f_X4_needs_135
      simp [o_let_eq, li1, nI_add]
    · rw [if_pos rfl, m_ci hL (m_isLandBeside hL hz hG hr hc hi)]
      unfold f_X4_bit
      simp only [o_ci]
      rw [bitI m hm8 i hi, ite_bI1]
      have := h105 (m.testBit i)
      rw [Bool.true_and, ← this]
      cases m.testBit i <;> rfl
  rw [f_X4_needs_32_s]
  simp only
  rw [if_neg (by rw [li8, nI_leI (by omega) (by omega)]; omega), li2, irem_nI (by omega) (by omega) (by omega)]
  unfold bad mat
  by_cases p : i % 2 = 0
  · rw [p, if_pos (by rfl)]
    exact (h74 true).trans (by simp)
  · have p1 : i % 2 = 1 := by omega
    rw [p1, if_neg (by decide)]
    unfold f_X4_bit
    simp only [o_ci]
    have := matI m hm8 i hi p1
    by_cases w : (m.testBit ((i - 1) % 8) && m.testBit ((i + 1) % 8)) = true
    · rw [if_pos (by rw [← li2]; exact this.mpr w), w]
      exact (h74 true).trans (by simp)
    · rw [if_neg (by rw [← li2]; exact fun q => w (this.mp q))]
      have w' : (m.testBit ((i - 1) % 8) && m.testBit ((i + 1) % 8)) = false := by simpa using w
      rw [w']
      exact (h74 false).trans (by simp)
theorem m_needs {h : AH} (hL : 608 ≤ h.length) {F : Nat → Int32} {A : Nat → Nat → Int32} {G : Gr} (hz : MZ (A 0) G) (hG : GV G) (hm : MC A) (x y z : Int32) : f_X4_needs (some 1617) x y z (mset h F A) = some (some (vI (a_needs G x y z)), mset h F A) := by
  unfold f_X4_needs a_needs
  rw [m_ci hL (m_isTile hL hz hG x y), ite_bI]
  by_cases hin : inG G x.toInt y.toInt = true
  · rw [if_pos hin, o_ci_eq (m_isShape _ _), ite_bI]
    by_cases hsh : 0 ≤ z.toInt ∧ z.toInt ≤ 46
    · rw [if_pos (decide_eq_true hsh), if_pos ⟨hin, hsh⟩]
      obtain ⟨r, c, hr, hc, rfl, rfl, e⟩ := inG_nI hin
      obtain ⟨s, hs, rfl⟩ := shp_or.mp hsh
      rw [e, nat_nI (by omega), m_gr7 hL, m_ld7 hL hs, hm.1 s hs]
      refine loop1 (σ := Unit) 8 (fun n i _ => f_X4_needs_32 n (some 1617) (nI r) (nI c) (nI (msk s)) (nI (cntN (bad G (G.C * r + c) (msk s)) i)) (nI i) (mset h F A)) (fun i _ => ∀ d, d < i → (bad G (G.C * r + c) (msk s) d && oud G (G.C * r + c) d) = false)
        (fun res => res = some (some (vI (ned G (G.C * r + c) (msk s))), mset h F A)) ?_ ?_ 0 () FUEL (by omega) (fun d hd => absurd hd (by omega)) (by simp only [FUEL]; omega)
      · intro _ n hI
        have : ((List.range 8).any (fun d => bad G (G.C * r + c) (msk s) d && oud G (G.C * r + c) d)) = false := by
          rw [List.any_eq_false]
          intro d hd
          rw [hI d (List.mem_range.mp hd)]
          simp
        unfold ned
        rw [this, f_X4_needs_32_s]
        rfl
      · intro i _ n hi hI hk
        have hle := cntN_le (bad G (G.C * r + c) (msk s)) i
        show f_X4_needs_32 (n + 1) _ _ _ _ _ _ _ = _
        rw [m_needsS hL hz hG hr hc (msk_lt s hs) hi n _ (by omega)]
        by_cases q : (bad G (G.C * r + c) (msk s) i && oud G (G.C * r + c) i) = true
        · rw [if_pos q]
          unfold ned
          rw [if_pos (List.any_eq_true.mpr ⟨i, List.mem_range.mpr hi, q⟩)]
        · rw [if_neg q]
          refine hk () (fun d hd => ?_)
          by_cases e : d = i
          · subst e; simpa using q
          · exact hI d (by omega)
    · rw [if_neg (fun q => hsh (of_decide_eq_true q)), if_neg (fun q => hsh q.2)]
  · rw [if_neg hin, if_neg (fun q => hin q.1)]
