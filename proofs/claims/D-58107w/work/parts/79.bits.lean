set_option maxRecDepth 100000
/-! bits of long words (the rows wb_.. are pasted from kit/laws) -/
theorem wb_tb (n : Nat) : (lN n).toBitVec = BitVec.ofNat 64 n := rfl
theorem wb_inj {a b : Int64} (h : a.toBitVec = b.toBitVec) : a = b := Int64.toBitVec_inj.mp h
theorem wb_tn {n : Nat} (h : n < 2 ^ 64) : (lN n).toBitVec.toNat = n := by rw [wb_tb, BitVec.toNat_ofNat, Nat.mod_eq_of_lt h]
theorem wb_of (x : Int64) : ∃ n, n < 2 ^ 64 ∧ x = lN n := ⟨x.toBitVec.toNat, x.toBitVec.isLt, wb_inj (by rw [wb_tb]; simp)⟩
theorem wb_of32 (x : Int32) : ∃ n, n < 2 ^ 32 ∧ x = nI n := ⟨x.toBitVec.toNat, x.toBitVec.isLt, Int32.toBitVec_inj.mp (by show _ = BitVec.ofNat 32 _; simp)⟩
theorem wb_c : ∀ k, k < 64 → ((nI k).toInt64 &&& 63) = lN k := by decide +kernel
theorem wb_cu : ∀ k, k < 64 → ((nI k).toInt64.toUInt64 &&& Int64.toUInt64 63) = UInt64.ofNat k := by decide +kernel
theorem wb_sm : ∀ k, k < 64 → (BitVec.ofNat 64 k).smod 64 = BitVec.ofNat 64 k := by decide +kernel
theorem wb_pw {a b : Nat} (h : a ≤ b) : 2 ^ b = 2 ^ a * 2 ^ (b - a) := by rw [← Nat.pow_add]; congr 1; omega
theorem wb_lt2 {a b : Nat} (h : a < b) : 2 ^ a < 2 ^ b := Nat.pow_lt_pow_right (by decide) h
theorem wb_mod (n : Nat) : lN n = lN (n % 2 ^ 64) := wb_inj (by rw [wb_tb, wb_tb]; apply BitVec.eq_of_toNat_eq; rw [BitVec.toNat_ofNat, BitVec.toNat_ofNat, Nat.mod_mod])
theorem wb_shr {n k : Nat} (hn : n < 2 ^ 64) (hk : k < 64) : ((lN n).toUInt64 >>> ((nI k).toInt64.toUInt64 &&& Int64.toUInt64 63)).toInt64 = lN (n / 2 ^ k) := by
  rw [wb_cu k hk]
  apply wb_inj
  apply BitVec.eq_of_toNat_eq
  show ((lN n).toUInt64 >>> UInt64.ofNat k).toNat = (BitVec.ofNat 64 _).toNat
  have h1 : (UInt64.ofNat k).toNat = k := by
    show (BitVec.ofNat 64 k).toNat = k
    rw [BitVec.toNat_ofNat, Nat.mod_eq_of_lt (by omega)]
  have h2 : (lN n).toUInt64.toNat = n := wb_tn hn
  rw [UInt64.toNat_shiftRight, h1, h2, Nat.mod_eq_of_lt hk, Nat.shiftRight_eq_div_pow, BitVec.toNat_ofNat, Nat.mod_eq_of_lt (Nat.lt_of_le_of_lt (Nat.div_le_self _ _) hn)]
theorem wb_shl (n : Nat) {k : Nat} (hk : k < 64) : lN n <<< ((nI k).toInt64 &&& 63) = lN (n * 2 ^ k) := by
  rw [wb_c k hk]
  apply wb_inj
  rw [Int64.toBitVec_shiftLeft, wb_tb, wb_tb, wb_tb, wb_sm k hk]
  apply BitVec.eq_of_toNat_eq
  rw [BitVec.shiftLeft_eq', BitVec.toNat_shiftLeft, BitVec.toNat_ofNat, BitVec.toNat_ofNat, BitVec.toNat_ofNat, Nat.mod_eq_of_lt (show k < 2 ^ 64 by omega), Nat.shiftLeft_eq, Nat.mul_mod, Nat.mod_mod, ← Nat.mul_mod]
theorem wb_and {a b : Nat} (ha : a < 2 ^ 64) (hb : b < 2 ^ 64) : lN a &&& lN b = lN (a &&& b) := by
  apply wb_inj
  rw [Int64.toBitVec_and, wb_tb, wb_tb, wb_tb]
  apply BitVec.eq_of_toNat_eq
  rw [BitVec.toNat_and, BitVec.toNat_ofNat, BitVec.toNat_ofNat, BitVec.toNat_ofNat, Nat.mod_eq_of_lt ha, Nat.mod_eq_of_lt hb, Nat.mod_eq_of_lt (Nat.and_lt_two_pow _ hb)]
theorem wb_or {a b : Nat} (ha : a < 2 ^ 64) (hb : b < 2 ^ 64) : lN a ||| lN b = lN (a ||| b) := by
  apply wb_inj
  rw [Int64.toBitVec_or, wb_tb, wb_tb, wb_tb]
  apply BitVec.eq_of_toNat_eq
  rw [BitVec.toNat_or, BitVec.toNat_ofNat, BitVec.toNat_ofNat, BitVec.toNat_ofNat, Nat.mod_eq_of_lt ha, Nat.mod_eq_of_lt hb, Nat.mod_eq_of_lt (Nat.or_lt_two_pow ha hb)]
theorem cntN_add (f : Nat → Bool) (m : Nat) : ∀ n, cntN f (m + n) = cntN f m + cntN (fun d => f (m + d)) n
  | 0 => rfl
  | n + 1 => by
    show cntN f (m + n + 1) = _
    rw [cntN, cntN, cntN_add f m n]; omega
theorem and_split {a b c d : Nat} (hb : b < 256) (hd : d < 256) : (b + 256 * a) &&& (d + 256 * c) = (b &&& d) + 256 * (a &&& c) := by
  have h1 : b + 256 * a = 2 ^ 8 * a + b := by omega
  have h2 : d + 256 * c = 2 ^ 8 * c + d := by omega
  have h3 : (b &&& d) + 256 * (a &&& c) = 2 ^ 8 * (a &&& c) + (b &&& d) := by omega
  rw [h1, h2, h3]
  apply Nat.eq_of_testBit_eq
  intro i
  rw [Nat.testBit_and, Nat.testBit_two_pow_mul_add _ (by omega), Nat.testBit_two_pow_mul_add _ (by omega), Nat.testBit_two_pow_mul_add _ (Nat.lt_of_le_of_lt Nat.and_le_left (by omega))]
  by_cases h : i < 8
  · simp [h, Nat.testBit_and]
  · simp [h, Nat.testBit_and]
def ofB : List Nat → Nat
  | [] => 0
  | b :: t => b + 256 * ofB t
def bys : Nat → Nat → List Nat
  | 0, _ => []
  | k + 1, n => n % 256 :: bys k (n / 256)
theorem bys_ofB : ∀ (k n : Nat), n < 256 ^ k → ofB (bys k n) = n
  | 0, n, h => by
    simp at h
    subst h; rfl
  | k + 1, n, h => by
    rw [Nat.pow_succ] at h
    have := bys_ofB k (n / 256) (by omega)
    show n % 256 + 256 * ofB (bys k (n / 256)) = n
    omega
theorem bys_lt : ∀ (k n b : Nat), b ∈ bys k n → b < 256
  | 0, n, b, h => by cases h
  | k + 1, n, b, h => by
    rcases List.mem_cons.mp h with h | h
    · omega
    · exact bys_lt k _ b h
theorem bys_len : ∀ (k n : Nat), (bys k n).length = k
  | 0, _ => rfl
  | k + 1, n => by simp [bys, bys_len k]
theorem sq1 : ∀ b, b < 256 → ∀ e, e < 2 → (b / 2 + 128 * e) &&& 85 = (b / 2) &&& 85 := by decide +kernel
theorem sq2 : ∀ b, b < 256 → ∀ e, e < 4 → (b / 4 + 64 * e) &&& 51 = (b / 4) &&& 51 := by decide +kernel
def s1 (b : Nat) : Nat := b - ((b / 2) &&& 85)
def s2 (b : Nat) : Nat := (b &&& 51) + ((b / 4) &&& 51)
def s3 (b : Nat) : Nat := (b + b / 16) &&& 15
theorem s_all : ∀ b, b < 256 → ((b / 2) &&& 85 ≤ b) ∧ s1 b < 256 ∧ s2 (s1 b) ≤ 68 ∧ s2 (s1 b) % 16 ≤ 4 ∧ s3 (s2 (s1 b)) = popc b := by decide +kernel
theorem sq3 : ∀ b, b < 69 → ∀ e, e < 5 → (b + b / 16 + 16 * e) &&& 15 = (b + b / 16) &&& 15 := by decide +kernel
theorem half_mask : ∀ (l : List Nat), (∀ b, b ∈ l → b < 256) → (ofB l / 2) &&& ofB (List.replicate l.length 85) = ofB (l.map (fun b => (b / 2) &&& 85))
  | [], _ => rfl
  | b :: t, h => by
    have ih := half_mask t (fun c hc => h c (List.mem_cons_of_mem _ hc))
    have hb := h b List.mem_cons_self
    have e : ofB (b :: t) / 2 = (b / 2 + 128 * (ofB t % 2)) + 256 * (ofB t / 2) := by
      show (b + 256 * ofB t) / 2 = _
      omega
    rw [e]
    show _ &&& (85 + 256 * ofB (List.replicate t.length 85)) = ((b / 2) &&& 85) + 256 * ofB (t.map _)
    rw [and_split (by omega) (by omega), ih, sq1 b hb _ (by omega)]
theorem quar_mask : ∀ (l : List Nat), (∀ b, b ∈ l → b < 256) → (ofB l / 4) &&& ofB (List.replicate l.length 51) = ofB (l.map (fun b => (b / 4) &&& 51))
  | [], _ => rfl
  | b :: t, h => by
    have ih := quar_mask t (fun c hc => h c (List.mem_cons_of_mem _ hc))
    have hb := h b List.mem_cons_self
    have e : ofB (b :: t) / 4 = (b / 4 + 64 * (ofB t % 4)) + 256 * (ofB t / 4) := by
      show (b + 256 * ofB t) / 4 = _
      omega
    rw [e]
    show _ &&& (51 + 256 * ofB (List.replicate t.length 51)) = ((b / 4) &&& 51) + 256 * ofB (t.map _)
    rw [and_split (by omega) (by omega), ih, sq2 b hb _ (by omega)]
theorem mask_map (m : Nat) (hm : m < 256) : ∀ (l : List Nat), (∀ b, b ∈ l → b < 256) → ofB l &&& ofB (List.replicate l.length m) = ofB (l.map (fun b => b &&& m))
  | [], _ => by simp [ofB]
  | b :: t, h => by
    have ih := mask_map m hm t (fun c hc => h c (List.mem_cons_of_mem _ hc))
    show (b + 256 * ofB t) &&& (m + 256 * ofB (List.replicate t.length m)) = (b &&& m) + 256 * ofB (t.map _)
    rw [and_split (h b List.mem_cons_self) hm, ih]
theorem nib_mask : ∀ (l : List Nat), (∀ b, b ∈ l → b ≤ 68 ∧ b % 16 ≤ 4) → (ofB l + ofB l / 16) &&& ofB (List.replicate l.length 15) = ofB (l.map s3)
  | [], _ => rfl
  | b :: t, h => by
    have ih := nib_mask t (fun c hc => h c (List.mem_cons_of_mem _ hc))
    have hb := h b List.mem_cons_self
    have hq : ofB t % 16 ≤ 4 := by
      cases t with
      | nil => show 0 % 16 ≤ 4; omega
      | cons c u =>
        have := h c (by simp)
        show (c + 256 * ofB u) % 16 ≤ 4
        omega
    have e : ofB (b :: t) + ofB (b :: t) / 16 = (b + b / 16 + 16 * (ofB t % 16)) + 256 * (ofB t + ofB t / 16) := by
      show (b + 256 * ofB t) + (b + 256 * ofB t) / 16 = _
      omega
    rw [e]
    show _ &&& (15 + 256 * ofB (List.replicate t.length 15)) = s3 b + 256 * ofB (t.map s3)
    rw [and_split (by omega) (by omega), ih, sq3 b (by omega) _ (by omega)]
    rfl
theorem sub_map : ∀ (l : List Nat), (∀ b, b ∈ l → b < 256) → ofB l - ofB (l.map (fun b => (b / 2) &&& 85)) = ofB (l.map s1) ∧ ofB (l.map (fun b => (b / 2) &&& 85)) ≤ ofB l
  | [], _ => ⟨rfl, Nat.le_refl _⟩
  | b :: t, h => by
    obtain ⟨ih, ih2⟩ := sub_map t (fun c hc => h c (List.mem_cons_of_mem _ hc))
    have hb := (s_all b (h b List.mem_cons_self)).1
    show (b + 256 * ofB t) - (((b / 2) &&& 85) + 256 * ofB (t.map _)) = (b - ((b / 2) &&& 85)) + 256 * ofB (t.map s1) ∧ ((b / 2) &&& 85) + 256 * ofB (t.map _) ≤ b + 256 * ofB t
    rw [← ih]
    omega
theorem add_map (f g : Nat → Nat) : ∀ (l : List Nat), ofB (l.map f) + ofB (l.map g) = ofB (l.map (fun b => f b + g b))
  | [] => rfl
  | b :: t => by
    have ih := add_map f g t
    show (f b + 256 * ofB (t.map f)) + (g b + 256 * ofB (t.map g)) = (f b + g b) + 256 * ofB (t.map _)
    rw [← ih]; omega
theorem ofB_lt : ∀ (l : List Nat), (∀ b, b ∈ l → b < 256) → ofB l < 256 ^ l.length
  | [], _ => by show 0 < 1; omega
  | b :: t, h => by
    have ih := ofB_lt t (fun c hc => h c (List.mem_cons_of_mem _ hc))
    have hb := h b List.mem_cons_self
    show b + 256 * ofB t < 256 ^ (t.length + 1)
    rw [Nat.pow_succ]; omega
def pc (n : Nat) : Nat := cntN (fun i => n.testBit i) 64
theorem pc_bys : ∀ (k n : Nat), cntN (fun i => n.testBit i) (8 * k) = ((bys k n).map popc).sum
  | 0, n => rfl
  | k + 1, n => by
    have ih := pc_bys k (n / 256)
    rw [show 8 * (k + 1) = 8 + 8 * k by omega, cntN_add]
    show _ = popc (n % 256) + ((bys k (n / 256)).map popc).sum
    rw [← ih, popc_cnt _ (Nat.mod_lt _ (by omega))]
    congr 1
    · refine cntN_cong (fun d hd => ?_)
      rw [show (256 : Nat) = 2 ^ 8 from rfl, Nat.testBit_mod_two_pow]
      simp [hd]
    · refine cntN_cong (fun d _ => ?_)
      rw [show (256 : Nat) = 2 ^ 8 from rfl, Nat.testBit_div_two_pow, Nat.add_comm]
theorem ofB_div {b : Nat} {t : List Nat} (hb : b < 256) : ofB (b :: t) / 256 = ofB t := by
  show (b + 256 * ofB t) / 256 = ofB t
  rw [Nat.add_mul_div_left _ _ (by omega), Nat.div_eq_of_lt hb, Nat.zero_add]
theorem ofB_add : ∀ (l m : List Nat), l.length = m.length → ofB l + ofB m = ofB (List.zipWith (fun x y => x + y) l m)
  | [], [], _ => rfl
  | a :: l, b :: m, h => by
    have ih := ofB_add l m (by simpa using h)
    show (a + 256 * ofB l) + (b + 256 * ofB m) = (a + b) + 256 * ofB (List.zipWith _ l m)
    rw [← ih]; omega
theorem ofB_0 (l : List Nat) : ofB (l ++ [0]) = ofB l := by
  induction l with
  | nil => rfl
  | cons a t ih => show a + 256 * ofB (t ++ [0]) = a + 256 * ofB t; rw [ih]
theorem ofB_le : ∀ (l : List Nat), (∀ b, b ∈ l → b < 256) → ofB l < 256 ^ l.length := ofB_lt
theorem div256 (n k : Nat) : n / 256 ^ (k + 1) = n / 256 / 256 ^ k := by
  rw [Nat.pow_succ, Nat.mul_comm, Nat.div_div_eq_div_mul]
theorem fin_sum {g0 g1 g2 g3 g4 g5 g6 g7 y3 : Nat} (h0 : g0 ≤ 8) (h1 : g1 ≤ 8) (h2 : g2 ≤ 8) (h3 : g3 ≤ 8) (h4 : g4 ≤ 8) (h5 : g5 ≤ 8) (h6 : g6 ≤ 8) (h7 : g7 ≤ 8)
    (e3 : y3 = ofB [g0, g1, g2, g3, g4, g5, g6, g7]) : ∃ y4 y5 y6, y4 = y3 + y3 / 2 ^ 8 ∧ y5 = y4 + y4 / 2 ^ 16 ∧ y6 = y5 + y5 / 2 ^ 32 ∧ y6 % 128 = g0 + (g1 + (g2 + (g3 + (g4 + (g5 + (g6 + g7)))))) ∧ y3 < 2 ^ 64 ∧ y4 < 2 ^ 64 ∧ y5 < 2 ^ 64 := by
  have b3 : y3 < 256 ^ 8 := by
    rw [e3]
    exact ofB_lt [g0, g1, g2, g3, g4, g5, g6, g7] (fun b hb => by simp at hb; omega)
  have e4 : y3 + y3 / 2 ^ 8 = ofB [g0 + g1, g1 + g2, g2 + g3, g3 + g4, g4 + g5, g5 + g6, g6 + g7, g7 + 0] := by
    have : y3 / 2 ^ 8 = ofB [g1, g2, g3, g4, g5, g6, g7, 0] := by
      rw [e3]
      exact (ofB_div (by omega)).trans (ofB_0 [g1, g2, g3, g4, g5, g6, g7]).symm
    rw [this, e3]
    exact ofB_add [g0, g1, g2, g3, g4, g5, g6, g7] [g1, g2, g3, g4, g5, g6, g7, 0] rfl
  generalize hy4 : y3 + y3 / 2 ^ 8 = y4 at e4
  have b4 : y4 < 256 ^ 8 := by
    rw [e4]
    exact ofB_lt [g0 + g1, g1 + g2, g2 + g3, g3 + g4, g4 + g5, g5 + g6, g6 + g7, g7 + 0] (fun b hb => by simp at hb; omega)
  have e5 : y4 + y4 / 2 ^ 16 = ofB [g0 + g1 + (g2 + g3), g1 + g2 + (g3 + g4), g2 + g3 + (g4 + g5), g3 + g4 + (g5 + g6), g4 + g5 + (g6 + g7), g5 + g6 + (g7 + 0), g6 + g7 + 0, g7 + 0 + 0] := by
    have : y4 / 2 ^ 16 = ofB [g2 + g3, g3 + g4, g4 + g5, g5 + g6, g6 + g7, g7 + 0, 0, 0] := by
      rw [e4, show (2 : Nat) ^ 16 = 256 * 256 from rfl, ← Nat.div_div_eq_div_mul, ofB_div (by omega), ofB_div (by omega)]
      exact (ofB_0 _).symm.trans (ofB_0 _).symm
    rw [this, e4]
    exact ofB_add [g0 + g1, g1 + g2, g2 + g3, g3 + g4, g4 + g5, g5 + g6, g6 + g7, g7 + 0] [g2 + g3, g3 + g4, g4 + g5, g5 + g6, g6 + g7, g7 + 0, 0, 0] rfl
  generalize hy5 : y4 + y4 / 2 ^ 16 = y5 at e5
  have b5 : y5 < 256 ^ 8 := by
    rw [e5]
    exact ofB_lt [g0 + g1 + (g2 + g3), g1 + g2 + (g3 + g4), g2 + g3 + (g4 + g5), g3 + g4 + (g5 + g6), g4 + g5 + (g6 + g7), g5 + g6 + (g7 + 0), g6 + g7 + 0, g7 + 0 + 0] (fun b hb => by simp at hb; omega)
  have d5 : y5 / 2 ^ 32 = ofB [g4 + g5 + (g6 + g7), g5 + g6 + (g7 + 0), g6 + g7 + 0, g7 + 0 + 0] := by
    rw [e5, show (2 : Nat) ^ 32 = 256 * (256 * (256 * 256)) from rfl, ← Nat.div_div_eq_div_mul, ofB_div (by omega), ← Nat.div_div_eq_div_mul, ofB_div (by omega), ← Nat.div_div_eq_div_mul, ofB_div (by omega), ofB_div (by omega)]
  refine ⟨y4, y5, y5 + y5 / 2 ^ 32, rfl, hy5.symm, rfl, ?_, b3, b4, b5⟩
  rw [d5, e5]
  show ((g0 + g1 + (g2 + g3)) + 256 * ofB _ + ((g4 + g5 + (g6 + g7)) + 256 * ofB _)) % 128 = _
  generalize ofB [g1 + g2 + (g3 + g4), g2 + g3 + (g4 + g5), g3 + g4 + (g5 + g6), g4 + g5 + (g6 + g7), g5 + g6 + (g7 + 0), g6 + g7 + 0, g7 + 0 + 0] = u
  generalize ofB [g5 + g6 + (g7 + 0), g6 + g7 + 0, g7 + 0 + 0] = v
  omega
/-- Long.bitCount -/
theorem j_bitCount64 {n : Nat} (hn : n < 2 ^ 64) (h : AH) : f_J14_bitCount (lN n) h = some (some (vI (nI (pc n))), h) := by
  have hb := bys_lt 8 n
  have hl := bys_len 8 n
  have hofB := bys_ofB 8 n (by exact hn)
  have r85 : ofB (List.replicate 8 85) = 6148914691236517205 := by decide +kernel
  have r51 : ofB (List.replicate 8 51) = 3689348814741910323 := by decide +kernel
  have r15 : ofB (List.replicate 8 15) = 1085102592571150095 := by decide +kernel
  have k85 : (6148914691236517205 : Int64) = lN 6148914691236517205 := rfl
  have k51 : (3689348814741910323 : Int64) = lN 3689348814741910323 := rfl
  have k15 : (1085102592571150095 : Int64) = lN 1085102592571150095 := rfl
  have q1 := half_mask (bys 8 n) hb
  rw [hl, hofB, r85] at q1
  have q1s := sub_map (bys 8 n) hb
  rw [hofB] at q1s
  have y1e : n - (n / 2 &&& 6148914691236517205) = ofB ((bys 8 n).map s1) := by rw [q1]; exact q1s.1
  have y1lt : n - (n / 2 &&& 6148914691236517205) < 2 ^ 64 := by omega
  have hb1 : ∀ b, b ∈ (bys 8 n).map s1 → b < 256 := by
    intro b hb'
    obtain ⟨a, ha, rfl⟩ := List.mem_map.mp hb'
    exact (s_all a (hb a ha)).2.1
  have q2 := quar_mask ((bys 8 n).map s1) hb1
  have q2m := mask_map 51 (by omega) ((bys 8 n).map s1) hb1
  rw [List.length_map, hl, r51, ← y1e] at q2 q2m
  generalize hy1 : n - (n / 2 &&& 6148914691236517205) = y1 at *
  have y2e : (y1 &&& 3689348814741910323) + (y1 / 4 &&& 3689348814741910323) = ofB ((bys 8 n).map (fun b => s2 (s1 b))) := by
    rw [q2, q2m, add_map, List.map_map]; rfl
  have hb2 : ∀ b, b ∈ (bys 8 n).map (fun b => s2 (s1 b)) → b ≤ 68 ∧ b % 16 ≤ 4 := by
    intro b hb'
    obtain ⟨a, ha, rfl⟩ := List.mem_map.mp hb'
    exact ⟨(s_all a (hb a ha)).2.2.1, (s_all a (hb a ha)).2.2.2.1⟩
  have q3 := nib_mask ((bys 8 n).map (fun b => s2 (s1 b))) hb2
  rw [List.length_map, hl, r15, ← y2e, List.map_map] at q3
  have y2lt : (y1 &&& 3689348814741910323) + (y1 / 4 &&& 3689348814741910323) < 2 ^ 64 := by
    rw [y2e]
    have := ofB_lt ((bys 8 n).map (fun b => s2 (s1 b))) (fun b hb' => by have := hb2 b hb'; omega)
    rw [List.length_map, hl] at this
    exact this
  generalize hy2 : (y1 &&& 3689348814741910323) + (y1 / 4 &&& 3689348814741910323) = y2 at *
  have y3e : (y2 + y2 / 16) &&& 1085102592571150095 = ofB ((bys 8 n).map popc) := by
    rw [q3]
    congr 1
    refine List.map_congr_left (fun a ha => ?_)
    exact (s_all a (hb a ha)).2.2.2.2
  have y2s : y2 + y2 / 16 < 2 ^ 64 := by
    have : y2 ≤ 4991520338178502724 := by
      rw [y2e]
      have : ∀ l : List Nat, (∀ b, b ∈ l → b ≤ 68 ∧ b % 16 ≤ 4) → 255 * ofB l ≤ 68 * (256 ^ l.length - 1) := by
        intro l
        induction l with
        | nil => intro _; show 255 * 0 ≤ 68 * (1 - 1); omega
        | cons a t ih =>
          intro h
          have h1 := ih (fun b hb => h b (List.mem_cons_of_mem _ hb))
          have h2 := (h a List.mem_cons_self).1
          have h3 : 0 < 256 ^ t.length := Nat.pow_pos (by omega)
          show 255 * (a + 256 * ofB t) ≤ 68 * (256 ^ (t.length + 1) - 1)
          rw [Nat.pow_succ]
          omega
      have := this _ hb2
      rw [List.length_map, hl] at this
      omega
    omega
  obtain ⟨g0, g1, g2, g3, g4, g5, g6, g7, eg⟩ : ∃ g0 g1 g2 g3 g4 g5 g6 g7, bys 8 n = [g0, g1, g2, g3, g4, g5, g6, g7] := ⟨_, _, _, _, _, _, _, _, rfl⟩
  have hg : ∀ b, b ∈ bys 8 n → popc b ≤ 8 := fun b hb' => popc_le b (hb b hb')
  rw [eg] at hg
  rw [eg] at y3e
  obtain ⟨y4, y5, y6, e4, e5, e6, e7, l3, l4, l5⟩ := fin_sum (hg g0 (by simp)) (hg g1 (by simp)) (hg g2 (by simp)) (hg g3 (by simp)) (hg g4 (by simp)) (hg g5 (by simp)) (hg g6 (by simp)) (hg g7 (by simp)) y3e
  have hpc : pc n = popc g0 + (popc g1 + (popc g2 + (popc g3 + (popc g4 + (popc g5 + (popc g6 + popc g7)))))) := by
    have := pc_bys 8 n
    rw [eg] at this
    unfold pc
    rw [this]
    simp
  have sh1 := wb_shr hn (k := 1) (by omega)
  have sh2 := wb_shr y1lt (k := 2) (by omega)
  have sh4 := wb_shr y2lt (k := 4) (by omega)
  have sh8 := wb_shr l3 (k := 8) (by omega)
  have sh16 := wb_shr l4 (k := 16) (by omega)
  have sh32 := wb_shr l5 (k := 32) (by omega)
  unfold f_J14_bitCount
  simp only [o_let_eq]
  rw [li1, sh1, k85, wb_and (by omega) (by omega), Nat.pow_one, lN_sub (by have := q1s.2; rw [q1]; exact this), hy1, li2, sh2, k51, wb_and y1lt (by omega), show (2 : Nat) ^ 2 = 4 from rfl, wb_and (by omega) (by omega), lN_add, hy2, li4, sh4, lN_add, k15, show (2 : Nat) ^ 4 = 16 from rfl, wb_and y2s (by omega), li8, sh8, lN_add, ← e4,
    show (16 : Int32) = nI 16 from rfl, sh16, lN_add, ← e5, show (32 : Int32) = nI 32 from rfl, sh32, lN_add, ← e6, lN_i]
  have e127 : nI y6 &&& 127 = nI (y6 % 128) := by
    apply Int32.toBitVec_inj.mp
    show BitVec.ofNat 32 y6 &&& BitVec.ofNat 32 127 = BitVec.ofNat 32 (y6 % 128)
    apply BitVec.eq_of_toNat_eq
    rw [BitVec.toNat_and, BitVec.toNat_ofNat, BitVec.toNat_ofNat, BitVec.toNat_ofNat]
    rw [show 127 % 2 ^ 32 = 2 ^ 7 - 1 from rfl, Nat.and_two_pow_sub_one_eq_mod]
    omega
  rw [e127, e7, hpc]
