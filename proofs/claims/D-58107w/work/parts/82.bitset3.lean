set_option maxRecDepth 100000
/-! BitSet: the next set bit, how many, the union -/
theorem LB_ex {w : Nat} (h : w ≠ 0) : ∃ j, LB w j := by
  have key : ∀ n, (∃ i, i < n ∧ w.testBit i = true) → ∃ j, LB w j := by
    intro n
    induction n with
    | zero => rintro ⟨i, hi, _⟩; omega
    | succ n ih =>
      rintro ⟨i, hi, e⟩
      by_cases q : ∃ i, i < n ∧ w.testBit i = true
      · exact ih q
      · refine ⟨i, e, fun k hk => ?_⟩
        cases hb : w.testBit k with
        | false => rfl
        | true => exact absurd ⟨k, by omega, hb⟩ q
  by_cases q : ∃ i, w.testBit i = true
  · obtain ⟨i, e⟩ := q
    exact key (i + 1) ⟨i, by omega, e⟩
  · exfalso
    apply h
    apply Nat.eq_of_testBit_eq
    intro i
    rw [Nat.zero_testBit]
    cases hb : w.testBit i with
    | false => rfl
    | true => exact absurd ⟨i, hb⟩ q
theorem LB_lt {w j : Nat} (hw : w < 2 ^ 64) (h : LB w j) : j < 64 := by
  by_cases q : j < 64
  · exact q
  · have := Nat.testBit_lt_two_pow (Nat.lt_of_lt_of_le hw (Nat.pow_le_pow_right (by omega) (show 64 ≤ j by omega)))
    rw [h.1] at this
    cases this
def nsb (f : Nat → Bool) (k : Nat) : Int32 := match fst f (192 - k) k with
  | some i => nI i
  | none => -1
theorem shlm : ∀ k, k < 192 → (-1 : Int64) <<< ((nI k).toInt64 &&& 63) = lN (2 ^ 64 - 2 ^ (k % 64)) := by decide +kernel
theorem hi_tb {j : Nat} (hj : j < 64) (i : Nat) : (2 ^ 64 - 2 ^ j).testBit i = (decide (i < 64) && decide (j ≤ i)) := by
  have hp : 2 ^ j - 1 + 1 = 2 ^ j := Nat.sub_add_cancel (Nat.pow_pos (by omega))
  have h2 := wb_lt2 hj
  have := Nat.testBit_two_pow_sub_succ (x := 2 ^ j - 1) (n := 64) (by omega) i
  rw [hp, Nat.testBit_two_pow_sub_one] at this
  rw [this]
  congr 1
  by_cases q : i < j
  · simp [q]
  · simp [q]; omega
theorem cmp0 (x : Int64) : (lg_cmp x 0 = 0) ↔ x = 0 := by
  unfold lg_cmp
  by_cases a : x > 0
  · rw [if_pos a]
    constructor
    · intro e; exact absurd e (by decide)
    · intro e; subst e; exact absurd a (by decide)
  · rw [if_neg a]
    by_cases c : x = 0
    · rw [if_pos c]; exact ⟨fun _ => c, fun _ => rfl⟩
    · rw [if_neg c]
      constructor
      · intro e; exact absurd e (by decide)
      · intro e; exact absurd e c
theorem lN_0 {w : Nat} (hw : w < 2 ^ 64) : (lN w = 0) ↔ w = 0 := by
  constructor
  · intro e
    have h1 := congrArg (fun x : Int64 => x.toBitVec.toNat) e
    have h2 : (lN w).toBitVec.toNat = 0 := h1
    rwa [wb_tn hw] at h2
  · intro e; subst e; rfl
theorem b_next {h : AH} {b wa : Nat} {f : Nat → Bool} (B : BS h b wa f) {k : Nat} (hk : k < 193) : tagIs 12 (some b) (f_J23_nextSetBit (some b) (nI k)) h = some (some (vI (nsb f k)), h) := by
  obtain ⟨u, L, W, B0, hf⟩ := B
  obtain ⟨c1, c2, c3, c4, c5, c6, c7, c8, c9, c10⟩ := id B0
  have hout : ∀ j, 64 * u ≤ j → f j = false := by
    intro j hj
    rw [hf j, c8 _ (by omega)]; simp
  rw [tagIs_eq c1]
  unfold f_J23_nextSetBit
  rw [if_pos (nI_pos' (by omega)), o_cv_eq ((tagIs_eq c1).trans (j_inv h)), o_ci_eq (j_wordIndex (by omega) h), o_gi_eq c1 rfl]
  by_cases hu : k / 64 < u
  · rw [if_pos (nI_lt hu (by omega)), o_gr_eq c1 rfl, o_aldJ_eq c2 (nI_pos (by omega)) (by rw [nI_clamp (by omega)]; exact loW_get (by omega)), shlm k (by omega), wb_and (c7 _) (by have : 0 < 2 ^ (k % 64) := Nat.pow_pos (by omega); omega), o_let_eq]
    have key : ∀ (d i n : Nat) (w : Nat), i + d = u → 1 ≤ d → d < n + 1 → k / 64 ≤ i → w < 2 ^ 64 → (∀ j, j < 64 → w.testBit j = (f (64 * i + j) && decide (k ≤ 64 * i + j))) → (∀ j, k ≤ j → j < 64 * i → f j = false) →
        f_J23_nextSetBit_63 n (some b) (nI i) (lN w) h = some (some (vI (nsb f k)), h) := by
      intro d
      induction d with
      | zero => intro i n w _ h1; omega
      | succ d ih =>
        intro i n w hid _ hn hki hw hwt hno
        obtain ⟨n, rfl⟩ : ∃ m, n = m + 1 := ⟨n - 1, by omega⟩
        rw [f_J23_nextSetBit_63_s]
        simp only
        by_cases hw0 : w = 0
        · rw [if_pos ((cmp0 _).mpr ((lN_0 hw).mpr hw0)), o_let_eq, li1, nI_add, o_gi_eq c1 rfl]
          have hno2 : ∀ j, k ≤ j → j < 64 * (i + 1) → f j = false := by
            intro j h1 h2
            by_cases q : j < 64 * i
            · exact hno j h1 q
            · have := hwt (j - 64 * i) (by omega)
              rw [hw0, Nat.zero_testBit, show 64 * i + (j - 64 * i) = j by omega] at this
              cases hfj : f j with
              | false => rfl
              | true => rw [hfj] at this; simp at this; omega
          by_cases hd : d = 0
          · subst hd
            rw [if_pos (by rw [show i + 1 = u by omega])]
            unfold nsb
            rw [fst_none _ _ (fun j h1 h2 => by
              by_cases q : j < 64 * u
              · exact hno2 j h1 (by omega)
              · exact hout j (by omega))]
            rfl
          · rw [if_neg (by rw [nI_eq (by omega) (by omega)]; omega), o_gr_eq c1 rfl, o_aldJ_eq c2 (nI_pos (by omega)) (by rw [nI_clamp (by omega)]; exact loW_get (by omega))]
            refine ih (i + 1) n (W (i + 1)) (by omega) (by omega) (by omega) (by omega) (c7 _) (fun j hj => ?_) hno2
            rw [hf, show (64 * (i + 1) + j) / 64 = i + 1 by omega, show (64 * (i + 1) + j) % 64 = j by omega, decide_eq_true (by omega), Bool.and_true]
        · rw [if_neg (fun e => hw0 ((lN_0 hw).mp ((cmp0 _).mp e)))]
          obtain ⟨j, hj⟩ := LB_ex hw0
          have hj64 := LB_lt hw hj
          rw [o_ci_eq (j_ntz64 hw hj hj64 h), show (64 : Int32) = nI 64 from rfl, pk_mul, nI_add]
          have h1 := hwt j hj64
          rw [hj.1] at h1
          have h1 := h1.symm
          rw [Bool.and_eq_true, decide_eq_true_eq] at h1
          unfold nsb
          rw [fst_some (k := 64 * i + j) h1.1 (192 - k) k h1.2 (by omega) (fun m h2 h3 => by
            by_cases q : m < 64 * i
            · exact hno m h2 q
            · have h4 := hwt (m - 64 * i) (by omega)
              rw [hj.2 _ (by omega), show 64 * i + (m - 64 * i) = m by omega, decide_eq_true h2, Bool.and_true] at h4
              exact h4.symm)]
          show some (some (vI (nI (i * 64 + j))), h) = some (some (vI (nI (64 * i + j))), h)
          rw [Nat.mul_comm]
    refine key (u - k / 64) (k / 64) FUEL _ (by omega) (by omega) (by simp only [FUEL]; omega) (Nat.le_refl _) (Nat.lt_of_le_of_lt Nat.and_le_left (c7 _)) (fun j hj => ?_) (fun j h1 h2 => by omega)
    rw [Nat.testBit_and, hi_tb (Nat.mod_lt _ (by omega)), hf, show (64 * (k / 64) + j) / 64 = k / 64 by omega, show (64 * (k / 64) + j) % 64 = j by omega]
    rw [decide_eq_true hj, Bool.true_and]
    congr 1
    rw [decide_eq_decide]
    omega
  · rw [if_neg (nI_nlt (by omega) (by omega))]
    unfold nsb
    rw [fst_none _ _ (fun j h1 h2 => hout j (by omega))]
theorem cntN_zero {f : Nat → Bool} : ∀ {n : Nat}, (∀ d, d < n → f d = false) → cntN f n = 0
  | 0, _ => rfl
  | n + 1, h => by rw [cntN, cntN_zero (fun d hd => h d (by omega)), h n (by omega)]; rfl
theorem b_card {h : AH} {b wa : Nat} {f : Nat → Bool} (B : BS h b wa f) : tagIs 12 (some b) (f_J23_cardinality (some b)) h = some (some (vI (nI (cntN f 192))), h) := by
  obtain ⟨u, L, W, B0, hf⟩ := B
  obtain ⟨c1, c2, c3, c4, c5, c6, c7, c8, c9, c10⟩ := id B0
  rw [tagIs_eq c1]
  have hend : cntN f 192 = cntN f (64 * u) := by
    have : 192 = 64 * u + (192 - 64 * u) := by omega
    rw [this, cntN_add]
    have z : cntN (fun d => f (64 * u + d)) (192 - 64 * u) = 0 := cntN_zero (fun d hd => by rw [hf, c8 _ (by omega)]; simp)
    rw [z]; omega
  rw [hend]
  unfold f_J23_cardinality
  refine loopE u (fun n i => f_J23_cardinality_4 n (some b) (nI (cntN f (64 * i))) (nI i) h) _ ?_ ?_ 0 FUEL (by omega) (by simp only [FUEL]; omega)
  · intro n
    rw [f_J23_cardinality_4_s]
    simp only
    rw [o_gi_eq c1 rfl, if_pos (nI_le (Nat.le_refl _) (by omega))]
  · intro i n hi hk
    rw [f_J23_cardinality_4_s, ← hk]
    simp only
    rw [o_gi_eq c1 rfl, if_neg (nI_ge hi (by omega)), o_gr_eq c1 rfl, o_aldJ_eq c2 (nI_pos (by omega)) (by rw [nI_clamp (by omega)]; exact loW_get (by omega)), o_ci_eq (j_bitCount64 (c7 i) h), o_let_eq, nI_add, o_let_eq, li1, nI_add]
    have : cntN f (64 * (i + 1)) = cntN f (64 * i) + pc (W i) := by
      rw [Nat.mul_succ, cntN_add]
      congr 1
      refine cntN_cong (fun d hd => ?_)
      rw [hf, show (64 * i + d) / 64 = i by omega, show (64 * i + d) % 64 = d by omega]
    rw [this]
theorem b_or {h : AH} {b wa b' wa' : Nat} {f g : Nat → Bool} (B : BS h b wa f) (B' : BS h b' wa' g) (hbb : b ≠ b') (hww : wa ≠ wa') (hr : sz h + 6 < 1200000) :
    ∃ h' wa1, tagIs 12 (some b) (f_J23_or (some b) (some b')) h = some (none, h') ∧ BS h' b wa1 (fun j => f j || g j) ∧ (wa1 = wa ∨ 1024 + h.length ≤ wa1) ∧ Fr2 b wa h h' ∧ sz h' ≤ sz h + 5 := by
  obtain ⟨u, L, W, B0, hf⟩ := B
  obtain ⟨v, M, V, B1, hg⟩ := B'
  obtain ⟨c1, c2, c3, c4, c5, c6, c7, c8, c9, c10⟩ := id B0
  obtain ⟨d1, d2, d3, d4, d5, d6, d7, d8, d9, d10⟩ := id B1
  have hbw' : b ≠ wa' := by
    intro e
    rw [e, d2] at c1
    have := congrArg (fun o => o.map Prod.fst) c1
    simp at this
  rw [tagIs_eq c1]
  unfold f_J23_or o_acmp
  rw [if_neg (by simpa using hbb), if_pos (by simp [okNe]; omega), o_gi_eq c1 rfl, o_gi_eq d1 rfl, o_ci_eq (j_min u v (by omega) (by omega) h), o_gi_eq c1 rfl, o_gi_eq d1 rfl]
  -- what the loop and the copy do, from a heap with room
  have main : ∀ (h1 : AH) (wa1 u1 L1 : Nat), BW h1 b wa1 u1 L1 W → (v ≤ u ∨ u1 = v) → v ≤ u1 → u ≤ u1 → wa1 ≠ wa' → hget h1 b' = some (12, [.ref wa', .int (nI v), .int 0]) → hget h1 wa' = some (66, loW M V) →
      ∃ h', f_J23_or_45 (some b) (some b') (nI (min u v)) h1 = some (none, h') ∧ BS h' b wa1 (fun j => f j || g j) ∧ h'.length = h1.length ∧ (∀ i, i ≠ wa1 → hget h' i = hget h1 i) ∧ sz h' = sz h1 := by
    intro h1 wa1 u1 L1 E hvu hv hu hne k1 k2
    obtain ⟨e1, e2, e3, e4, e5, e6, e7, e8, e9, e10⟩ := id E
    have hw1 := hget_some_lt e2
    let Wi : Nat → Nat → Nat := fun i j => if j < i then W j ||| V j else W j
    have hb1 : b ≠ wa1 := b_ne E
    have hWlt : ∀ i j, Wi i j < 2 ^ 64 := by
      intro i j
      show (if j < i then W j ||| V j else W j) < 2 ^ 64
      split
      · exact Nat.or_lt_two_pow (c7 _) (d7 _)
      · exact c7 _
    unfold f_J23_or_45
    refine loop1 (σ := AH) (min u v) (fun n i s => f_J23_or_47 n (some b) (some b') (nI (min u v)) (nI i) s) (fun i s => s = hset h1 wa1 (66, loW L1 (Wi i)))
      (fun res => ∃ h', res = some (none, h') ∧ BS h' b wa1 (fun j => f j || g j) ∧ h'.length = h1.length ∧ (∀ i, i ≠ wa1 → hget h' i = hget h1 i) ∧ sz h' = sz h1) ?_ ?_ 0 h1 FUEL (by omega) ?_ (by simp only [FUEL]; omega)
    · intro s n hs
      subst hs
      have g1 : hget (hset h1 wa1 (66, loW L1 (Wi (min u v)))) b = some (12, [.ref wa1, .int (nI u1), .int 0]) := by rw [hget_set_ne e10 hb1]; exact e1
      have g1' : hget (hset h1 wa1 (66, loW L1 (Wi (min u v)))) b' = some (12, [.ref wa', .int (nI v), .int 0]) := by
        rw [hget_set_ne e10]
        · exact k1
        · intro e
          rw [e, e2] at k1
          have := congrArg (fun o => o.map Prod.fst) k1
          simp at this
      have g2 : hget (hset h1 wa1 (66, loW L1 (Wi (min u v)))) wa1 = some (66, loW L1 (Wi (min u v))) := hget_set_same e10 hw1
      have g2' : hget (hset h1 wa1 (66, loW L1 (Wi (min u v)))) wa' = some (66, loW M V) := by rw [hget_set_ne e10 (Ne.symm hne)]; exact k2
      rw [f_J23_or_47_s]
      simp only
      rw [if_pos (nI_le (Nat.le_refl _) (by omega)), o_gi_eq g1' rfl]
      have h100 : ∀ s : AH, hget s b = some (12, [.ref wa1, .int (nI u1), .int 0]) → f_J23_or_100 (some b) s = some (none, s) := by
        intro s hs
        unfold f_J23_or_100
        rw [o_cv_eq ((tagIs_eq hs).trans (j_inv s))]
      by_cases q : v ≤ min u v
      · rw [if_pos (nI_le q (by omega)), h100 _ g1]
        refine ⟨_, rfl, ⟨u1, L1, Wi (min u v), ⟨g1, g2, e3, e4, e5, e6, hWlt _, fun i hi => ?_, e9, e10⟩, fun j => ?_⟩, len_hset _ _ _, fun i hi => hget_set_ne e10 hi, sz_set e10 e2 (by rw [loW_len, loW_len])⟩
        · show (if i < min u v then W i ||| V i else W i) = 0
          rw [if_neg (by omega)]; exact e8 i hi
        · show (f j || g j) = (if j / 64 < min u v then W (j / 64) ||| V (j / 64) else W (j / 64)).testBit (j % 64)
          rw [hf j, hg j]
          by_cases w : j / 64 < min u v
          · rw [if_pos w, Nat.testBit_or]
          · rw [if_neg w, d8 _ (by omega)]; simp
      · rw [if_neg (nI_ge (by omega) (by omega)), o_gr_eq g1' rfl, o_gr_eq g1 rfl, o_gi_eq g1 rfl, show u1 = v by omega, pk_sub (by omega), copy_eq g2' g2 e10 (by omega) (by omega) (by omega) (by rw [loW_len]; omega) (by rw [loW_len]; omega) (strch_all (by rw [loW_len]; omega) (fun x hx => by
          unfold loW at hx
          obtain ⟨i, _, rfl⟩ := List.mem_map.mp hx
          rfl))]
        have er : setRun (loW L1 (Wi (min u v))) (min u v) (strch (loW M V) (min u v) (v - min u v)) = loW L1 (fun j => W j ||| V j) := by
          apply List.ext_getElem?
          intro i
          rw [setRun_get _ _ _ _ (by rw [strch_len, loW_len]; omega), strch_len]
          by_cases hi : min u v ≤ i ∧ i < min u v + (v - min u v)
          · rw [if_pos hi, strch_get (by omega) (by rw [loW_len]; omega), show min u v + (i - min u v) = i by omega, loW_get (by omega), loW_get (by omega), c8 i (by omega), Nat.zero_or]
          · rw [if_neg hi]
            by_cases hL : i < L1
            · rw [loW_get hL, loW_get hL]
              show some (Value.long (lN (if i < min u v then W i ||| V i else W i))) = some (Value.long (lN (W i ||| V i)))
              by_cases w : i < min u v
              · rw [if_pos w]
              · rw [if_neg w, d8 i (by omega), Nat.or_zero]
            · rw [List.getElem?_eq_none (by rw [loW_len]; omega), List.getElem?_eq_none (by rw [loW_len]; omega)]
        rw [er]
        have hss : hset (hset h1 wa1 (66, loW L1 (Wi (min u v)))) wa1 (64 + 2, loW L1 (fun j => W j ||| V j)) = hset h1 wa1 (66, loW L1 (fun j => W j ||| V j)) := by
          unfold hset
          rw [List.set_set]
        rw [hss]
        have g3 : hget (hset h1 wa1 (66, loW L1 (fun j => W j ||| V j))) b = some (12, [.ref wa1, .int (nI u1), .int 0]) := by rw [hget_set_ne e10 hb1]; exact e1
        rw [h100 _ g3]
        refine ⟨_, rfl, ⟨u1, L1, (fun j => W j ||| V j), ⟨g3, hget_set_same e10 hw1, e3, e4, e5, e6, fun i => Nat.or_lt_two_pow (c7 _) (d7 _), fun i hi => ?_, e9, e10⟩, fun j => ?_⟩, len_hset _ _ _, fun i hi => hget_set_ne e10 hi, sz_set e10 e2 (by rw [loW_len, loW_len])⟩
        · show W i ||| V i = 0
          rw [e8 i hi, d8 i (by omega)]; rfl
        · show (f j || g j) = (W (j / 64) ||| V (j / 64)).testBit (j % 64)
          rw [hf j, hg j, Nat.testBit_or]
    · intro i s n hi hs hk
      subst hs
      have g1 : hget (hset h1 wa1 (66, loW L1 (Wi i))) b = some (12, [.ref wa1, .int (nI u1), .int 0]) := by rw [hget_set_ne e10 hb1]; exact e1
      have g1' : hget (hset h1 wa1 (66, loW L1 (Wi i))) b' = some (12, [.ref wa', .int (nI v), .int 0]) := by
        rw [hget_set_ne e10]
        · exact k1
        · intro e
          rw [e, e2] at k1
          have := congrArg (fun o => o.map Prod.fst) k1
          simp at this
      have g2 : hget (hset h1 wa1 (66, loW L1 (Wi i))) wa1 = some (66, loW L1 (Wi i)) := hget_set_same e10 hw1
      have g2' : hget (hset h1 wa1 (66, loW L1 (Wi i))) wa' = some (66, loW M V) := by rw [hget_set_ne e10 (Ne.symm hne)]; exact k2
      rw [f_J23_or_47_s]
      simp only
      rw [if_neg (nI_ge hi (by omega)), o_gr_eq g1 rfl, o_aldJ_eq g2 (nI_pos (by omega)) (by rw [nI_clamp (by omega)]; exact loW_get (by omega)), o_gr_eq g1' rfl, o_aldJ_eq g2' (nI_pos (by omega)) (by rw [nI_clamp (by omega)]; exact loW_get (by omega)), o_ast_eq g2 e10 (nI_pos (by omega)) (by rw [nI_clamp (by omega), loW_len]; omega), wb_or (hWlt _ _) (d7 _), nI_clamp (by omega), loW_set, o_let_eq, li1, nI_add]
      refine hk _ ?_
      unfold hset
      rw [List.set_set]
      congr 2
      congr 1
      funext j
      show (if j = i then (if i < i then W i ||| V i else W i) ||| V i else (if j < i then W j ||| V j else W j)) = if j < i + 1 then W j ||| V j else W j
      by_cases e : j = i
      · subst e; rw [if_pos rfl, if_neg (by omega), if_pos (by omega)]
      · rw [if_neg e]
        by_cases w : j < i
        · rw [if_pos w, if_pos (by omega)]
        · rw [if_neg w, if_neg (by omega)]
    · have : loW L1 (Wi 0) = loW L1 W := by
        congr 1
      rw [this]
      unfold hset
      have hh := e2
      unfold hget at hh
      rw [if_pos e10] at hh
      exact (List.ext_getElem? (fun i => by
        by_cases e : i = wa1 - 1024
        · subst e
          rw [List.getElem?_set_self (by omega), hh]
        · rw [List.getElem?_set_ne (Ne.symm e)])).symm
  by_cases hc : v ≤ u
  · rw [if_pos (nI_le hc (by omega))]
    obtain ⟨h', m1, m2, m3, m4, m5⟩ := main h wa u L B0 (.inl hc) hc (Nat.le_refl _) hww d1 d2
    exact ⟨h', wa, m1, m2, .inl rfl, ⟨by omega, fun i hi h1 h2 => m4 i h2⟩, by omega⟩
  · rw [if_neg (nI_ge (by omega) (by omega)), o_gi_eq d1 rfl]
    obtain ⟨h1, wa1, L1, n1, n2, n3, n4, n5, n6⟩ := b_ens B0 (req := v) (by omega) hr
    have hb'lt := hget_some_lt d1
    have hw'lt := hget_some_lt d2
    have hwb' : b' ≠ wa := by
      intro e
      rw [e, c2] at d1
      have := congrArg (fun o => o.map Prod.fst) d1
      simp at this
    have d1' : hget h1 b' = some (12, [.ref wa', .int (nI v), .int 0]) := by rw [n5.2 b' hb'lt (Ne.symm hbb) hwb']; exact d1
    have d2' : hget h1 wa' = some (66, loW M V) := by rw [n5.2 wa' hw'lt (Ne.symm hbw') (Ne.symm hww)]; exact d2
    obtain ⟨e1, e2, e3, e4, e5, e6, e7, e8, e9, e10⟩ := id n2
    have hblt := hget_some_lt e1
    rw [o_cv_eq ((tagIs_eq c1).trans n1), o_gi_eq d1' rfl, o_pf_eq e1 e9 (by show 1 < 3; omega)]
    have hbw1 : b ≠ wa1 := b_ne n2
    have hne1 : wa1 ≠ wa' := by
      rcases n4 with n4 | n4
      · rw [n4]; exact hww
      · omega
    obtain ⟨h', m1, m2, m3, m4, m5⟩ := main (hset h1 b (12, ([.ref wa1, .int (nI u), .int 0] : List Value).set 1 (.int (nI v)))) wa1 v L1 ⟨hget_set_same e9 hblt, by rw [hget_set_ne e9 (Ne.symm hbw1)]; exact e2, by omega, e4, d5, e6, e7, fun i hi => e8 i (by omega), e9, e10⟩ (.inr rfl) (Nat.le_refl _) (by omega) hne1 (by rw [hget_set_ne e9 (Ne.symm hbb)]; exact d1') (by rw [hget_set_ne e9 (Ne.symm hbw')]; exact d2')
    rw [len_hset] at m3
    have z := sz_set (e := (12, ([.ref wa1, .int (nI u), .int 0] : List Value).set 1 (.int (nI v)))) e9 e1 (by rfl)
    refine ⟨h', wa1, m1, m2, n4, ⟨by rw [m3]; exact n5.1, fun i hi q1 q2 => ?_⟩, by omega⟩
    have : i ≠ wa1 := by
      rcases n4 with n4 | n4
      · rw [n4]; exact q2
      · omega
    rw [m4 i this, hget_set_ne e9 q1, n5.2 i hi q1 q2]
