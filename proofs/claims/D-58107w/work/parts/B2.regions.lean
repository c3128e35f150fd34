set_option maxRecDepth 100000
/-! regions, islands, lakes -/
def seenB (G : Gr) (R : RL2) : Nat → Bool := fun j => R.any (fun r => bitsL G r.2 j)
theorem seenB_app (G : Gr) (R : RL2) (r : Nat × BL) : seenB G (R ++ [r]) = fun j => seenB G R j || bitsL G r.2 j := by
  funext j
  simp [seenB]
theorem seenB_has {G : Gr} (hG : GV G) {b : Bool} {st n t : Nat} (hn : n ≤ G.N) (ht : t < G.N) : seenB G (rgs G b st n) (bof G t) = sees (rgs G b st n) t := by
  have hV : ∀ r : Nat × BL, r ∈ rgs G b st n → LV G r.1 r.2 := fun r hr => by
    obtain ⟨r1, r2, _⟩ := rgs_len hG n hn r hr
    rw [r2]
    exact bfs_LV r1 st
  unfold seenB sees
  apply Bool.eq_iff_iff.mpr
  rw [List.any_eq_true, List.any_eq_true]
  constructor
  · rintro ⟨r, hr, e⟩
    rw [bitsL_has hG (hV r hr) ht] at e
    exact ⟨r, hr, e⟩
  · rintro ⟨r, hr, e⟩
    exact ⟨r, hr, by rw [bitsL_has hG (hV r hr) ht]; exact e⟩
theorem BS.tg {h h' : AH} {b wa : Nat} {f : Nat → Bool} (B : BS h b wa f) (k : ∀ i t vs, hget h i = some (t, vs) → t = 12 ∨ t = 66 → hget h' i = some (t, vs)) : BS h' b wa f := by
  obtain ⟨u, L, W, B0, hf⟩ := id B
  exact B.of ((k _ _ _ B0.1 (.inl rfl)).trans B0.1.symm) ((k _ _ _ B0.2.1 (.inr rfl)).trans B0.2.1.symm)
theorem BS.fl {h h' : AH} {b wa lo : Nat} {f : Nat → Bool} (B : BS h b wa f) (k : FrL lo h h') : BS h' b wa f := B.tg (fun i t vs e ht => k.2.2 i t vs e (by omega) (by omega))
theorem BS.fr {h h' : AH} {b wa b' wa' : Nat} {f g : Nat → Bool} (B : BS h b wa f) (B' : BS h b' wa' g) (k : Fr2 b' wa' h h') (n1 : b ≠ b') (n2 : wa ≠ wa') : BS h' b wa f := by
  obtain ⟨u, L, W, B0, hf⟩ := id B
  obtain ⟨u', L', W', B1, hg⟩ := B'
  exact B.of (k.2 b (hget_some_lt B0.1) n1 (tag_ne B0.1 B1.2.1 (by omega))) (k.2 wa (hget_some_lt B0.2.1) (tag_ne B0.2.1 B1.1 (by omega)) n2)
theorem BS.lt {h : AH} {b wa : Nat} {f : Nat → Bool} (B : BS h b wa f) : b < 1024 + h.length ∧ wa < 1024 + h.length := by
  obtain ⟨u, L, W, B0, hf⟩ := B
  exact ⟨hget_some_lt B0.1, hget_some_lt B0.2.1⟩
def RGI (hb : AH) (G : Gr) (lid sb S0 : Nat) (R : RL2) (s : AH × Int32 × List (Nat × Nat) × Nat) : Prop :=
  Pf hb s.1 ∧ LL s.1 (1024 + hb.length) lid s.2.1 s.2.2.1 ∧ BS s.1 sb s.2.2.2 (seenB G R) ∧ (1024 + hb.length ≤ sb ∧ 1024 + hb.length ≤ s.2.2.2) ∧ s.2.2.1.length = R.length ∧
  (∀ (i : Nat) (p : Nat × Nat) (r : Nat × BL), s.2.2.1[i]? = some p → R[i]? = some r → ∃ wa, BS s.1 p.2 wa (bitsL G r.2) ∧ p.2 ≠ sb ∧ wa ≠ s.2.2.2) ∧ sz s.1 ≤ S0 + 17 * tot R + 41 * R.length
def RO (hb : AH) (G : Gr) (R : RL2) (s : AH) (lid : Nat) (mc : Int32) (l : List (Nat × Nat)) : Prop :=
  Pf hb s ∧ LL s (1024 + hb.length) lid mc l ∧ l.length = R.length ∧ ∀ (i : Nat) (p : Nat × Nat) (r : Nat × BL), l[i]? = some p → R[i]? = some r → ∃ wa, BS s p.2 wa (bitsL G r.2)
theorem x_regions {h : AH} {D : CD} {G : Gr} (c : CR h D G) (hG : GV G) (b by8 : Bool) (hz : sz h + 14000 < 1200000) :
    ∃ (s : AH) (lid : Nat) (mc : Int32) (l : List (Nat × Nat)), f_X3_regions (some D.c) (bI b) (bI by8) h = some (some (vR (some lid)), s) ∧ RO h G (rgs G b (stB by8) G.N) s lid mc l ∧ sz s ≤ sz h + 9000 := by
  obtain ⟨⟨g1, g2, g3, g4, g5, g6⟩, g7⟩ := id hG
  have hst := stB_ok by8
  unfold f_X3_regions
  rw [new_ll (by omega)]
  have p1 : Pf h (h ++ [(14, [.int 0, .int 0, .null, .null])]) := Pf.app _ _
  have z1 : sz (h ++ [(14, ([.int 0, .int 0, .null, .null] : List Value))]) = sz h + 5 := by rw [sz_app, sz_one]; rfl
  have T1 := new_LL h (lo := 1024 + h.length) (by omega) (Nat.le_refl _)
  have l1 : (h ++ [(14, ([.int 0, .int 0, .null, .null] : List Value))]).length = h.length + 1 := by simp
  generalize h ++ [(14, ([.int 0, .int 0, .null, .null] : List Value))] = h1 at p1 z1 T1 l1 ⊢
  rw [new_bits (by omega)]
  have p2 : Pf h1 (h1 ++ [(12, [.ref (1024 + h1.length + 1), .int (nI 0), .int 0]), (66, loW 1 (fun _ => 0))]) := Pf.app _ _
  have z2 := sz_bits h1
  have B2 := new_bits_BS h1
  generalize h1 ++ [(12, [.ref (1024 + h1.length + 1), .int (nI 0), .int 0]), (66, loW 1 (fun _ => 0))] = h2 at p2 z2 B2 ⊢
  have hsb : 1024 + h.length ≤ 1024 + h1.length := by omega
  have hsw : 1024 + h.length ≤ 1024 + h1.length + 1 := by omega
  generalize 1024 + h1.length + 1 = sw at B2 hsw
  generalize 1024 + h1.length = sb at B2 hsb ⊢
  generalize hlid : 1024 + h.length = lid at T1
  refine loop2 (σ := AH × Int32 × List (Nat × Nat) × Nat) G.R G.C (by omega) (by omega)
    (fun n r s => f_X3_regions_20 n (some D.c) (bI b) (bI by8) (some lid) (some sb) (nI r) s.1)
    (fun n m r k s => f_X3_regions_32 (f_X3_regions_20 n) m (some D.c) (bI b) (bI by8) (some lid) (some sb) (nI r) (nI k) s.1)
    (fun i s => RGI h G lid sb (sz h + 20) (rgs G b (stB by8) i) s)
    (fun res => ∃ (s : AH) (lid : Nat) (mc : Int32) (l : List (Nat × Nat)), res = some (some (vR (some lid)), s) ∧ RO h G (rgs G b (stB by8) G.N) s lid mc l ∧ sz s ≤ sz h + 9000) ?_ ?_ ?_ ?_ (h2, 0, [], sw) ⟨p1.trans p2, ?_, B2, ⟨?_, ?_⟩, rfl, fun i p r hp _ => by simp at hp, ?_⟩
  · rintro ⟨s, mc, l, w⟩ n ⟨i1, i2, i3, i4, i5, i6, i7⟩
    rw [f_X3_regions_20_s]
    simp only
    rw [c_gi0 (c.pf i1), if_pos (nI_le (Nat.le_refl _) (by omega))]
    have ht := tot_le hG (b := b) hst (Nat.le_refl G.N)
    have hr := rgs_le G b (stB by8) G.N
    have i7 : sz s ≤ sz h + 20 + 17 * tot (rgs G b (stB by8) G.N) + 41 * (rgs G b (stB by8) G.N).length := i7
    exact ⟨s, lid, mc, l, rfl, ⟨i1, i2, i5, fun i p r hp hr => by
      obtain ⟨wa, w1, _⟩ := i6 i p r hp hr
      exact ⟨wa, w1⟩⟩, by omega⟩
  · rintro r ⟨s, mc, l, w⟩ n hr hs hk
    rw [f_X3_regions_20_s]
    simp only
    rw [c_gi0 (c.pf hs.1), if_neg (nI_ge hr (by omega))]
    exact hk (s, mc, l, w) hs
  · rintro r ⟨s, mc, l, w⟩ n m hr hs hk
    rw [f_X3_regions_32_s]
    simp only
    rw [c_gi1 (c.pf hs.1), if_pos (nI_le (Nat.le_refl _) (by omega)), o_let_eq, li1, nI_add]
    exact hk (s, mc, l, w) (by rw [Nat.mul_succ]; exact hs)
  · rintro r k ⟨s, mc, l, w⟩ n m hr hk hlt hs hn
    obtain ⟨i1, i2, i3, i4, i5, i6, i7⟩ := id hs
    have i1 : Pf h s := i1
    have i2 : LL s (1024 + h.length) lid mc l := i2
    have i3 : BS s sb w (seenB G (rgs G b (stB by8) (G.C * r + k))) := i3
    have i5 : l.length = (rgs G b (stB by8) (G.C * r + k)).length := i5
    have i7 : sz s ≤ sz h + 20 + 17 * tot (rgs G b (stB by8) (G.C * r + k)) + 41 * (rgs G b (stB by8) (G.C * r + k)).length := i7
    have hltN : G.C * r + k < G.N := hlt
    have ht := tot_le hG (b := b) hst (Nat.le_of_lt hltN)
    have hrl := rgs_le G b (stB by8) (G.C * r + k)
    have c1 := c.pf i1
    have h100 : ∀ s', f_X3_regions_100 (f_X3_regions_20 n) (f_X3_regions_32 (f_X3_regions_20 n) m) (some D.c) (bI b) (bI by8) (some lid) (some sb) (nI r) (nI k) s' = f_X3_regions_32 (f_X3_regions_20 n) m (some D.c) (bI b) (bI by8) (some lid) (some sb) (nI r) (nI (k + 1)) s' := by
      intro s'
      unfold f_X3_regions_100
      rw [o_let_eq, li1, nI_add]
    rw [f_X3_regions_32_s]
    simp only
    rw [c_gi1 c1, if_neg (nI_ge hk (by omega)), c_gr3 c1, c_row c1 hG hr, c_l c1 hG hr hk]
    simp only [bI_inj]
    have ebo : bof G (G.C * r + k) = 12 * r + k := by unfold bof; rw [rc_div hk, rc_mod hk]
    by_cases v : G.l (G.C * r + k) = b
    · rw [if_pos v, show (12 : Int32) = nI 12 from rfl, pk_mul, nI_add, o_ci_eq (b_get i3 (k := 12 * r + k) (by omega)), ite_bI, ← ebo, seenB_has hG (Nat.le_of_lt hltN) hltN]
      by_cases u : sees (rgs G b (stB by8) (G.C * r + k)) (G.C * r + k) = true
      · rw [if_pos u, h100]
        refine hn (s, mc, l, w) ?_
        rw [rgs_no (by rw [u]; simp)]
        exact hs
      · rw [if_neg u]
        have hc : ((G.l (G.C * r + k) == b) && !sees (rgs G b (stB by8) (G.C * r + k)) (G.C * r + k)) = true := by rw [v]; simpa using u
        obtain ⟨s1, rb, wr, e1, e2, e3, _, e5, e6, e7, e8⟩ := x_search c1 hG (vis6 s G) by8 hr hk (Pf.refl s) trivial (by omega)
        have hlenL := (bfs_LV hltN (stB by8)).len hG
        have hl1 := i1.len
        rw [c_cr c1 e1]
        obtain ⟨s2, f1, f2, f3, f4⟩ := ll_add (i2.pf e2) (by omega) rb (by omega)
        rw [o_cv_eq f1]
        have Bs2 := (i3.pf e2).fl f3
        have Br2 := e3.fl f3
        have ls := i3.lt
        have ls2 := Br2.lt
        have hl2 := f3.1
        obtain ⟨s3, sw', k1, k2, k3, k4, k5⟩ := b_or Bs2 Br2 (by omega) (by omega) (by omega)
        rw [o_cv_eq k1, h100]
        obtain ⟨u2, L2, W2, Bw, _⟩ := id Bs2
        refine hn (s3, mc + 1, l ++ [(1024 + s1.length, rb)], sw') ⟨k4.pf (f3.pf (i1.trans e2)) i4.1 i4.2, f2.of (fun i t vs e ht => by rw [k4.2 i (hget_some_lt e) (tag_ne e Bw.1 (by omega)) (tag_ne e Bw.2.1 (by omega))]; exact e), ?_, ⟨i4.1, ?_⟩, ?_, ?_, ?_⟩
        · rw [rgs_yes hc, seenB_app]; exact k2
        · have := i4.2
          rcases k3 with k3 | k3
          · rw [k3]; exact this
          · show _ ≤ sw'; omega
        · rw [rgs_yes hc, List.length_append, List.length_append, i5]; rfl
        · intro i p q hp hq
          rw [rgs_yes hc] at hq
          have hp : (l ++ [(1024 + s1.length, rb)])[i]? = some p := hp
          by_cases hi : i < l.length
          · rw [List.getElem?_append_left hi] at hp
            rw [List.getElem?_append_left (by omega)] at hq
            obtain ⟨wa, w1, w2, w3⟩ := i6 i p q hp hq
            have w1 : BS s p.2 wa (bitsL G q.2) := w1
            have w3 : wa ≠ w := w3
            have wl := w1.lt
            refine ⟨wa, ((w1.pf e2).fl f3).fr Bs2 k4 w2 w3, w2, ?_⟩
            show wa ≠ sw'
            rcases k3 with k3 | k3 <;> omega
          · have hil : i < l.length + 1 := by
              have := (List.getElem?_eq_some_iff.mp hp).1
              simpa using this
            obtain rfl : i = l.length := by omega
            rw [List.getElem?_append_right (Nat.le_refl _), Nat.sub_self] at hp
            rw [i5, List.getElem?_append_right (Nat.le_refl _), Nat.sub_self] at hq
            have hp : (1024 + s1.length, rb) = p := by simpa using hp
            have hq : (G.C * r + k, bfs G (G.C * r + k) (stB by8)) = q := by simpa using hq
            subst hp hq
            refine ⟨wr, Br2.fr Bs2 k4 (by show rb ≠ sb; omega) (by omega), by show rb ≠ sb; omega, ?_⟩
            show wr ≠ sw'
            rcases k3 with k3 | k3 <;> omega
        · show sz s3 ≤ _
          rw [rgs_yes hc, tot_app, List.length_append]
          show sz s3 ≤ sz h + 20 + 17 * (tot (rgs G b (stB by8) (G.C * r + k)) + (bfs G (G.C * r + k) (stB by8)).length) + 41 * ((rgs G b (stB by8) (G.C * r + k)).length + 1)
          omega
    · rw [if_neg v, h100]
      refine hn (s, mc, l, w) ?_
      rw [rgs_no (by simp [v])]
      exact hs
  · rw [← hlid] at T1 ⊢
    exact T1.pf p2
  · exact hsb
  · exact hsw
  · show sz h2 ≤ sz h + 20 + 17 * 0 + 41 * 0
    omega
theorem xo_islands {h : AH} {D : CD} {G : Gr} (x : XC h D G) (hz : sz h + 14000 < 1200000) : Al 9000 h (f_X0_islands (some 1024) h) (some (vI (nI (rgs G true 1 G.N).length))) := by
  unfold f_X0_islands
  obtain ⟨s, lid, mc, l, e1, ⟨o1, o2, o3, o4⟩, e3⟩ := x_regions x.cr x.gv true true hz
  have e1 : f_X3_regions (some D.c) 1 1 h = some (some (vR (some lid)), s) := e1
  rw [t_gr1 x, c_cr x.cr e1, o_ci_eq (ll_size o2), o3]
  exact ⟨s, rfl, o1, e3⟩
theorem x_atBorder {h : AH} {D : CD} {G : Gr} (c : CR h D G) (hG : GV G) {r k : Nat} (hr : r < G.R) (hk : k < G.C) : f_X3_isAtBorder (some D.c) (nI r) (nI k) h = some (some (vI (bI (!(decide ((1 ≤ r ∧ r + 2 ≤ G.R) ∧ 1 ≤ k ∧ k + 2 ≤ G.C))))), h) := by
  obtain ⟨⟨g1, g2, g3, g4, g5, g6⟩, g7⟩ := id hG
  unfold f_X3_isAtBorder
  simp only [retz_1, retz_0]
  by_cases a1 : r = 0
  · rw [if_pos (by rw [a1]; rfl), decide_eq_false (by omega)]; rfl
  · rw [if_neg (by rw [li0, nI_eq (by omega) (by omega)]; exact a1)]
    by_cases a2 : k = 0
    · rw [if_pos (by rw [a2]; rfl), decide_eq_false (by omega)]; rfl
    · rw [if_neg (by rw [li0, nI_eq (by omega) (by omega)]; exact a2), c_gi0 c, show nI G.R - 1 = nI (G.R - 1) by rw [li1, pk_sub (by omega)]]
      by_cases a3 : r = G.R - 1
      · rw [if_pos (by rw [← a3]), decide_eq_false (by omega)]; rfl
      · rw [if_neg (by rw [nI_eq (by omega) (by omega)]; exact a3), c_gi1 c, show nI G.C - 1 = nI (G.C - 1) by rw [li1, pk_sub (by omega)]]
        by_cases a4 : k = G.C - 1
        · rw [if_pos (by rw [← a4]), decide_eq_false (by omega)]; rfl
        · rw [if_neg (by rw [nI_eq (by omega) (by omega)]; exact a4), decide_eq_true (by omega)]; rfl
theorem x_isLake {h : AH} {D : CD} {G : Gr} (c : CR h D G) (hG : GV G) {b wa t0 : Nat} {L : BL} (B : BS h b wa (bitsL G L)) (hV : LV G t0 L) : f_X3_isLake (some D.c) (some b) h = some (some (vI (bI (ins G L))), h) := by
  have hft : ∀ t, bitsL G L t = true → ∃ p : Nat × Nat, p ∈ L ∧ bof G p.1 = t := by
    intro t ht
    unfold bitsL at ht
    obtain ⟨p, hp, ep⟩ := List.any_eq_true.mp ht
    exact ⟨p, hp, beq_iff_eq.mp ep⟩
  unfold f_X3_isLake
  have bn : tagIs 12 (some b) (f_J23_nextSetBit (some b) 0) h = some (some (vI (nsb (bitsL G L) 0)), h) := b_next B (k := 0) (by omega)
  rw [o_ci_eq bn]
  refine bits_iter (σ := Unit) (bitsL G L) (fun n y _ => f_X3_isLake_6 n (some D.c) (some b) y h) (fun K _ => ∀ p : Nat × Nat, p ∈ L → bof G p.1 < K → insi G p.1 = true) (fun res => res = some (some (vI (bI (ins G L))), h)) ?_ ?_ ?_ () (fun p _ w => absurd w (by omega))
  · intro _ n hi
    rw [f_X3_isLake_6_s]
    simp only
    rw [if_pos (by decide), retz_1]
    have : ins G L = true := by
      unfold ins
      rw [List.all_eq_true]
      exact fun p hp => hi p hp (by have := bof_lt hG (hV.1 p hp).1; omega)
    rw [this]
  · intro t _ n ht hf hi hn
    obtain ⟨p, hp, ep⟩ := hft t hf
    have hpN := (hV.1 p hp).1
    obtain ⟨d1, d2⟩ := bof_dm hG hpN
    obtain ⟨a1, a2, a3⟩ := k_rc (show p.1 < G.C * G.R from hpN)
    have hi' : insi G p.1 = decide ((1 ≤ p.1 / G.C ∧ p.1 / G.C + 2 ≤ G.R) ∧ 1 ≤ p.1 % G.C ∧ p.1 % G.C + 2 ≤ G.C) := rfl
    rw [f_X3_isLake_6_s]
    simp only
    rw [if_neg (nI_pos (by omega)), show (12 : Int32) = nI 12 from rfl, idiv_nI (by omega) (by omega) (by omega), irem_nI (by omega) (by omega) (by omega), ← ep, d1, d2, c_ci c (x_atBorder c hG a1 a2), ite_bI, ← hi']
    cases hv : insi G p.1 with
    | false =>
      rw [if_pos (by rfl), retz_0]
      have : ins G L = false := by
        unfold ins
        rw [List.all_eq_false]
        exact ⟨p, hp, by rw [hv]; simp⟩
      rw [this]
    | true =>
      rw [if_neg (by decide), li1, nI_add, o_ci_eq (b_next B (by omega)), ep]
      refine hn () (fun q hq w => ?_)
      by_cases e : bof G q.1 = t
      · have := bof_inj hG (hV.1 q hq).1 hpN (by rw [e, ep])
        rw [this]; exact hv
      · exact hi q hq (by omega)
  · intro t _ ht hf hi p hp w
    refine hi p hp ?_
    by_cases e : bof G p.1 = t
    · have : bitsL G L t = true := by
        unfold bitsL
        exact List.any_eq_true.mpr ⟨p, hp, beq_iff_eq.mpr e⟩
      rw [hf] at this; cases this
    · omega
theorem takeR {R : RL2} {i : Nat} {r : Nat × BL} (h : R[i]? = some r) : R.take (i + 1) = R.take i ++ [r] := by
  rw [List.take_succ, h]; rfl
theorem xo_lakes {h : AH} {D : CD} {G : Gr} (x : XC h D G) (hz : sz h + 14000 < 1200000) : Al 9000 h (f_X0_lakes (some 1024) h) (some (vI (nI (lakN G (rgs G false 2 G.N))))) := by
  have hG := x.gv
  have hgb := hG.1
  unfold f_X0_lakes
  obtain ⟨s0, lid, mc, l, e1, ⟨o1, o2, o3, o4⟩, e3⟩ := x_regions x.cr x.gv false false hz
  have e1 : f_X3_regions (some D.c) 0 0 h = some (some (vR (some lid)), s0) := e1
  have o3 : l.length = (rgs G false 2 G.N).length := o3
  have o4 : ∀ (i : Nat) (p : Nat × Nat) (r : Nat × BL), l[i]? = some p → (rgs G false 2 G.N)[i]? = some r → ∃ wa, BS s0 p.2 wa (bitsL G r.2) := o4
  have hrl := rgs_le G false 2 G.N
  have hrg : ∀ r : Nat × BL, r ∈ rgs G false 2 G.N → LV G r.1 r.2 := fun r hr => by
    obtain ⟨r1, r2, _⟩ := rgs_len hG G.N (Nat.le_refl _) r hr
    rw [r2]
    exact bfs_LV r1 2
  rw [t_gr1 x, c_cr x.cr e1]
  generalize rgs G false 2 G.N = R at *
  refine loop1 (σ := AH × Int32) l.length (fun n i s => f_X0_lakes_12 n (some 1024) (some lid) (nI (lakN G (R.take i))) s.1)
    (fun i s => LL s.1 (1024 + h.length) lid s.2 (l.drop i) ∧ FrL (1024 + h.length) s0 s.1 ∧ sz s.1 = sz s0) (fun res => Al 9000 h res (some (vI (nI (lakN G R))))) ?_ ?_ 0 (s0, mc) FUEL (by omega) ⟨o2, ⟨Nat.le_refl _, fun _ _ => rfl, fun _ _ _ e _ _ => e⟩, rfl⟩ (by simp only [FUEL]; omega)
  · rintro ⟨s, mc'⟩ n ⟨q1, q2, q3⟩
    have q1 : LL s (1024 + h.length) lid mc' (l.drop l.length) := q1
    have hl0 : (l.drop l.length).length = 0 := by simp
    rw [f_X0_lakes_12_s]
    simp only
    rw [o_ci_eq (ll_empty q1 (by omega)), hl0, ite_bI, if_pos (by rfl), o3, List.take_length]
    have q3 : sz s = sz s0 := q3
    exact ⟨s, rfl, q2.pf o1, by omega⟩
  · rintro i ⟨s, mc'⟩ n hi ⟨q1, q2, q3⟩ hk
    have q1 : LL s (1024 + h.length) lid mc' (l.drop i) := q1
    have hdl : (l.drop i).length = l.length - i := List.length_drop
    have hp : l[i]? = some (l[i]'hi) := List.getElem?_eq_getElem hi
    have hr : R[i]? = some (R[i]'(by omega)) := List.getElem?_eq_getElem _
    have hd : l.drop i = l[i]'hi :: l.drop (i + 1) := List.drop_eq_getElem_cons hi
    obtain ⟨wa, w1⟩ := o4 i _ _ hp hr
    have hV := hrg _ (List.mem_of_getElem? hr)
    generalize l[i]'hi = p at *
    generalize R[i]'(by omega) = r at *
    have em := ll_empty q1 (by omega)
    rw [hdl, decide_eq_false (by omega)] at em
    rw [hd] at q1
    obtain ⟨s', m1, m2, m3, m4⟩ := ll_rem q1
    have xs : XC s D G := x.pf (q2.pf o1)
    have xs' : XC s' D G := x.pf ((q2.trans m3).pf o1)
    have B' := w1.fl (q2.trans m3)
    obtain ⟨u, L, W, B0, _⟩ := id B'
    rw [f_X0_lakes_12_s]
    simp only
    have h42 : ∀ a : Nat, f_X0_lakes_42 (f_X0_lakes_12 n) (some 1024) (some lid) (nI (lakN G (R.take i))) (nI a) s' = f_X0_lakes_12 n (some 1024) (some lid) (nI (lakN G (R.take i) + a)) s' := by
      intro a
      unfold f_X0_lakes_42
      rw [o_let_eq, nI_add]
    rw [o_ci_eq em, ite_bI, if_neg (by decide), t_gr1 xs, o_cr_eq m1, o_cc_eq B0.1, c_ci xs'.cr (x_isLake xs'.cr hG B' hV), ite_bI, show (1 : Int32) = nI 1 from rfl, show (0 : Int32) = nI 0 from rfl, h42, h42]
    have := hk (s', mc' + 1) ⟨m2, q2.trans m3, m4.trans q3⟩
    rw [takeR hr, lakN_app] at this
    revert this
    cases ins G r.2
    · exact fun w => w
    · exact fun w => w
