set_option maxRecDepth 100000
/-! the reader, as the component does it (1) -/
def nxt (tx : List Nat) (k : Nat) : Int32 := match tx[k]? with
  | some c => nI c
  | none => -6
theorem drop_some {tx : List Nat} {k c : Nat} (h : tx[k]? = some c) : tx.drop k = c :: tx.drop (k + 1) := by
  obtain ⟨hk, e⟩ := List.getElem?_eq_some_iff.mp h
  rw [List.drop_eq_getElem_cons hk, e]
theorem drop_none {tx : List Nat} {k : Nat} (h : tx[k]? = none) : tx.drop k = [] := List.drop_eq_nil_of_le (by simpa using h)
theorem rdE_s {tx : List Nat} {k c : Nat} {s s' : RS} (h : tx[k]? = some c) (r : rstep s c = some s') : rdE (tx.drop k) k s = rdE (tx.drop (k + 1)) (k + 1) s' := by
  rw [drop_some h, rdE, r]
theorem rdE_n {tx : List Nat} {k c : Nat} {s : RS} (h : tx[k]? = some c) (r : rstep s c = none) : (rdE (tx.drop k) k s).1 = nI k := by
  rw [drop_some h, rdE, r]
theorem rdE_e {tx : List Nat} {k : Nat} {s : RS} (h : tx[k]? = none) (r : s.whole = false) : (rdE (tx.drop k) k s).1 = nI k := by
  rw [drop_none h, rdE, r]; rfl
theorem rdE_w {tx : List Nat} {k : Nat} {s : RS} (h : tx[k]? = none) (r : s.whole = true) : rdE (tx.drop k) k s = (-6, s) := by
  rw [drop_none h, rdE, r]; rfl
/-- the reader's object and its bits -/
def RX (hb s : AH) (rid b wa k R C fl : Nat) (f : Nat → Bool) : Prop := Pf hb s ∧ hget s rid = some (7, [.ref b, .int (nI k), .int (nI R), .int (nI C), .int (nI fl), .ref 1024]) ∧ BS s b wa f ∧ 1024 + hb.length ≤ rid ∧ 1024 + hb.length ≤ b ∧ 1024 + hb.length ≤ wa
theorem rx_w {hb s : AH} {rid b wa k R C fl k' R' C' fl' : Nat} {f : Nat → Bool} (Y : RX hb s rid b wa k R C fl f) {j : Nat} {v : Value} (hj : j < 6) (e : ([.ref b, .int (nI k), .int (nI R), .int (nI C), .int (nI fl), .ref 1024] : List Value).set j v = [.ref b, .int (nI k'), .int (nI R'), .int (nI C'), .int (nI fl'), .ref 1024]) :
    ∃ s', (∀ K : AH → Res, o_pf 7 (some rid) j v K s = K s') ∧ RX hb s' rid b wa k' R' C' fl' f ∧ sz s' = sz s := by
  obtain ⟨y1, y2, y3, y4, y5, y6⟩ := Y
  have hge : 1024 ≤ rid := by omega
  have hlt := hget_some_lt y2
  obtain ⟨u, L, W, B0, hf⟩ := id y3
  refine ⟨hset s rid (7, [.ref b, .int (nI k'), .int (nI R'), .int (nI C'), .int (nI fl'), .ref 1024]), fun K => ?_, ⟨y1.set _ y4, hget_set_same hge hlt, y3.of (hget_set_ne hge (tag_ne B0.1 y2 (by omega))) (hget_set_ne hge (tag_ne B0.2.1 y2 (by omega))), y4, y5, y6⟩, sz_set hge y2 (by rfl)⟩
  rw [o_pf_eq y2 hge hj, e]
theorem RX.tag {hb s : AH} {rid b wa k R C fl : Nat} {f : Nat → Bool} (Y : RX hb s rid b wa k R C fl f) {F : AH → Res} : tagIs 7 (some rid) F s = F s := tagIs_eq Y.2.1
theorem rx_next {hb s : AH} {cc : Nat} {z : Value} {hh : List Nat} {e n : Nat} {tx : List Nat} (X : XB hb cc z hh e n tx) (h80 : tx.length ≤ 80) (hch : ∀ c, c ∈ tx → 33 ≤ c ∧ c ≤ 126) {rid b wa k R C fl : Nat} {f : Nat → Bool} (Y : RX hb s rid b wa k R C fl f) (hk : k ≤ tx.length) : tagIs 7 (some rid) (f_X7_next (some rid)) s = some (some (vI (nxt tx k)), s) := by
  have Xs := X.pf Y.1
  obtain ⟨v, m, mb, g, t1, t2, t3, t4, t5, t6, t7⟩ := Xs.2.2.2.2
  have T : SB s v m mb g tx.length := ⟨t1, t2, t5, t6, t7⟩
  rw [Y.tag]
  unfold f_X7_next nxt
  rw [o_gi_eq Y.2.1 rfl, o_gr_eq Y.2.1 rfl, b_gr4 Xs, o_ci_eq (sb_len T)]
  cases hc : tx[k]? with
  | none =>
    have : tx.length ≤ k := by simpa using hc
    rw [if_pos (nI_le this (by omega))]
  | some c =>
    obtain ⟨hk', ec⟩ := List.getElem?_eq_some_iff.mp hc
    have hcb := hch c (List.mem_of_getElem? hc)
    rw [if_neg (nI_ge hk' (by omega)), o_gr_eq Y.2.1 rfl, b_gr4 Xs, o_gi_eq Y.2.1 rfl, o_ci_eq (sb_char T t4 hk' (t3 k c hc) (by omega))]
def dig (tx : List Nat) (k : Nat) : Bool := decide (48 ≤ (nxt tx k).toInt ∧ (nxt tx k).toInt ≤ 57)
theorem dig_iff {tx : List Nat} (hch : ∀ c, c ∈ tx → 33 ≤ c ∧ c ≤ 126) {k : Nat} : dig tx k = true ↔ ∃ c, tx[k]? = some c ∧ 48 ≤ c ∧ c ≤ 57 := by
  unfold dig nxt
  rw [decide_eq_true_eq]
  cases hc : tx[k]? with
  | none =>
    constructor
    · intro w
      have : (-6 : Int32).toInt = -6 := by decide
      simp only at w
      omega
    · rintro ⟨c, w, _⟩; cases w
  | some c =>
    have hcb := hch c (List.mem_of_getElem? hc)
    simp only
    rw [nI_toInt (by omega)]
    constructor
    · intro w; exact ⟨c, rfl, by omega, by omega⟩
    · rintro ⟨c', w, w2⟩; cases w; omega
theorem rx_dig {hb s : AH} {cc : Nat} {z : Value} {hh : List Nat} {e n : Nat} {tx : List Nat} (X : XB hb cc z hh e n tx) (h80 : tx.length ≤ 80) (hch : ∀ c, c ∈ tx → 33 ≤ c ∧ c ≤ 126) {rid b wa k R C fl : Nat} {f : Nat → Bool} (Y : RX hb s rid b wa k R C fl f) (hk : k ≤ tx.length) : tagIs 7 (some rid) (f_X7_isDigit (some rid)) s = some (some (vI (bI (dig tx k))), s) := by
  rw [Y.tag]
  unfold f_X7_isDigit
  rw [o_ci_eq (rx_next X h80 hch Y hk), o_ci_eq (x_in _ _ _ _), ti48, ti57]
  exact retz_bI _ _
theorem rx_room {hb s : AH} {rid b wa k : Nat} {f : Nat → Bool} {st : RS} (Y : RX hb s rid b wa k st.rr st.rc st.ir f) (hV : RV st) : tagIs 7 (some rid) (f_X7_room (some rid)) s = some (some (vI (nI st.room)), s) := by
  obtain ⟨v1, v2, v3, v4⟩ := hV
  rw [Y.tag]
  unfold f_X7_room RS.room
  unfold RS.wid at v3 ⊢
  rw [o_gi_eq Y.2.1 rfl]
  by_cases q : st.rr = 0
  · rw [if_pos q] at v3
    rw [if_pos (by rw [q]; rfl), o_gi_eq Y.2.1 rfl, if_pos q, li12, pk_sub v3]
  · rw [if_neg q] at v3
    rw [if_neg (by rw [li0, nI_eq (by omega) (by omega)]; exact q), o_gi_eq Y.2.1 rfl, o_gi_eq Y.2.1 rfl, if_neg q, pk_sub v3]
def setnu (s : RS) (m : Nat) : RS := (s.rr, s.rc, s.ir, m, s.rd)
/-- what reading a number comes to -/
def NumO (hb : AH) (tx : List Nat) (rid b wa k : Nat) (st : RS) (f : Nat → Bool) (S0 : Nat) (res : Res) : Prop :=
  (∃ s' k', res = some (some (vI (-6)), s') ∧ RX hb s' rid b wa k' st.rr st.rc st.ir f ∧ sz s' ≤ S0 ∧ k' ≤ tx.length ∧ (rdE (tx.drop k) k st).1 = nI k') ∨
  (∃ s' k' m, res = some (some (vI (nI m)), s') ∧ RX hb s' rid b wa k' st.rr st.rc st.ir f ∧ sz s' ≤ S0 ∧ k ≤ k' ∧ k' ≤ tx.length ∧ 1 ≤ m ∧ m ≤ st.room ∧ ((m = 1 ∧ k' = k ∧ dig tx k = false) ∨ (2 ≤ m ∧ rdE (tx.drop k) k st = rdE (tx.drop k') k' (setnu st m))))
theorem room_le {st : RS} (hV : RV st) : st.room ≤ 12 := by
  have := wid_le hV
  unfold RS.room
  omega
theorem rx_number {hb s : AH} {cc : Nat} {z : Value} {hh : List Nat} {e n : Nat} {tx : List Nat} (X : XB hb cc z hh e n tx) (h80 : tx.length ≤ 80) (hch : ∀ c, c ∈ tx → 33 ≤ c ∧ c ≤ 126) {rid b wa k : Nat} {f : Nat → Bool} {st : RS} (Y : RX hb s rid b wa k st.rr st.rc st.ir f) (hV : RV st) (hnu : st.nu = 0) (hk : k ≤ tx.length) (hroom : 1 ≤ st.room) :
    NumO hb tx rid b wa k st f (sz s) (tagIs 7 (some rid) (f_X7_number (some rid)) s) := by
  have hr12 := room_le hV
  rw [Y.tag]
  unfold f_X7_number
  rw [o_ci_eq (rx_dig X h80 hch Y hk), ite_bI]
  by_cases hd : dig tx k = true
  · rw [if_pos hd, o_ci_eq (rx_next X h80 hch Y hk)]
    obtain ⟨c, hc, c1, c2⟩ := (dig_iff hch).mp hd
    have hkl := (List.getElem?_eq_some_iff.mp hc).1
    have en : nxt tx k = nI c := by unfold nxt; rw [hc]
    rw [en, o_let_eq, show (48 : Int32) = nI 48 from rfl, pk_sub c1]
    obtain ⟨d, rfl⟩ : ∃ d, c = 48 + d := ⟨c - 48, by omega⟩
    rw [show 48 + d - 48 = d by omega]
    -- the digit fails
    have bad : ((if d = 1 then 10 else d) ≤ st.room ∧ 0 < d → False) → (rdE (tx.drop k) k st).1 = nI k := by
      intro w
      refine rdE_n hc ?_
      unfold rstep
      rw [if_pos ⟨c1, c2⟩, if_neg]
      rw [show 48 + d - 48 = d by omega, hnu]
      rintro (q | q)
      · exact w ⟨q.2.2, q.2.1⟩
      · omega
    have good : (if d = 1 then 10 else d) ≤ st.room → 0 < d → rdE (tx.drop k) k st = rdE (tx.drop (k + 1)) (k + 1) (setnu st d) := by
      intro w1 w2
      refine rdE_s hc ?_
      unfold rstep setnu
      rw [if_pos ⟨c1, c2⟩, if_pos]
      · rw [hnu, show 10 * 0 + (48 + d) - 48 = d by omega]
      · rw [show 48 + d - 48 = d by omega, hnu]
        exact .inl ⟨rfl, w2, w1⟩
    have n56 : (if d = 1 then 10 else d) ≤ st.room → 0 < d → NumO hb tx rid b wa k st f (sz s) (f_X7_number_56 (some rid) (nI d) s) := by
      intro w1 w2
      have g0 := good w1 w2
      unfold f_X7_number_56
      obtain ⟨s1, p1, Y1, z1⟩ := rx_w Y (j := 1) (v := .int (nI (k + 1))) (k' := k + 1) (by omega) rfl
      rw [o_gi_eq Y.2.1 rfl, li1, nI_add, p1]
      by_cases q : d = 1
      · subst q
        rw [if_pos rfl] at w1
        rw [if_pos rfl, o_ci_eq (rx_next X h80 hch Y1 (by omega)), o_let_eq, o_ci_eq (rx_dig X h80 hch Y1 (by omega)), ite_bI]
        have bad2 : (∀ c', tx[k + 1]? = some c' → 48 ≤ c' → c' ≤ 57 → ¬ 10 + (c' - 48) ≤ st.room) → (rdE (tx.drop (k + 1)) (k + 1) (setnu st 1)).1 = nI (k + 1) := by
          intro w
          cases hc2 : tx[k + 1]? with
          | none => exact rdE_e hc2 (by unfold RS.whole setnu; rw [decide_eq_false]; rintro ⟨q, _⟩; exact absurd q (by show ¬ 1 = 0; omega))
          | some c' =>
            refine rdE_n hc2 ?_
            unfold rstep
            by_cases a : 48 ≤ c' ∧ c' ≤ 57
            · have := w c' hc2 a.1 a.2
              rw [if_pos a, if_neg]
              have er : (setnu st 1).room = st.room := rfl
              have e1 : (setnu st 1).nu = 1 := rfl
              rw [er, e1]
              rintro (q | q)
              · omega
              · omega
            · rw [if_neg a]
              by_cases a2 : c' = 46 ∨ c' = 35
              · rw [if_pos a2, if_pos (.inl rfl)]
              · rw [if_neg a2, if_neg]
                rintro ⟨_, q, _⟩
                have := (whole_ir q).1
                exact absurd this (by show ¬ 1 = 0; omega)
        by_cases hd2 : dig tx (k + 1) = true
        · rw [if_pos hd2]
          obtain ⟨c', hc', c1', c2'⟩ := (dig_iff hch).mp hd2
          have hkl' := (List.getElem?_eq_some_iff.mp hc').1
          have en' : nxt tx (k + 1) = nI c' := by unfold nxt; rw [hc']
          rw [o_ci_eq (rx_room Y1 hV), en', show (48 : Int32) = nI 48 from rfl, pk_sub c1', show (10 : Int32) = nI 10 from rfl, nI_add]
          by_cases a : 10 + (c' - 48) ≤ st.room
          · rw [if_pos (nI_le a (by omega)), o_let_eq, o_gi_eq Y1.2.1 rfl, nI_add]
            obtain ⟨s2, p2, Y2, z2⟩ := rx_w Y1 (j := 1) (v := .int (nI (k + 1 + 1))) (k' := k + 1 + 1) (by omega) rfl
            rw [p2]
            refine .inr ⟨s2, k + 2, 10 + (c' - 48), rfl, Y2, by omega, by omega, by omega, by omega, a, .inr ⟨by omega, ?_⟩⟩
            rw [g0]
            refine rdE_s hc' ?_
            unfold rstep
            rw [if_pos ⟨c1', c2'⟩, if_pos]
            · show some (setnu st (10 * 1 + c' - 48)) = some (setnu st (10 + (c' - 48)))
              rw [show 10 * 1 + c' - 48 = 10 + (c' - 48) by omega]
            · refine .inr ⟨rfl, ?_, ?_⟩
              · show 10 * 1 + c' - 48 ≤ 12; omega
              · show 10 * 1 + c' - 48 ≤ st.room; omega
          · rw [if_neg (nI_ge (by omega) (by omega))]
            refine .inl ⟨s1, k + 1, rfl, Y1, by omega, by omega, ?_⟩
            rw [g0]
            exact bad2 (fun c'' h1 h2 h3 => by rw [hc'] at h1; cases h1; exact a)
        · rw [if_neg hd2]
          refine .inl ⟨s1, k + 1, rfl, Y1, by omega, by omega, ?_⟩
          rw [g0]
          exact bad2 (fun c'' h1 h2 h3 => absurd ((dig_iff hch).mpr ⟨c'', h1, h2, h3⟩) hd2)
      · rw [if_neg q] at w1
        rw [if_neg (by rw [nI_eq (by omega) (by omega)]; exact q)]
        exact .inr ⟨s1, k + 1, d, rfl, Y1, by omega, by omega, by omega, by omega, w1, .inr ⟨by omega, g0⟩⟩
    have n35 : d ≠ 1 ∨ st.room < 10 → NumO hb tx rid b wa k st f (sz s) (f_X7_number_35 (some rid) (nI d) s) := by
      intro w
      unfold f_X7_number_35 f_X7_number_36
      rw [if_pos rfl, o_ci_eq (rx_room Y hV), o_ci_eq (x_in _ _ _ _), ite_bI]
      have e2 : (2 : Int32).toInt = 2 := by decide
      simp only [decide_eq_true_eq, e2]
      rw [nI_toInt (by omega), nI_toInt (by omega)]
      by_cases a : (2 : Int) ≤ d ∧ (d : Int) ≤ st.room
      · rw [if_pos a]
        exact n56 (by rw [if_neg (by omega)]; omega) (by omega)
      · rw [if_neg a]
        refine .inl ⟨s, k, rfl, Y, Nat.le_refl _, hk, bad ?_⟩
        rintro ⟨w1, w2⟩
        by_cases q : d = 1
        · rw [if_pos q] at w1; omega
        · rw [if_neg q] at w1; omega
    by_cases q : d = 1
    · rw [if_pos (by rw [q]; rfl), o_ci_eq (rx_room Y hV)]
      by_cases a : st.room < 10
      · rw [if_pos (by rw [show (10 : Int32) = nI 10 from rfl, nI_ltI (by omega) (by omega)]; omega)]
        exact n35 (.inr a)
      · rw [if_neg (by rw [show (10 : Int32) = nI 10 from rfl, nI_ltI (by omega) (by omega)]; omega)]
        unfold f_X7_number_36
        rw [if_neg (by decide)]
        exact n56 (by rw [if_pos q]; omega) (by omega)
    · rw [if_neg (by rw [show (1 : Int32) = nI 1 from rfl, nI_eq (by omega) (by omega)]; exact q)]
      exact n35 (.inl q)
  · rw [if_neg hd]
    exact .inr ⟨s, k, 1, rfl, Y, Nat.le_refl _, Nat.le_refl _, hk, by omega, hroom, .inl ⟨rfl, rfl, by simpa using hd⟩⟩
