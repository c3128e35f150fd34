set_option maxRecDepth 100000
/-! the reader, as the component does it (2) -/
def RZ (st : RS) : Prop := ∀ t, st.rd t = true → RW st t
def NT (tx : List Nat) (k : Nat) (st : RS) : Prop := (st.ir = 0 ∧ 1 ≤ st.wid) ∨ ∃ c, tx[k]? = some c ∧ c ≠ 47
def RY (hb s : AH) (rid b wa k : Nat) (st : RS) : Prop := RX hb s rid b wa k st.rr st.rc st.ir st.rd ∧ RV st ∧ RZ st ∧ st.nu = 0
theorem whole_f {s : RS} (h : ¬ (s.nu = 0 ∧ 0 < s.ir ∧ (s.rr = 0 ∨ s.ir = s.rc))) : s.whole = false := decide_eq_false h
theorem rx_bits {hb s : AH} {rid b wa k R C fl : Nat} {f : Nat → Bool} (Y : RX hb s rid b wa k R C fl f) {a c : Nat} (hac : a < c + 1) (hc : c < 192) (hd : c / 64 ≤ a / 64 + 1) (hr : sz s + 6 < 1200000) :
    ∃ s' wa', tagIs 12 (some b) (f_J23_set_2 (some b) (nI a) (nI (c + 1))) s = some (none, s') ∧ RX hb s' rid b wa' k R C fl (fun j => (decide (a ≤ j) && decide (j < c + 1)) || f j) ∧ sz s' ≤ sz s + 5 := by
  obtain ⟨y1, y2, y3, y4, y5, y6⟩ := Y
  obtain ⟨u, L, W, B0, hf⟩ := id y3
  obtain ⟨s', wa', e1, e2, e3, e4, e5⟩ := b_set2 y3 hac hc hd hr
  have hl := y1.len
  refine ⟨s', wa', e1, ⟨e4.pf y1 y5 y6, ?_, e2, y4, y5, ?_⟩, e5⟩
  · rw [e4.2 rid (hget_some_lt y2) (tag_ne y2 B0.1 (by omega)) (tag_ne y2 B0.2.1 (by omega))]; exact y2
  · rcases e3 with e3 | e3 <;> omega
theorem rx_82 {hb s : AH} {rid b wa k R C fl : Nat} {f : Nat → Bool} (Y : RX hb s rid b wa k R C fl f) (m : Nat) :
    ∃ s', f_X7_readsRun_82 (some rid) (nI m) s = some (some (vI (bI true)), s') ∧ RX hb s' rid b wa (k + 1) R C (fl + m) f ∧ sz s' = sz s := by
  unfold f_X7_readsRun_82
  obtain ⟨s1, p1, Y1, z1⟩ := rx_w Y (j := 4) (v := .int (nI (fl + m))) (k' := k) (R' := R) (C' := C) (fl' := fl + m) (by omega) rfl
  obtain ⟨s2, p2, Y2, z2⟩ := rx_w Y1 (j := 1) (v := .int (nI (k + 1))) (k' := k + 1) (R' := R) (C' := C) (fl' := fl + m) (by omega) rfl
  rw [o_gi_eq Y.2.1 rfl, nI_add, p1, o_gi_eq Y1.2.1 rfl, li1, nI_add, p2, retz_1n]
  exact ⟨s2, rfl, Y2, by omega⟩
/-- what reading a run comes to -/
def RunO (hb : AH) (tx : List Nat) (rid b k : Nat) (st : RS) (S0 : Nat) (res : Res) : Prop :=
  (∃ (s' : AH) (wa' k' R C fl : Nat) (f : Nat → Bool), res = some (some (vI (bI false)), s') ∧ RX hb s' rid b wa' k' R C fl f ∧ sz s' ≤ S0 ∧ k' ≤ tx.length ∧ (rdE (tx.drop k) k st).1 = nI k') ∨
  (∃ (s' : AH) (wa' k' : Nat) (st' : RS), res = some (some (vI (bI true)), s') ∧ RY hb s' rid b wa' k' st' ∧ sz s' ≤ S0 + 5 ∧ k < k' ∧ k' ≤ tx.length ∧ st'.rr = st.rr ∧ st.ir < st'.ir ∧ rdE (tx.drop k) k st = rdE (tx.drop k') k' st')
theorem rputs_RV {st : RS} {m : Nat} (b : Bool) (hV : RV st) (hm : st.ir + m ≤ st.wid) : RV (rputs st m b) := ⟨hV.1, hV.2.1, hm, by show 0 ≤ 12; omega⟩
theorem rputs_RZ {st : RS} {m : Nat} (b : Bool) (hV : RV st) (hZ : RZ st) (hm : st.ir + m ≤ st.wid) : RZ (rputs st m b) := by
  have hw := wid_le hV
  intro t ht
  show (t / 12 < st.rr ∧ t % 12 < st.rc) ∨ (t / 12 = st.rr ∧ t % 12 < st.ir + m)
  have ht : (if 12 * st.rr + st.ir ≤ t ∧ t < 12 * st.rr + st.ir + m then b else st.rd t) = true := ht
  by_cases q : 12 * st.rr + st.ir ≤ t ∧ t < 12 * st.rr + st.ir + m
  · right; omega
  · rw [if_neg q] at ht
    rcases hZ t ht with w | w
    · exact .inl w
    · right; omega
theorem rputs_t {st : RS} {m : Nat} (hm : 1 ≤ m) : (fun j => (decide (12 * st.rr + st.ir ≤ j) && decide (j < 12 * st.rr + st.ir + (m - 1) + 1)) || st.rd j) = (rputs st m (decide (35 = 35))).rd := by
  funext j
  show _ = if 12 * st.rr + st.ir ≤ j ∧ j < 12 * st.rr + st.ir + m then decide (35 = 35) else st.rd j
  by_cases q : 12 * st.rr + st.ir ≤ j ∧ j < 12 * st.rr + st.ir + m
  · rw [if_pos q, decide_eq_true q.1, decide_eq_true (show j < 12 * st.rr + st.ir + (m - 1) + 1 by omega)]; rfl
  · rw [if_neg q]
    have : (decide (12 * st.rr + st.ir ≤ j) && decide (j < 12 * st.rr + st.ir + (m - 1) + 1)) = false := by
      rw [Bool.and_eq_false_iff, decide_eq_false_iff_not, decide_eq_false_iff_not]
      omega
    rw [this, Bool.false_or]
theorem rputs_f {st : RS} {m : Nat} (hZ : RZ st) : st.rd = (rputs st m (decide (46 = 35))).rd := by
  funext j
  show _ = if 12 * st.rr + st.ir ≤ j ∧ j < 12 * st.rr + st.ir + m then decide (46 = 35) else st.rd j
  by_cases q : 12 * st.rr + st.ir ≤ j ∧ j < 12 * st.rr + st.ir + m
  · rw [if_pos q]
    cases hj : st.rd j with
    | false => rfl
    | true =>
      have w : (j / 12 < st.rr ∧ j % 12 < st.rc) ∨ (j / 12 = st.rr ∧ j % 12 < st.ir) := hZ j hj
      omega
  · rw [if_neg q]
theorem rx_run {hb s : AH} {cc : Nat} {z : Value} {hh : List Nat} {e n : Nat} {tx : List Nat} (X : XB hb cc z hh e n tx) (h80 : tx.length ≤ 80) (hch : ∀ c, c ∈ tx → 33 ≤ c ∧ c ≤ 126) {rid b : Nat} {wa k : Nat} {st : RS} (Y : RY hb s rid b wa k st) (hk : k ≤ tx.length) (nt : NT tx k st) (hz : sz s + 10 < 1200000) :
    RunO hb tx rid b k st (sz s) (tagIs 7 (some rid) (f_X7_readsRun (some rid)) s) := by
  obtain ⟨Y, hV, hZ, hnu⟩ := Y
  have hr12 := room_le hV
  have hw12 := wid_le hV
  have hroom : st.room = st.wid - st.ir := rfl
  obtain ⟨v1, v2, v3, v4⟩ := id hV
  rw [Y.tag]
  unfold f_X7_readsRun
  rw [o_ci_eq (rx_room Y hV)]
  by_cases h0 : st.room = 0
  · rw [if_pos (by rw [h0]; rfl), retz_0]
    refine .inl ⟨s, wa, k, _, _, _, _, rfl, Y, Nat.le_refl _, hk, ?_⟩
    rcases nt with nt | ⟨c, hc, hc47⟩
    · omega
    · refine rdE_n hc ?_
      unfold rstep
      by_cases a : 48 ≤ c ∧ c ≤ 57
      · rw [if_pos a, if_neg]
        rintro (q | q)
        · have q1 := q.2.1
          have q2 := q.2.2
          by_cases w : c - 48 = 1
          · rw [if_pos w] at q2; omega
          · rw [if_neg w] at q2; omega
        · omega
      · rw [if_neg a]
        by_cases a2 : c = 46 ∨ c = 35
        · rw [if_pos a2, if_pos (.inr (by rw [if_pos hnu]; omega))]
        · rw [if_neg a2, if_neg (fun q => hc47 q.1)]
  · rw [if_neg (by rw [li0, nI_eq (by omega) (by omega)]; exact h0)]
    rcases rx_number X h80 hch Y hV hnu hk (by omega) with ⟨s1, k1, e1, Y1, z1, l1, r1⟩ | ⟨s1, k1, m, e1, Y1, z1, l0, l1, m1, m2, r1⟩
    · rw [o_ci_eq e1, if_pos rfl, retz_0]
      exact .inl ⟨s1, wa, k1, _, _, _, _, rfl, Y1, z1, l1, r1⟩
    · rw [o_ci_eq e1, if_neg (by rw [nI_m6 (by omega)]; exact fun w => w), o_ci_eq (rx_next X h80 hch Y1 l1)]
      have hA : ∀ c, tx[k1]? = some c → (c = 46 ∨ c = 35) → rdE (tx.drop k) k st = rdE (tx.drop (k1 + 1)) (k1 + 1) (rputs st m (decide (c = 35))) := by
        intro c hc hcc
        rcases r1 with ⟨q1, q2, q3⟩ | ⟨q1, q2⟩
        · subst q1 q2
          refine rdE_s hc ?_
          unfold rstep
          rw [if_neg (by omega), if_pos hcc, if_pos hnu, if_neg (by omega)]
        · rw [q2]
          refine rdE_s hc ?_
          unfold rstep
          rw [if_neg (by omega), if_pos hcc]
          show (if m = 1 ∨ st.room < (if m = 0 then 1 else m) then none else some (rputs st (if m = 0 then 1 else m) (decide (c = 35)))) = _
          rw [if_neg (show ¬ m = 0 by omega), if_neg (by omega)]
      have hB : (∀ c, tx[k1]? = some c → ¬ (c = 46 ∨ c = 35)) → (rdE (tx.drop k) k st).1 = nI k1 := by
        intro w
        rcases r1 with ⟨q1, q2, q3⟩ | ⟨q1, q2⟩
        · subst q2
          cases hc : tx[k1]? with
          | none =>
            rcases nt with nt | ⟨c, hc', _⟩
            · exact rdE_e hc (whole_f (by omega))
            · rw [hc] at hc'; cases hc'
          | some c =>
            refine rdE_n hc ?_
            unfold rstep
            have nd : ¬ (48 ≤ c ∧ c ≤ 57) := fun a => by
              have := (dig_iff hch).mpr ⟨c, hc, a.1, a.2⟩
              rw [q3] at this; cases this
            rw [if_neg nd, if_neg (w c hc), if_neg]
            rintro ⟨a1, a2, a3⟩
            rcases nt with nt | ⟨c', hc', c47⟩
            · have := whole_ir a2; omega
            · rw [hc] at hc'; cases hc'; exact c47 a1
        · rw [q2]
          have wf : (setnu st m).whole = false := whole_f (fun a => absurd a.1 (by show ¬ m = 0; omega))
          cases hc : tx[k1]? with
          | none => exact rdE_e hc wf
          | some c =>
            refine rdE_n hc ?_
            unfold rstep
            by_cases a : 48 ≤ c ∧ c ≤ 57
            · rw [if_pos a, if_neg]
              rintro (q | q)
              · exact absurd q.1 (by show ¬ m = 0; omega)
              · exact absurd q.1 (by show ¬ m = 1; omega)
            · rw [if_neg a, if_neg (w c hc), if_neg]
              rintro ⟨_, a2, _⟩
              rw [wf] at a2; cases a2
      have fin : ∀ c, tx[k1]? = some c → (c = 46 ∨ c = 35) → RunO hb tx rid b k st (sz s) (f_X7_readsRun_40 (some rid) (nI m) s1) := by
        intro c hc hcc
        have en : nxt tx k1 = nI c := by unfold nxt; rw [hc]
        have hkl := (List.getElem?_eq_some_iff.mp hc).1
        unfold f_X7_readsRun_40
        rw [o_ci_eq (rx_next X h80 hch Y1 l1), en]
        rcases hcc with e | e
        · subst e
          rw [if_neg (by decide)]
          obtain ⟨s3, e3, Y3, z3⟩ := rx_82 Y1 m
          have Y3' : RX hb s3 rid b wa (k1 + 1) st.rr st.rc (st.ir + m) (rputs st m (decide (46 = 35))).rd := by rw [← rputs_f hZ]; exact Y3
          rw [e3]
          exact .inr ⟨s3, wa, k1 + 1, rputs st m (decide (46 = 35)), rfl, ⟨Y3', rputs_RV _ hV (by omega), rputs_RZ _ hV hZ (by omega), rfl⟩, by omega, by omega, by omega, rfl, by show st.ir < st.ir + m; omega, hA 46 hc (.inl rfl)⟩
        · subst e
          rw [if_pos (show nI 35 = 35 from rfl), o_gr_eq Y1.2.1 rfl, o_gi_eq Y1.2.1 rfl, o_gi_eq Y1.2.1 rfl, o_gi_eq Y1.2.1 rfl, o_gi_eq Y1.2.1 rfl, li12, pk_mul, nI_add, nI_add, show 12 * st.rr + st.ir + m = 12 * st.rr + st.ir + (m - 1) + 1 by omega]
          obtain ⟨s2, wa2, e2, Y2, z2⟩ := rx_bits Y1 (a := 12 * st.rr + st.ir) (c := 12 * st.rr + st.ir + (m - 1)) (by omega) (by omega) (by omega) (by omega)
          rw [o_cv_eq e2]
          obtain ⟨s3, e3, Y3, z3⟩ := rx_82 Y2 m
          rw [rputs_t m1] at Y3
          rw [e3]
          exact .inr ⟨s3, wa2, k1 + 1, rputs st m (decide (35 = 35)), rfl, ⟨Y3, rputs_RV _ hV (by omega), rputs_RZ _ hV hZ (by omega), rfl⟩, by omega, by omega, by omega, rfl, by show st.ir < st.ir + m; omega, hA 35 hc (.inr rfl)⟩
      cases hc : tx[k1]? with
      | none =>
        have en : nxt tx k1 = -6 := by unfold nxt; rw [hc]
        rw [en, if_neg (by decide), o_ci_eq (rx_next X h80 hch Y1 l1), en, if_neg (by decide), retz_0]
        exact .inl ⟨s1, wa, k1, _, _, _, _, rfl, Y1, z1, l1, hB (fun c h => by rw [hc] at h; cases h)⟩
      | some c =>
        have hcb := hch c (List.mem_of_getElem? hc)
        have en : nxt tx k1 = nI c := by unfold nxt; rw [hc]
        rw [en]
        by_cases a : c = 46
        · rw [if_pos (by rw [a]; rfl)]
          exact fin c hc (.inl a)
        · rw [if_neg (by rw [show (46 : Int32) = nI 46 from rfl, nI_eq (by omega) (by omega)]; exact a), o_ci_eq (rx_next X h80 hch Y1 l1), en]
          by_cases a' : c = 35
          · rw [if_pos (by rw [a']; rfl)]
            exact fin c hc (.inr a')
          · rw [if_neg (by rw [show (35 : Int32) = nI 35 from rfl, nI_eq (by omega) (by omega)]; exact a'), retz_0]
            exact .inl ⟨s1, wa, k1, _, _, _, _, rfl, Y1, z1, l1, hB (fun c' h => by rw [hc] at h; cases h; omega)⟩
/-- what reading a row comes to -/
def RowO (hb : AH) (tx : List Nat) (rid b k : Nat) (st : RS) (B : Nat) (res : Res) : Prop :=
  (∃ (s' : AH) (wa' k' R C fl : Nat) (f : Nat → Bool), res = some (some (vI (bI false)), s') ∧ RX hb s' rid b wa' k' R C fl f ∧ sz s' ≤ B ∧ k' ≤ tx.length ∧ (rdE (tx.drop k) k st).1 = nI k') ∨
  (∃ (s' : AH) (wa' k' : Nat) (st' : RS), res = some (some (vI (bI true)), s') ∧ RX hb s' rid b wa' k' (st'.rr + 1) st'.ir st'.ir st'.rd ∧ RV st' ∧ RZ st' ∧ st'.whole = true ∧ sz s' + 5 * (tx.length - k') ≤ B ∧ k < k' ∧ k' ≤ tx.length ∧ (tx[k']? = none ∨ tx[k']? = some 47) ∧ rdE (tx.drop k) k st = rdE (tx.drop k') k' st')
theorem rx_32 {hb s : AH} {tx : List Nat} {rid b wa k k1 B : Nat} {st st1 : RS} (Y : RY hb s rid b wa k1 st1) (hk : k < k1) (hl : k1 ≤ tx.length) (hir : 0 < st1.ir) (he : tx[k1]? = none ∨ tx[k1]? = some 47) (hB : sz s + 5 * (tx.length - k1) ≤ B) (er : rdE (tx.drop k) k st = rdE (tx.drop k1) k1 st1) : RowO hb tx rid b k st B (f_X7_readsRow_32 (some rid) s) := by
  obtain ⟨Y, hV, hZ, hnu⟩ := Y
  have hw12 := wid_le hV
  obtain ⟨v1, v2, v3, v4⟩ := id hV
  have ok : (st1.rr = 0 ∨ st1.ir = st1.rc) → RowO hb tx rid b k st B (f_X7_readsRow_52 (some rid) s) := by
    intro w
    unfold f_X7_readsRow_52
    obtain ⟨s1, p1, Y1, z1⟩ := rx_w Y (j := 3) (v := .int (nI st1.ir)) (k' := k1) (R' := st1.rr) (C' := st1.ir) (fl' := st1.ir) (by omega) rfl
    obtain ⟨s2, p2, Y2, z2⟩ := rx_w Y1 (j := 2) (v := .int (nI (st1.rr + 1))) (k' := k1) (R' := st1.rr + 1) (C' := st1.ir) (fl' := st1.ir) (by omega) rfl
    rw [o_gi_eq Y.2.1 rfl, p1, o_gi_eq Y1.2.1 rfl, li1, nI_add, p2, retz_1n]
    exact .inr ⟨s2, wa, k1, st1, rfl, Y2, hV, hZ, decide_eq_true ⟨hnu, hir, w⟩, by omega, hk, hl, he, er⟩
  unfold f_X7_readsRow_32
  rw [o_gi_eq Y.2.1 rfl, li0]
  by_cases q : st1.rr = 0
  · rw [if_pos (nI_le (by omega) (by omega))]
    exact ok (.inl q)
  · rw [if_neg (nI_ge (by omega) (by omega)), o_gi_eq Y.2.1 rfl, o_gi_eq Y.2.1 rfl]
    have hwid : st1.wid = st1.rc := if_neg q
    by_cases q2 : st1.rc ≤ st1.ir
    · rw [if_pos (nI_le q2 (by omega))]
      exact ok (.inr (by omega))
    · rw [if_neg (nI_ge (by omega) (by omega)), retz_0n]
      refine .inl ⟨s, wa, k1, _, _, _, _, rfl, Y, by omega, hl, ?_⟩
      rw [er]
      have wf : st1.whole = false := whole_f (by omega)
      rcases he with he | he
      · exact rdE_e he wf
      · refine rdE_n he ?_
        unfold rstep
        rw [if_neg (by omega), if_neg (by omega), if_neg]
        rintro ⟨_, a2, _⟩
        rw [wf] at a2; cases a2
theorem rx_rowL {hb s : AH} {cc : Nat} {z : Value} {hh : List Nat} {e n : Nat} {tx : List Nat} (X : XB hb cc z hh e n tx) (h80 : tx.length ≤ 80) (hch : ∀ c, c ∈ tx → 33 ≤ c ∧ c ≤ 126) {rid b : Nat} {B : Nat} (hBz : B + 10 < 1200000) : ∀ (d k n : Nat) (s : AH) (wa : Nat) (st : RS), tx.length < k + d → d ≤ n → RY hb s rid b wa k st → k ≤ tx.length → NT tx k st → sz s + 5 * (tx.length - k) ≤ B → RowO hb tx rid b k st B (f_X7_readsRow_5 n (some rid) s)
  | 0, k, n, s, wa, st, h1, h2, Y, hk, nt, hB => absurd h1 (by omega)
  | d + 1, k, n, s, wa, st, h1, h2, Y, hk, nt, hB => by
    obtain ⟨n', rfl⟩ : ∃ q, n = q + 1 := ⟨n - 1, by omega⟩
    rw [f_X7_readsRow_5_s]
    simp only
    rcases rx_run X h80 hch Y hk nt (by omega) with ⟨s1, wa1, k1, R, C, fl, f, e1, Y1, z1, l1, r1⟩ | ⟨s1, wa1, k1, st1, e1, Y1, z1, l0, l1, er, eir, r1⟩
    · rw [o_ci_eq e1, ite_bI, if_neg (by decide), retz_0]
      exact .inl ⟨s1, wa1, k1, _, _, _, _, rfl, Y1, by omega, l1, r1⟩
    · rw [o_ci_eq e1, ite_bI, if_pos rfl, o_ci_eq (rx_next X h80 hch Y1.1 l1)]
      cases hc : tx[k1]? with
      | none =>
        have en : nxt tx k1 = -6 := by unfold nxt; rw [hc]
        rw [en, if_pos rfl]
        exact rx_32 Y1 l0 l1 (by omega) (.inl hc) (by omega) r1
      | some c =>
        have hcb := hch c (List.mem_of_getElem? hc)
        have en : nxt tx k1 = nI c := by unfold nxt; rw [hc]
        rw [en, if_neg (by rw [nI_m6 (by omega)]; exact fun w => w), o_ci_eq (rx_next X h80 hch Y1.1 l1), en]
        by_cases a : c = 47
        · rw [if_pos (by rw [a]; rfl)]
          exact rx_32 Y1 l0 l1 (by omega) (.inr (by rw [hc, a])) (by omega) r1
        · rw [if_neg (by rw [show (47 : Int32) = nI 47 from rfl, nI_eq (by omega) (by omega)]; exact a)]
          have ih := rx_rowL (s := s) X h80 hch hBz d k1 n' s1 wa1 st1 (by omega) (by omega) Y1 l1 (.inr ⟨c, hc, a⟩) (by omega)
          rcases ih with ⟨s2, wa2, k2, R, C, fl, f, e2, Y2, z2, l2, r2⟩ | ⟨s2, wa2, k2, st2, e2, Y2, w1, w2, w3, w4, w5, w6, w7, r2⟩
          · exact .inl ⟨s2, wa2, k2, R, C, fl, f, e2, Y2, z2, l2, by rw [r1]; exact r2⟩
          · exact .inr ⟨s2, wa2, k2, st2, e2, Y2, w1, w2, w3, w4, by omega, w6, w7, r1.trans r2⟩
theorem rx_row {hb s : AH} {cc : Nat} {z : Value} {hh : List Nat} {e n : Nat} {tx : List Nat} (X : XB hb cc z hh e n tx) (h80 : tx.length ≤ 80) (hch : ∀ c, c ∈ tx → 33 ≤ c ∧ c ≤ 126) {rid b : Nat} {B : Nat} (hBz : B + 10 < 1200000) {k wa fl : Nat} {st : RS} (Y : RX hb s rid b wa k st.rr st.rc fl st.rd) (hV : RV st) (hZ : RZ st) (hnu : st.nu = 0) (hir : st.ir = 0) (hw : 1 ≤ st.wid) (hk : k ≤ tx.length) (hB : sz s + 5 * (tx.length - k) ≤ B) :
    RowO hb tx rid b k st B (tagIs 7 (some rid) (f_X7_readsRow (some rid)) s) := by
  rw [Y.tag]
  unfold f_X7_readsRow
  obtain ⟨s1, p1, Y1, z1⟩ := rx_w Y (j := 4) (v := .int 0) (k' := k) (R' := st.rr) (C' := st.rc) (fl' := st.ir) (by omega) (by rw [hir]; rfl)
  rw [p1]
  exact rx_rowL (s := s) X h80 hch hBz (tx.length + 1) k FUEL s1 wa st (by omega) (by simp only [FUEL]; omega) ⟨Y1, hV, hZ, hnu⟩ hk (.inl ⟨hir, hw⟩) (by omega)
/-- what reading all comes to -/
def ErrO (hb : AH) (rid b : Nat) (v : Int32 × RS) (B : Nat) (res : Res) : Prop :=
  ∃ (s' : AH) (wa' k' R C fl : Nat) (f : Nat → Bool), res = some (some (vI v.1), s') ∧ RX hb s' rid b wa' k' R C fl f ∧ sz s' ≤ B ∧ (v.1 = -6 → R = v.2.rr + 1 ∧ C = v.2.ir ∧ f = v.2.rd ∧ RZ v.2)
theorem rx_errL {hb s : AH} {cc : Nat} {z : Value} {hh : List Nat} {e n : Nat} {tx : List Nat} (X : XB hb cc z hh e n tx) (h80 : tx.length ≤ 80) (hch : ∀ c, c ∈ tx → 33 ≤ c ∧ c ≤ 126) {rid b : Nat} {B : Nat} (hBz : B + 10 < 1200000) : ∀ (d k n : Nat) (s : AH) (wa fl : Nat) (st : RS), tx.length < k + d → d ≤ n → RX hb s rid b wa k st.rr st.rc fl st.rd → RV st → RZ st → st.nu = 0 → st.ir = 0 → 1 ≤ st.wid → k ≤ tx.length → sz s + 5 * (tx.length - k) ≤ B → ErrO hb rid b (rdE (tx.drop k) k st) B (f_X7_errorPosition_0 n (some rid) s)
  | 0, k, n, s, wa, fl, st, h1, h2, Y, hV, hZ, hnu, hir, hw, hk, hB => absurd h1 (by omega)
  | d + 1, k, n, s, wa, fl, st, h1, h2, Y, hV, hZ, hnu, hir, hw, hk, hB => by
    obtain ⟨n', rfl⟩ : ∃ q, n = q + 1 := ⟨n - 1, by omega⟩
    rw [f_X7_errorPosition_0_s]
    simp only
    have bad : ∀ (s1 : AH) (wa1 k1 R C fl : Nat) (f : Nat → Bool), RX hb s1 rid b wa1 k1 R C fl f → sz s1 ≤ B → k1 ≤ tx.length → (rdE (tx.drop k) k st).1 = nI k1 → ErrO hb rid b (rdE (tx.drop k) k st) B (some (some (vI (nI k1)), s1)) := by
      intro s1 wa1 k1 R C fl f Y1 z1 l1 r1
      refine ⟨s1, wa1, k1, R, C, fl, f, by rw [r1], Y1, z1, fun w => ?_⟩
      rw [r1, nI_m6 (by omega)] at w
      exact w.elim
    rcases rx_row X h80 hch hBz Y hV hZ hnu hir hw hk hB with ⟨s1, wa1, k1, R, C, fl, f, e1, Y1, z1, l1, r1⟩ | ⟨s1, wa1, k1, st1, e1, Y1, V1, Z1, W1, z1, l0, l1, he, r1⟩
    · rw [o_ci_eq e1, ite_bI, if_neg (by decide), o_gi_eq Y1.2.1 rfl]
      exact bad s1 wa1 k1 R C fl f Y1 z1 l1 r1
    · have wi := whole_ir W1
      have hw12 := wid_le V1
      obtain ⟨v1, v2, v3, v4⟩ := id V1
      rw [o_ci_eq e1, ite_bI, if_pos rfl, o_ci_eq (rx_next X h80 hch Y1 l1)]
      rcases he with hc | hc
      · have en : nxt tx k1 = -6 := by unfold nxt; rw [hc]
        rw [en, if_pos rfl]
        refine ⟨s1, wa1, k1, _, _, _, _, ?_, Y1, by omega, fun _ => ?_⟩
        · rw [r1, rdE_w hc W1]
        · rw [r1, rdE_w hc W1]
          exact ⟨rfl, rfl, rfl, Z1⟩
      · have en : nxt tx k1 = nI 47 := by unfold nxt; rw [hc]
        have hkl := (List.getElem?_eq_some_iff.mp hc).1
        rw [en, if_neg (by decide), o_gi_eq Y1.2.1 rfl, li12]
        by_cases q : st1.rr = 11
        · rw [if_pos (by rw [q]), o_gi_eq Y1.2.1 rfl]
          refine bad s1 wa1 k1 _ _ _ _ Y1 (by omega) l1 ?_
          rw [r1]
          refine rdE_n hc ?_
          unfold rstep
          rw [if_neg (by omega), if_neg (by omega), if_neg (by omega)]
        · rw [if_neg (by rw [nI_eq (by omega) (by omega)]; omega), o_gi_eq Y1.2.1 rfl, li1, nI_add]
          obtain ⟨s2, p2, Y2, z2⟩ := rx_w Y1 (j := 1) (v := .int (nI (k1 + 1))) (k' := k1 + 1) (R' := st1.rr + 1) (C' := st1.ir) (fl' := st1.ir) (by omega) rfl
          have rs : rstep st1 47 = some (st1.rr + 1, st1.ir, 0, st1.nu, st1.rd) := by
            unfold rstep
            rw [if_neg (by omega), if_neg (by omega), if_pos ⟨rfl, W1, by omega⟩]
          have er2 : rdE (tx.drop k) k st = rdE (tx.drop (k1 + 1)) (k1 + 1) (st1.rr + 1, st1.ir, 0, st1.nu, st1.rd) := r1.trans (rdE_s hc rs)
          rw [p2, er2]
          refine rx_errL (s := s) X h80 hch hBz d (k1 + 1) n' s2 wa1 st1.ir (st1.rr + 1, st1.ir, 0, st1.nu, st1.rd) (by omega) (by omega) Y2 (rstep_RV V1 rs) ?_ wi.1 rfl ?_ (by omega) (by omega)
          · intro t ht
            have w : (t / 12 < st1.rr ∧ t % 12 < st1.rc) ∨ (t / 12 = st1.rr ∧ t % 12 < st1.ir) := Z1 t ht
            show (t / 12 < st1.rr + 1 ∧ t % 12 < st1.ir) ∨ _
            left
            rcases wi.2.2 with q2 | q2 <;> omega
          · show 1 ≤ if st1.rr + 1 = 0 then 12 else st1.ir
            rw [if_neg (by omega)]; exact wi.2.1
