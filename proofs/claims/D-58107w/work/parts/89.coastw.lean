set_option maxRecDepth 100000
/-! a map as an object: written, made -/
/-- its rows are different objects, all from lo on -/
def CI (D : CD) (R lo : Nat) : Prop := (∀ r r', r < R → r' < R → D.rl r = D.rl r' → r = r') ∧ (∀ r r', r < R → r' < R → D.rp r = D.rp r' → r = r') ∧ lo ≤ D.c ∧ lo ≤ D.a ∧ lo ≤ D.p ∧ ∀ r, r < R → lo ≤ D.rl r ∧ lo ≤ D.rp r
theorem CR.cong {h : AH} {D : CD} {G G' : Gr} (c : CR h D G) (hR : G'.R = G.R) (hC : G'.C = G.C) (ho : G'.o = G.o) (hl : ∀ k, k < G.N → G'.l k = G.l k) (hp : ∀ k, k < G.N → G'.p k = G.p k) : CR h D G' := by
  obtain ⟨c1, c2, c3, c4⟩ := c
  unfold CR
  rw [hR, hC, ho]
  refine ⟨c1, c2, c3, fun r hr => ?_⟩
  obtain ⟨d1, d2⟩ := c4 r hr
  rw [d1, d2]
  constructor
  · congr 2
    exact arI_cong (fun k hk => by rw [hl _ (rc_lt hr hk)])
  · congr 2
    exact arI_cong (fun k hk => by rw [hp _ (rc_lt hr hk)])
/-- one object was written, none was made -/
def W1 (i : Nat) (h h' : AH) : Prop := h'.length = h.length ∧ sz h' = sz h ∧ ∀ j, j ≠ i → hget h' j = hget h j
def landG (G : Gr) (k : Nat) (b : Bool) : Gr := (G.R, G.C, G.o, fun j => if j = k then b else G.l j, G.p)
theorem cw_p {h : AH} {D : CD} {G : Gr} (c : CR h D G) (hG : GV G) {lo : Nat} (ci : CI D G.R lo) (hlo : 1024 ≤ lo) {r k : Nat} (hr : r < G.R) (hk : k < G.C) (x : Int32) :
    ∃ h', (∀ K : AH → Res, o_ast 64 (some (D.rp r)) (nI k) (.int x) K h = K h') ∧ CR h' D (pinG G (G.C * r + k) x) ∧ W1 (D.rp r) h h' := by
  have hgb := hG.1
  obtain ⟨c1, c2, c3, c4⟩ := c
  obtain ⟨d1, d2⟩ := c4 r hr
  have hge : 1024 ≤ D.rp r := Nat.le_trans hlo (ci.2.2.2.2.2 r hr).2
  have hlt := hget_some_lt d2
  refine ⟨hset h (D.rp r) (64, arI G.C (up (fun c => G.p (G.C * r + c)) k x)), fun K => ?_, ⟨?_, ?_, ?_, fun r' hr' => ⟨?_, ?_⟩⟩, len_hset _ _ _, sz_set hge d2 (by rw [arI_len, arI_len]), fun j hj => hget_set_ne hge hj⟩
  · rw [o_ast_eq d2 hge (nI_pos (by omega)) (by rw [nI_clamp (by omega), arI_len]; exact hk), nI_clamp (by omega), arI_set]
  · rw [hget_set_ne hge (tag_ne c1 d2 (by omega))]; exact c1
  · rw [hget_set_ne hge (tag_ne c2 d2 (by omega))]; exact c2
  · rw [hget_set_ne hge (tag_ne c3 d2 (by omega))]; exact c3
  · have e1 := (c4 r' hr').1
    rw [hget_set_ne hge (tag_ne e1 d2 (by omega))]; exact e1
  · by_cases e : r' = r
    · subst e
      rw [hget_set_same hge hlt]
      congr 2
      refine arI_cong (fun j hj => ?_)
      show up (fun c => G.p (G.C * r' + c)) k x j = up G.p (G.C * r' + k) x (G.C * r' + j)
      unfold up
      by_cases w : j = k
      · rw [if_pos w, if_pos (by omega)]
      · rw [if_neg w, if_neg (by omega)]
    · have e2 := (c4 r' hr').2
      rw [hget_set_ne hge (fun w => e (ci.2.1 r' r hr' hr w)), e2]
      congr 2
      refine arI_cong (fun j hj => ?_)
      show G.p (G.C * r' + j) = up G.p (G.C * r + k) x (G.C * r' + j)
      rw [up_n]
      intro w
      have h1 := rc_div (r := r') hj
      rw [w, rc_div hk] at h1
      exact e h1.symm
theorem cw_l {h : AH} {D : CD} {G : Gr} (c : CR h D G) (hG : GV G) {lo : Nat} (ci : CI D G.R lo) (hlo : 1024 ≤ lo) {r k : Nat} (hr : r < G.R) (hk : k < G.C) (b : Bool) :
    ∃ h', (∀ K : AH → Res, o_ast 65 (some (D.rl r)) (nI k) (.int (bI b)) K h = K h') ∧ CR h' D (landG G (G.C * r + k) b) ∧ W1 (D.rl r) h h' := by
  have hgb := hG.1
  obtain ⟨c1, c2, c3, c4⟩ := c
  obtain ⟨d1, d2⟩ := c4 r hr
  have hge : 1024 ≤ D.rl r := Nat.le_trans hlo (ci.2.2.2.2.2 r hr).1
  have hlt := hget_some_lt d1
  refine ⟨hset h (D.rl r) (65, arI G.C (up (fun c => bI (G.l (G.C * r + c))) k (bI b))), fun K => ?_, ⟨?_, ?_, ?_, fun r' hr' => ⟨?_, ?_⟩⟩, len_hset _ _ _, sz_set hge d1 (by rw [arI_len, arI_len]), fun j hj => hget_set_ne hge hj⟩
  · rw [o_ast_eq d1 hge (nI_pos (by omega)) (by rw [nI_clamp (by omega), arI_len]; exact hk), nI_clamp (by omega), arI_set]
  · rw [hget_set_ne hge (tag_ne c1 d1 (by omega))]; exact c1
  · rw [hget_set_ne hge (tag_ne c2 d1 (by omega))]; exact c2
  · rw [hget_set_ne hge (tag_ne c3 d1 (by omega))]; exact c3
  · by_cases e : r' = r
    · subst e
      rw [hget_set_same hge hlt]
      congr 2
      refine arI_cong (fun j hj => ?_)
      show up (fun c => bI (G.l (G.C * r' + c))) k (bI b) j = bI (if G.C * r' + j = G.C * r' + k then b else G.l (G.C * r' + j))
      unfold up
      by_cases w : j = k
      · rw [if_pos w, if_pos (by omega)]
      · rw [if_neg w, if_neg (by omega)]
    · have e2 := (c4 r' hr').1
      rw [hget_set_ne hge (fun w => e (ci.1 r' r hr' hr w)), e2]
      congr 2
      refine arI_cong (fun j hj => ?_)
      show bI (G.l (G.C * r' + j)) = bI (if G.C * r' + j = G.C * r + k then b else G.l (G.C * r' + j))
      rw [if_neg]
      intro w
      have h1 := rc_div (r := r') hj
      rw [w, rc_div hk] at h1
      exact e h1.symm
  · have e1 := (c4 r' hr').2
    rw [hget_set_ne hge (tag_ne e1 d1 (by omega))]; exact e1
/-- only rows of the map were written -/
def WD (D : CD) (R : Nat) (h h' : AH) : Prop := h'.length = h.length ∧ sz h' = sz h ∧ ∀ j, (∀ r, r < R → j ≠ D.rl r ∧ j ≠ D.rp r) → hget h' j = hget h j
theorem WD.rfl' (D : CD) (R : Nat) (h : AH) : WD D R h h := ⟨rfl, rfl, fun _ _ => rfl⟩
theorem WD.trans {D : CD} {R : Nat} {a b c : AH} (h : WD D R a b) (h' : WD D R b c) : WD D R a c := ⟨h'.1.trans h.1, h'.2.1.trans h.2.1, fun j hj => (h'.2.2 j hj).trans (h.2.2 j hj)⟩
theorem nar_bI (b : Bool) : vp_nar .boolean (bI b) = bI b := by cases b <;> rfl
theorem landG_GV {G : Gr} (h : GV G) (k : Nat) (b : Bool) : GV (landG G k b) := h
theorem x_put {h : AH} {D : CD} {G : Gr} (c : CR h D G) (hG : GV G) {lo : Nat} (ci : CI D G.R lo) (hlo : 1024 ≤ lo) {r k : Nat} (hr : r < G.R) (hk : k < G.C) (b : Bool) :
    ∃ h', tagIs 3 (some D.c) (f_X3_put (some D.c) (nI r) (nI k) (bI b)) h = some (some (vI (bI (G.l (G.C * r + k) != b))), h') ∧ CR h' D (putG G (G.C * r + k) b) ∧ WD D G.R h h' := by
  have hk17 : ∀ t : Bool, ∃ h', f_X3_put_17 (some D.c) (nI r) (nI k) (bI b) (bI t) h = some (some (vI (bI t)), h') ∧ CR h' D (putG G (G.C * r + k) b) ∧ WD D G.R h h' := by
    intro t
    unfold f_X3_put_17
    obtain ⟨h1, e1, c1, w1⟩ := cw_l c hG ci hlo hr hk b
    rw [c_gr3 c, c_row c hG hr, nar_bI, e1, ite_bI]
    have wd1 : WD D G.R h h1 := ⟨w1.1, w1.2.1, fun j hj => w1.2.2 j (hj r hr).1⟩
    cases b with
    | true =>
      rw [if_pos rfl, retz_bI]
      refine ⟨h1, rfl, c1.cong rfl rfl rfl (fun _ _ => rfl) (fun j _ => ?_), wd1⟩
      show (if j = G.C * r + k ∧ true = false then -6 else G.p j) = G.p j
      rw [if_neg (by simp)]
    | false =>
      rw [if_neg (by decide), c_gr4 c1, c_rowp c1 (landG_GV hG _ _) hr]
      obtain ⟨h2, e2, c2, w2⟩ := cw_p c1 (landG_GV hG _ _) ci hlo hr hk (-6)
      rw [e2, retz_bI]
      refine ⟨h2, rfl, c2.cong rfl rfl rfl (fun _ _ => rfl) (fun j _ => ?_), wd1.trans ⟨w2.1, w2.2.1, fun j hj => w2.2.2 j (hj r hr).2⟩⟩
      show (if j = G.C * r + k ∧ false = false then -6 else G.p j) = up G.p (G.C * r + k) (-6) j
      unfold up
      by_cases w : j = G.C * r + k
      · rw [if_pos ⟨w, rfl⟩, if_pos w]
      · rw [if_neg (fun q => w q.1), if_neg w]
  rw [c_tag c]
  unfold f_X3_put
  rw [c_gr3 c, c_row c hG hr, c_l c hG hr hk]
  simp only [bI_inj]
  cases hq : G.l (G.C * r + k) <;> cases b
  · exact hk17 false
  · exact hk17 true
  · exact hk17 true
  · exact hk17 false
/-- where a new map's objects lie -/
def newD (c R : Nat) : CD := (c, c + 1, c + 2 + R, fun r => c + 2 + r, fun r => c + 3 + R + r)
theorem newD_CI (c R : Nat) : CI (newD c R) R c := by
  refine ⟨fun r r' _ _ e => ?_, fun r r' _ _ e => ?_, Nat.le_refl _, ?_, ?_, fun r _ => ⟨?_, ?_⟩⟩
  · have e : c + 2 + r = c + 2 + r' := e
    omega
  · have e : c + 3 + R + r = c + 3 + R + r' := e
    omega
  · show c ≤ c + 1; omega
  · show c ≤ c + 2 + R; omega
  · show c ≤ c + 2 + r; omega
  · show c ≤ c + 3 + R + r; omega
theorem mna_eq {h : AH} {kt ki n k : Nat} {d : Value} {K : Rf → AH → Res} (hn : 1 ≤ n ∧ n ≤ 12) (hk : k ≤ 12) (hr : sz h + 200 < 1200000) :
    o_mna kt ki d (nI n) (nI k) K h = K (some (1024 + h.length)) ((h ++ [(64 + kt, arR n (fun j => 1024 + h.length + 1 + j))]) ++ List.replicate n (64 + ki, List.replicate k d)) := by
  unfold o_mna
  rw [if_neg, nI_clamp (by omega), nI_clamp (by omega), if_pos]
  · rfl
  · have : n * k ≤ 144 := Nat.mul_le_mul hn.2 hk
    unfold sz at hr
    unfold CAP CAPS
    omega
  · intro w
    rcases w with w | w
    · rw [li0, nI_leI (by omega) (by omega)] at w; omega
    · exact nI_pos (by omega) w
theorem sz_rep (n : Nat) (e : AE) : sz (List.replicate n e) = n * (1 + e.2.length) := by
  induction n with
  | zero => simp [sz, sl]
  | succ n ih =>
    have : List.replicate (n + 1) e = [e] ++ List.replicate n e := rfl
    rw [this, sz_app, ih, sz_one, Nat.succ_mul]; omega
