set_option maxRecDepth 100000
/-! a map as an object: a copy -/
theorem clone_eq {h : AH} {kt i : Nat} {ty : FieldType} {vs : List Value} {K : Rf → AH → Res} (hg : hget h i = some (64 + kt, vs)) (hf : vs.all (fun v => fits ty v) = true) (hr : sz h + vs.length < 1200000) : o_clone kt ty (some i) K h = K (some (1024 + h.length)) (h ++ [(64 + kt, vs)]) := by
  unfold o_clone
  simp only [Option.bind_some, hg]
  rw [if_pos ⟨trivial, hf⟩]
  exact new_eq hr
theorem arI_all {n : Nat} {f : Nat → Int32} {P : Value → Bool} (h : ∀ k, k < n → P (.int (f k)) = true) : (arI n f).all P = true := by
  unfold arI
  rw [List.all_map, List.all_eq_true]
  intro k hk
  exact h k (List.mem_range.mp hk)
theorem arR_set {n k x : Nat} {f : Nat → Nat} : (arR n f).set k (.ref x) = arR n (fun j => if j = k then x else f j) := by
  apply List.ext_getElem?
  intro i
  by_cases hi : i < n
  · rw [arR_get hi]
    by_cases e : i = k
    · subst e; rw [List.getElem?_set_self (by rw [arR_len]; exact hi), if_pos rfl]
    · rw [List.getElem?_set_ne (by omega), arR_get hi, if_neg e]
  · rw [List.getElem?_eq_none (by rw [List.length_set, arR_len]; omega), List.getElem?_eq_none (by rw [arR_len]; omega)]
/-- a new row of land is put in -/
theorem cw_rowl {s : AH} {D : CD} {G : Gr} (c : CR s D G) {r : Nat} (hr : r < G.R) (ha : 1024 ≤ D.a) {l' : Nat → Bool} (hl : ∀ r' k, r' < G.R → k < G.C → r' ≠ r → l' (G.C * r' + k) = G.l (G.C * r' + k)) :
    CR (hset (s ++ [(65, arI G.C (fun k => bI (l' (G.C * r + k))))]) D.a (71, arR G.R (fun j => if j = r then 1024 + s.length else D.rl j))) (D.c, D.a, D.p, fun j => if j = r then 1024 + s.length else D.rl j, D.rp) (G.R, G.C, G.o, l', G.p) := by
  obtain ⟨c1, c2, c3, c4⟩ := c
  have p : Pf s (s ++ [(65, arI G.C (fun k => bI (l' (G.C * r + k))))]) := Pf.app _ _
  have hlt := hget_some_lt c2
  refine ⟨?_, hget_set_same ha (by simp; omega), ?_, fun r' hr' => ⟨?_, ?_⟩⟩
  · rw [hget_set_ne ha (tag_ne c1 c2 (by omega))]; exact p.get c1
  · rw [hget_set_ne ha (tag_ne c3 c2 (by omega))]; exact p.get c3
  · show hget _ (if r' = r then 1024 + s.length else D.rl r') = some (65, arI G.C (fun k => bI (l' (G.C * r' + k))))
    by_cases e : r' = r
    · subst e
      rw [if_pos rfl, hget_set_ne ha (by omega)]
      exact hget_last s _
    · have e1 := (c4 r' hr').1
      rw [if_neg e, hget_set_ne ha (tag_ne e1 c2 (by omega)), p.get e1]
      congr 2
      exact arI_cong (fun k hk => by rw [hl r' k hr' hk e])
  · have e1 := (c4 r' hr').2
    rw [hget_set_ne ha (tag_ne e1 c2 (by omega))]; exact p.get e1
theorem cw_rowp {s : AH} {D : CD} {G : Gr} (c : CR s D G) {r : Nat} (hr : r < G.R) (ha : 1024 ≤ D.p) {p' : Nat → Int32} (hl : ∀ r' k, r' < G.R → k < G.C → r' ≠ r → p' (G.C * r' + k) = G.p (G.C * r' + k)) :
    CR (hset (s ++ [(64, arI G.C (fun k => p' (G.C * r + k)))]) D.p (72, arR G.R (fun j => if j = r then 1024 + s.length else D.rp j))) (D.c, D.a, D.p, D.rl, fun j => if j = r then 1024 + s.length else D.rp j) (G.R, G.C, G.o, G.l, p') := by
  obtain ⟨c1, c2, c3, c4⟩ := c
  have p : Pf s (s ++ [(64, arI G.C (fun k => p' (G.C * r + k)))]) := Pf.app _ _
  have hlt := hget_some_lt c3
  refine ⟨?_, ?_, hget_set_same ha (by simp; omega), fun r' hr' => ⟨?_, ?_⟩⟩
  · rw [hget_set_ne ha (tag_ne c1 c3 (by omega))]; exact p.get c1
  · rw [hget_set_ne ha (tag_ne c2 c3 (by omega))]; exact p.get c2
  · have e1 := (c4 r' hr').1
    rw [hget_set_ne ha (tag_ne e1 c3 (by omega))]; exact p.get e1
  · show hget _ (if r' = r then 1024 + s.length else D.rp r') = some (64, arI G.C (fun k => p' (G.C * r' + k)))
    by_cases e : r' = r
    · subst e
      rw [if_pos rfl, hget_set_ne ha (by omega)]
      exact hget_last s _
    · have e1 := (c4 r' hr').2
      rw [if_neg e, hget_set_ne ha (tag_ne e1 c3 (by omega)), p.get e1]
      congr 2
      exact arI_cong (fun k hk => by rw [hl r' k hr' hk e])
def cpD (c B R r : Nat) : CD := (c, c + 1, c + 2 + R, fun j => if j < r then B + 2 * j else c + 2 + j, fun j => if j < r then B + 2 * j + 1 else c + 3 + R + j)
def cpG (G : Gr) (o : Bool) (r : Nat) : Gr := (G.R, G.C, o, fun k => if k < G.C * r then G.l k else false, fun k => if k < G.C * r then G.p k else -6)
theorem cpD_CI {c B R : Nat} (hB : c + 3 + 2 * R ≤ B) : CI (cpD c B R R) R c := by
  refine ⟨fun r r' hr hr' e => ?_, fun r r' hr hr' e => ?_, Nat.le_refl _, ?_, ?_, fun r hr => ⟨?_, ?_⟩⟩
  · have e : (if r < R then B + 2 * r else c + 2 + r) = (if r' < R then B + 2 * r' else c + 2 + r') := e
    rw [if_pos hr, if_pos hr'] at e; omega
  · have e : (if r < R then B + 2 * r + 1 else c + 3 + R + r) = (if r' < R then B + 2 * r' + 1 else c + 3 + R + r') := e
    rw [if_pos hr, if_pos hr'] at e; omega
  · show c ≤ c + 1; omega
  · show c ≤ c + 2 + R; omega
  · show c ≤ if r < R then B + 2 * r else c + 2 + r
    rw [if_pos hr]; omega
  · show c ≤ if r < R then B + 2 * r + 1 else c + 3 + R + r
    rw [if_pos hr]; omega
theorem row_lt {C r r' k : Nat} (hk : k < C) : (C * r' + k < C * r) = (r' < r) := by
  apply propext
  constructor
  · intro h
    by_cases w : r' < r
    · exact w
    · exfalso
      have : C * r ≤ C * r' := Nat.mul_le_mul_left C (by omega)
      omega
  · intro h
    have : C * (r' + 1) ≤ C * r := Nat.mul_le_mul_left C h
    rw [Nat.mul_succ] at this
    omega
theorem x_copy {h : AH} {D : CD} {G : Gr} (c : CR h D G) (hG : GV G) (o : Bool) (hz : sz h + 2000 < 1200000) :
    ∃ h' D', tagIs 3 (some D.c) (f_X3_copy (some D.c) (bI o)) h = some (some (vR (some D'.c)), h') ∧ Pf h h' ∧ CR h' D' (setO G o) ∧ CI D' G.R (1024 + h.length) ∧ sz h' ≤ sz h + 750 := by
  obtain ⟨⟨g1, g2, g3, g4, g5, g6⟩, g7⟩ := id hG
  rw [c_tag c]
  unfold f_X3_copy
  rw [new_eq (by show sz h + 6 < _; omega)]
  have p0 : Pf h (h ++ [(3, [.int 0, .int 0, .int 0, .null, .null, .null])]) := Pf.app _ _
  have c0 := c.pf p0
  rw [c_gr5 c0, c_gi0 c0, c_gi1 c0]
  obtain ⟨h1, e1, p1, c1, l1, z1⟩ := x_init (h := h) (R := G.R) (C := G.C) (o := o) ⟨g1, g2⟩ ⟨g3, g4⟩ (by omega)
  rw [o_cv_eq e1]
  let B := 1024 + h1.length
  have hge : 1024 ≤ 1024 + h.length := by omega
  refine loop1 (σ := AH) G.R (fun n r s => f_X3_copy_23 n (some D.c) (some (1024 + h.length)) (nI r) s)
    (fun r s => Pf h s ∧ s.length = h1.length + 2 * r ∧ sz s ≤ sz h1 + 26 * r ∧ CR s (cpD (1024 + h.length) B G.R r) (cpG G o r))
    (fun res => ∃ h' D', res = some (some (vR (some (CD.c D'))), h') ∧ Pf h h' ∧ CR h' D' (setO G o) ∧ CI D' G.R (1024 + h.length) ∧ sz h' ≤ sz h + 750) ?_ ?_ 0 h1 FUEL (by omega) ⟨p1, by omega, by omega, ?_⟩ (by simp only [FUEL]; omega)
  · rintro s n ⟨q1, q2, q3, q4⟩
    rw [f_X3_copy_23_s]
    simp only
    rw [c_gi0 (c.pf q1), if_pos (nI_le (Nat.le_refl _) (by omega))]
    refine ⟨s, cpD (1024 + h.length) B G.R G.R, rfl, q1, q4.cong rfl rfl rfl (fun k hk => ?_) (fun k hk => ?_), cpD_CI (by show 1024 + h.length + 3 + 2 * G.R ≤ 1024 + h1.length; omega), by omega⟩
    · have hk : k < G.C * G.R := hk
      show G.l k = if k < G.C * G.R then G.l k else false
      rw [if_pos hk]
    · have hk : k < G.C * G.R := hk
      show G.p k = if k < G.C * G.R then G.p k else -6
      rw [if_pos hk]
  · rintro r s n hr ⟨q1, q2, q3, q4⟩ hk
    have cs := c.pf q1
    have hrl := (cs.2.2.2 r hr).1
    have k1 : hget s (1024 + h.length) = some (3, [.int (nI G.R), .int (nI G.C), .int (bI o), .ref (1024 + h.length + 1), .ref (1024 + h.length + 2 + G.R), .ref 1024]) := q4.1
    have k2 : hget s (1024 + h.length + 1) = some (71, arR G.R (cpD (1024 + h.length) B G.R r).rl) := q4.2.1
    rw [f_X3_copy_23_s]
    simp only
    rw [c_gi0 cs, if_neg (nI_ge hr (by omega)), o_gr_eq k1 rfl, c_gr3 cs, c_row cs hG hr, clone_eq (kt := 1) (ty := .boolean) hrl (arI_all (fun k _ => fits_b _)) (by rw [arI_len]; omega)]
    have pA : Pf s (s ++ [(65, arI G.C (fun c => bI (G.l (G.C * r + c))))]) := Pf.app _ _
    have gA : hget (s ++ [(65, arI G.C (fun c => bI (G.l (G.C * r + c))))]) (1024 + s.length) = some (65, arI G.C (fun c => bI (G.l (G.C * r + c)))) := hget_last s _
    show ∃ h' D', o_cc 65 (some (1024 + s.length)) _ (s ++ [(65, arI G.C (fun c => bI (G.l (G.C * r + c))))]) = _ ∧ _
    rw [o_cc_eq gA, o_astR_eq gA (by rfl) (pA.get k2) (by omega) (nI_pos (by omega)) (by rw [nI_clamp (by omega), arR_len]; exact hr), nI_clamp (by omega), arR_set]
    have cA := cw_rowl q4 (r := r) hr (by show 1024 ≤ 1024 + h.length + 1; omega) (l' := fun k => if k < G.C * (r + 1) then G.l k else false) (fun r' k hr' hk' ne => by
      show (if G.C * r' + k < G.C * (r + 1) then G.l (G.C * r' + k) else false) = if G.C * r' + k < G.C * r then G.l (G.C * r' + k) else false
      have hk' : k < G.C := hk'
      simp only [row_lt hk']
      by_cases w : r' < r
      · rw [if_pos w, if_pos (by omega)]
      · rw [if_neg w, if_neg (by omega)])
    have eA : arI (cpG G o r).C (fun k => bI (if (cpG G o r).C * r + k < G.C * (r + 1) then G.l ((cpG G o r).C * r + k) else false)) = arI G.C (fun c => bI (G.l (G.C * r + c))) := arI_cong (fun k hk' => by
      show bI (if G.C * r + k < G.C * (r + 1) then G.l (G.C * r + k) else false) = _
      rw [if_pos (by rw [Nat.mul_succ]; have hk' : k < G.C := hk'; omega)])
    rw [eA] at cA
    have lA : (hset (s ++ [(65, arI G.C (fun c => bI (G.l (G.C * r + c))))]) (1024 + h.length + 1) (71, arR G.R (fun j => if j = r then 1024 + s.length else (cpD (1024 + h.length) B G.R r).rl j))).length = s.length + 1 := by rw [len_hset]; simp
    have zA : sz (hset (s ++ [(65, arI G.C (fun c => bI (G.l (G.C * r + c))))]) (1024 + h.length + 1) (71, arR G.R (fun j => if j = r then 1024 + s.length else (cpD (1024 + h.length) B G.R r).rl j))) ≤ sz s + 13 := by
      rw [sz_set (by omega) (pA.get k2) (by rw [arR_len, arR_len]), sz_app, sz_one, arI_len]; omega
    have fA : Pf h (hset (s ++ [(65, arI G.C (fun c => bI (G.l (G.C * r + c))))]) (1024 + h.length + 1) (71, arR G.R (fun j => if j = r then 1024 + s.length else (cpD (1024 + h.length) B G.R r).rl j))) := (q1.trans pA).set _ (by omega)
    have cA' : CR (hset (s ++ [(65, arI G.C (fun c => bI (G.l (G.C * r + c))))]) (1024 + h.length + 1) (71, arR G.R (fun j => if j = r then 1024 + s.length else (cpD (1024 + h.length) B G.R r).rl j))) _ _ := cA
    generalize hset (s ++ [(65, arI G.C (fun c => bI (G.l (G.C * r + c))))]) (1024 + h.length + 1) (71, arR G.R (fun j => if j = r then 1024 + s.length else (cpD (1024 + h.length) B G.R r).rl j)) = sA at cA' lA zA fA ⊢
    have m1 : hget sA (1024 + h.length) = some (3, [.int (nI G.R), .int (nI G.C), .int (bI o), .ref (1024 + h.length + 1), .ref (1024 + h.length + 2 + G.R), .ref 1024]) := cA'.1
    have m2 : hget sA (1024 + h.length + 2 + G.R) = some (72, arR G.R (cpD (1024 + h.length) B G.R r).rp) := cA'.2.2.1
    have csA := c.pf fA
    have hrp := (csA.2.2.2 r hr).2
    rw [o_gr_eq m1 rfl, c_gr4 csA, c_rowp csA hG hr, clone_eq (kt := 0) (ty := .int) hrp (arI_all (fun k _ => rfl)) (by rw [arI_len]; omega)]
    have pB : Pf sA (sA ++ [(64, arI G.C (fun c => G.p (G.C * r + c)))]) := Pf.app _ _
    have gB : hget (sA ++ [(64, arI G.C (fun c => G.p (G.C * r + c)))]) (1024 + sA.length) = some (64, arI G.C (fun c => G.p (G.C * r + c))) := hget_last sA _
    show ∃ h' D', o_cc 64 (some (1024 + sA.length)) _ (sA ++ [(64, arI G.C (fun c => G.p (G.C * r + c)))]) = _ ∧ _
    rw [o_cc_eq gB, o_astR_eq gB (by rfl) (pB.get m2) (by omega) (nI_pos (by omega)) (by rw [nI_clamp (by omega), arR_len]; exact hr), nI_clamp (by omega), arR_set, o_let_eq, li1, nI_add]
    have cB := cw_rowp cA' (r := r) hr (by show 1024 ≤ 1024 + h.length + 2 + G.R; omega) (p' := fun k => if k < G.C * (r + 1) then G.p k else -6) (fun r' k hr' hk' ne => by
      show (if G.C * r' + k < G.C * (r + 1) then G.p (G.C * r' + k) else -6) = if G.C * r' + k < G.C * r then G.p (G.C * r' + k) else -6
      have hk' : k < G.C := hk'
      simp only [row_lt hk']
      by_cases w : r' < r
      · rw [if_pos w, if_pos (by omega)]
      · rw [if_neg w, if_neg (by omega)])
    have eB : arI G.C (fun k => if G.C * r + k < G.C * (r + 1) then G.p (G.C * r + k) else -6) = arI G.C (fun c => G.p (G.C * r + c)) := arI_cong (fun k hk' => by
      rw [if_pos (by rw [Nat.mul_succ]; omega)])
    have cB2 : CR (hset (sA ++ [(64, arI G.C (fun k => if G.C * r + k < G.C * (r + 1) then G.p (G.C * r + k) else -6))]) (1024 + h.length + 2 + G.R) (72, arR G.R (fun j => if j = r then 1024 + sA.length else (cpD (1024 + h.length) B G.R r).rp j)))
      (1024 + h.length, 1024 + h.length + 1, 1024 + h.length + 2 + G.R, (fun j => if j = r then 1024 + s.length else (cpD (1024 + h.length) B G.R r).rl j), (fun j => if j = r then 1024 + sA.length else (cpD (1024 + h.length) B G.R r).rp j)) (cpG G o (r + 1)) := cB
    rw [eB] at cB2
    refine hk _ ⟨(fA.trans pB).set _ (by omega), by rw [len_hset]; simp; omega, ?_, ?_⟩
    · rw [sz_set (by omega) (pB.get m2) (by rw [arR_len, arR_len]), sz_app, sz_one, arI_len]; omega
    · have eD : (cpD (1024 + h.length) B G.R (r + 1)) = (1024 + h.length, 1024 + h.length + 1, 1024 + h.length + 2 + G.R, (fun j => if j = r then 1024 + s.length else (cpD (1024 + h.length) B G.R r).rl j), (fun j => if j = r then 1024 + sA.length else (cpD (1024 + h.length) B G.R r).rp j)) := by
        have a1 : (fun j => if j < r + 1 then B + 2 * j else 1024 + h.length + 2 + j) = fun j => if j = r then 1024 + s.length else if j < r then B + 2 * j else 1024 + h.length + 2 + j := by
          funext j
          by_cases w : j = r
          · subst w; rw [if_pos (by omega), if_pos rfl]; show 1024 + h1.length + 2 * j = _; omega
          · rw [if_neg w]
            by_cases v : j < r
            · rw [if_pos v, if_pos (by omega)]
            · rw [if_neg v, if_neg (by omega)]
        have a2 : (fun j => if j < r + 1 then B + 2 * j + 1 else 1024 + h.length + 3 + G.R + j) = fun j => if j = r then 1024 + sA.length else if j < r then B + 2 * j + 1 else 1024 + h.length + 3 + G.R + j := by
          funext j
          by_cases w : j = r
          · subst w; rw [if_pos (by omega), if_pos rfl]; show 1024 + h1.length + 2 * j + 1 = _; omega
          · rw [if_neg w]
            by_cases v : j < r
            · rw [if_pos v, if_pos (by omega)]
            · rw [if_neg v, if_neg (by omega)]
        unfold cpD
        rw [a1, a2]
      rw [eD]
      exact cB2
  · have a1 : (fun j => if j < 0 then B + 2 * j else 1024 + h.length + 2 + j) = fun j => 1024 + h.length + 2 + j := by
      funext j; rw [if_neg (by omega)]
    have a2 : (fun j => if j < 0 then B + 2 * j + 1 else 1024 + h.length + 3 + G.R + j) = fun j => 1024 + h.length + 3 + G.R + j := by
      funext j; rw [if_neg (by omega)]
    have eD : cpD (1024 + h.length) B G.R 0 = newD (1024 + h.length) G.R := by
      unfold cpD
      rw [a1, a2]; rfl
    rw [eD]
    refine c1.cong rfl rfl rfl (fun k _ => ?_) (fun k _ => ?_)
    · show (if k < G.C * 0 then G.l k else false) = false
      rw [if_neg (by omega)]
    · show (if k < G.C * 0 then G.p k else -6) = -6
      rw [if_neg (by omega)]
