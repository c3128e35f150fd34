set_option maxRecDepth 100000
/-! a map as an object: the constructor -/
theorem hset_at (h : AH) (e0 e : AE) (t : AH) : hset (h ++ e0 :: t) (1024 + h.length) e = h ++ e :: t := by
  unfold hset
  rw [List.set_append_right _ _ (by omega)]
  congr 1
  rw [show 1024 + h.length - 1024 - h.length = 0 by omega]; rfl
theorem hget_r (h t : AH) (i : Nat) : hget (h ++ t) (1024 + h.length + i) = t[i]? := by
  unfold hget
  rw [if_pos (by omega), List.getElem?_append_right (by omega)]
  congr 1; omega
theorem rep_arI (n : Nat) (x : Int32) : List.replicate n (Value.int x) = arI n (fun _ => x) := by
  apply List.ext_getElem?
  intro i
  by_cases hi : i < n
  · rw [arI_get hi, List.getElem?_replicate_of_lt hi]
  · rw [List.getElem?_eq_none (by simp; omega), List.getElem?_eq_none (by rw [arI_len]; omega)]
def iniG (R C : Nat) (o : Bool) (k : Nat) : Gr := (R, C, o, fun _ => false, fun j => if j < k then -6 else 0)
theorem iniG_GV {R C : Nat} (o : Bool) (k : Nat) (h1 : 1 ≤ R ∧ R ≤ 12) (h2 : 1 ≤ C ∧ C ≤ 12) : GV (iniG R C o k) := by
  refine ⟨⟨h1.1, h1.2, h2.1, h2.2, Nat.mul_le_mul h2.2 h1.2, Nat.mul_le_mul h2.1 h1.1⟩, fun j _ => ?_⟩
  show isP (if j < k then -6 else 0)
  split
  · exact .inl rfl
  · exact .inr ⟨0, by omega, rfl⟩
/-- the cells of a map that is being made -/
def iniT (c R C : Nat) (o : Bool) : AH := (3, [.int (nI R), .int (nI C), .int (bI o), .ref (c + 1), .ref (c + 2 + R), .ref 1024]) :: (71, arR R (fun j => c + 2 + j)) :: (List.replicate R (65, List.replicate C (Value.int 0)) ++ ((72, arR R (fun j => c + 3 + R + j)) :: List.replicate R (64, List.replicate C (Value.int 0))))
theorem iniT_CR (h : AH) {R C : Nat} (o : Bool) : CR (h ++ iniT (1024 + h.length) R C o) (newD (1024 + h.length) R) (iniG R C o 0) := by
  have g : ∀ i e, (iniT (1024 + h.length) R C o)[i]? = some e → hget (h ++ iniT (1024 + h.length) R C o) (1024 + h.length + i) = some e := fun i e w => (hget_r h _ i).trans w
  refine ⟨g 0 _ rfl, g 1 _ rfl, ?_, fun r hr => ⟨?_, ?_⟩⟩
  · have := g (2 + R) (72, arR R (fun j => 1024 + h.length + 3 + R + j)) (by
      show (_ :: _ :: (List.replicate R _ ++ _))[2 + R]? = _
      rw [show 2 + R = R + 1 + 1 by omega, List.getElem?_cons_succ, List.getElem?_cons_succ, List.getElem?_append_right (by simp)]
      simp)
    rw [← Nat.add_assoc] at this
    exact this
  · have hr : r < R := hr
    have := g (2 + r) (65, List.replicate C (Value.int 0)) (by
      show (_ :: _ :: (List.replicate R _ ++ _))[2 + r]? = _
      rw [show 2 + r = r + 1 + 1 by omega, List.getElem?_cons_succ, List.getElem?_cons_succ, List.getElem?_append_left (by simpa using hr), List.getElem?_replicate_of_lt hr])
    rw [rep_arI, ← Nat.add_assoc] at this
    exact this
  · have hr : r < R := hr
    have := g (3 + R + r) (64, List.replicate C (Value.int 0)) (by
      show (_ :: _ :: (List.replicate R _ ++ _))[3 + R + r]? = _
      rw [show 3 + R + r = R + r + 1 + 1 + 1 by omega, List.getElem?_cons_succ, List.getElem?_cons_succ, List.getElem?_append_right (by simp; omega), List.length_replicate, show R + r + 1 - R = r + 1 by omega, List.getElem?_cons_succ, List.getElem?_replicate_of_lt hr])
    rw [rep_arI, ← Nat.add_assoc, ← Nat.add_assoc] at this
    have e : iniG R C o 0 = (R, C, o, fun _ => false, fun j => if j < 0 then -6 else 0) := rfl
    have e2 : (fun c : Nat => (iniG R C o 0).p ((iniG R C o 0).C * r + c)) = fun _ => (0 : Int32) := by
      funext c
      show (if C * r + c < 0 then (-6 : Int32) else 0) = 0
      rw [if_neg (by omega)]
    show hget _ (1024 + h.length + 3 + R + r) = some (64, arI C _)
    rw [e2]; exact this
theorem iniT_len (c R C : Nat) (o : Bool) : (iniT c R C o).length = 3 + 2 * R := by simp [iniT]; omega
theorem iniT_sz {c R C : Nat} (o : Bool) (hR : R ≤ 12) (hC : C ≤ 12) : sz (iniT c R C o) ≤ 400 := by
  have e : iniT c R C o = [(3, [.int (nI R), .int (nI C), .int (bI o), .ref (c + 1), .ref (c + 2 + R), .ref 1024])] ++ ([(71, arR R (fun j => c + 2 + j))] ++ (List.replicate R (65, List.replicate C (Value.int 0)) ++ ([(72, arR R (fun j => c + 3 + R + j))] ++ List.replicate R (64, List.replicate C (Value.int 0))))) := rfl
  rw [e, sz_app, sz_app, sz_app, sz_app, sz_one, sz_one, sz_one, sz_rep, sz_rep]
  simp only [arR_len, List.length_replicate, List.length_cons, List.length_nil]
  have : R * (1 + C) ≤ 12 * 13 := Nat.mul_le_mul hR (by omega)
  omega
theorem x_init {h : AH} {R C : Nat} {o : Bool} (hR : 1 ≤ R ∧ R ≤ 12) (hC : 1 ≤ C ∧ C ≤ 12) (hz : sz h + 1000 < 1200000) :
    ∃ h', nnF (some (1024 + h.length)) (f_X3_init (some (1024 + h.length)) (some 1024) (nI R) (nI C) (bI o)) (h ++ [(3, [.int 0, .int 0, .int 0, .null, .null, .null])]) = some (none, h') ∧ Pf h h' ∧ CR h' (newD (1024 + h.length) R) (newG R C o) ∧ h'.length = h.length + 3 + 2 * R ∧ sz h' ≤ sz h + 400 := by
  rw [nnF_eq]
  unfold f_X3_init
  have hc : 1024 ≤ 1024 + h.length := by omega
  have pf_at : ∀ (fs : List Value) (t : AH) (k : Nat) (v : Value) (K : AH → Res), k < fs.length → o_pf 3 (some (1024 + h.length)) k v K (h ++ (3, fs) :: t) = K (h ++ (3, fs.set k v) :: t) := by
    intro fs t k v K hk
    rw [o_pf_eq (hget_new h (3, fs) t) hc hk, hset_at]
  have z0 : ∀ fs : List Value, fs.length = 6 → sz (h ++ [(3, fs)]) = sz h + 7 := by
    intro fs hf
    rw [sz_app, sz_one, hf]
  have hfz : (fits .boolean (.int (bI o)) = true ∧ vp_nar .boolean (bI o) = bI o) := ⟨fits_b o, nar_bI o⟩
  rw [pf_at _ [] 5 _ _ (by show 5 < 6; omega), o_nn_eq, pf_at _ [] 0 _ _ (by show 0 < 6; omega), pf_at _ [] 1 _ _ (by show 1 < 6; omega)]
  unfold o_pz
  rw [if_pos hfz, pf_at _ [] 2 _ _ (by show 2 < 6; omega)]
  show ∃ h', o_mna 7 1 (.int 0) (nI R) (nI C) _ (h ++ [(3, [.int (nI R), .int (nI C), .int (bI o), .null, .null, .ref 1024])]) = some (none, h') ∧ _
  rw [mna_eq hR hC.2 (by rw [z0 _ rfl]; omega)]
  have l1 : (h ++ [(3, ([.int (nI R), .int (nI C), .int (bI o), .null, .null, .ref 1024] : List Value))]).length = h.length + 1 := by simp
  rw [l1, List.append_assoc, List.append_assoc, List.singleton_append, pf_at _ _ 3 _ _ (by show 3 < 6; omega)]
  have z1 : sz (h ++ (3, ([.int (nI R), .int (nI C), .int (bI o), .null, .null, .ref 1024] : List Value).set 3 (va_rf (some (1024 + (h.length + 1))))) :: ([(64 + 7, arR R (fun j => 1024 + (h.length + 1) + 1 + j))] ++ List.replicate R (64 + 1, List.replicate C (Value.int 0)))) ≤ sz h + 200 := by
    have e : (3, ([.int (nI R), .int (nI C), .int (bI o), .null, .null, .ref 1024] : List Value).set 3 (va_rf (some (1024 + (h.length + 1))))) :: ([(64 + 7, arR R (fun j => 1024 + (h.length + 1) + 1 + j))] ++ List.replicate R (64 + 1, List.replicate C (Value.int 0))) = [(3, ([.int (nI R), .int (nI C), .int (bI o), .null, .null, .ref 1024] : List Value).set 3 (va_rf (some (1024 + (h.length + 1)))))] ++ ([(64 + 7, arR R (fun j => 1024 + (h.length + 1) + 1 + j))] ++ List.replicate R (64 + 1, List.replicate C (Value.int 0))) := rfl
    rw [e, sz_app, sz_app, sz_app, sz_one, sz_one, sz_rep]
    simp only [arR_len, List.length_replicate, List.length_set, List.length_cons, List.length_nil]
    have : R * (1 + C) ≤ 12 * 13 := Nat.mul_le_mul hR.2 (by omega)
    omega
  rw [mna_eq hR hC.2 (by omega)]
  have l2 : (h ++ (3, ([.int (nI R), .int (nI C), .int (bI o), .null, .null, .ref 1024] : List Value).set 3 (va_rf (some (1024 + (h.length + 1))))) :: ([(64 + 7, arR R (fun j => 1024 + (h.length + 1) + 1 + j))] ++ List.replicate R (64 + 1, List.replicate C (Value.int 0)))).length = h.length + (2 + R) := by
    simp; omega
  rw [l2, List.append_assoc, List.append_assoc, List.cons_append, pf_at _ _ 4 _ _ (by show 4 < 6; omega)]
  have eF : h ++ (3, (([.int (nI R), .int (nI C), .int (bI o), .null, .null, .ref 1024] : List Value).set 3 (va_rf (some (1024 + (h.length + 1))))).set 4 (va_rf (some (1024 + (h.length + (2 + R)))))) :: ([(64 + 7, arR R (fun j => 1024 + (h.length + 1) + 1 + j))] ++ List.replicate R (64 + 1, List.replicate C (Value.int 0)) ++ ([(64 + 8, arR R (fun j => 1024 + (h.length + (2 + R)) + 1 + j))] ++ List.replicate R (64 + 0, List.replicate C (Value.int 0)))) = h ++ iniT (1024 + h.length) R C o := by
    have a1 : 1024 + (h.length + 1) = 1024 + h.length + 1 := by omega
    have a2 : 1024 + (h.length + (2 + R)) = 1024 + h.length + 2 + R := by omega
    have a3 : (fun j => 1024 + h.length + 1 + 1 + j) = fun j => 1024 + h.length + 2 + j := by funext j; omega
    have a4 : (fun j => 1024 + h.length + 2 + R + 1 + j) = fun j => 1024 + h.length + 3 + R + j := by funext j; omega
    rw [a1, a2, a3, a4, List.append_assoc]
    rfl
  rw [eF]
  have c0 := iniT_CR h (R := R) (C := C) o
  have c01 : hget (h ++ iniT (1024 + h.length) R C o) (1024 + h.length) = some (3, [.int (nI R), .int (nI C), .int (bI o), .ref (newD (1024 + h.length) R).a, .ref (newD (1024 + h.length) R).p, .ref 1024]) := c0.1
  have c02 : hget (h ++ iniT (1024 + h.length) R C o) (newD (1024 + h.length) R).p = some (72, arR R (newD (1024 + h.length) R).rp) := c0.2.2.1
  rw [o_gr_eq c01 rfl, alen_eq c02 (by omega), arR_len]
  have hci := newD_CI (1024 + h.length) R
  have pF : Pf h (h ++ iniT (1024 + h.length) R C o) := Pf.app _ _
  have lF : (h ++ iniT (1024 + h.length) R C o).length = h.length + 3 + 2 * R := by rw [List.length_append, iniT_len]; omega
  have zF : sz (h ++ iniT (1024 + h.length) R C o) ≤ sz h + 400 := by
    rw [sz_app]
    have := iniT_sz (c := 1024 + h.length) o hR.2 hC.2
    omega
  show ∃ h', f_X3_init_59 FUEL (nI C) (some (newD (1024 + h.length) R).p) (nI R) 0 (h ++ iniT (1024 + h.length) R C o) = some (none, h') ∧ _
  generalize h ++ iniT (1024 + h.length) R C o = hF at c0 pF lF zF ⊢
  generalize hDD : newD (1024 + h.length) R = D at c0 hci ⊢
  refine loop2 (σ := AH) R C (by omega) (by omega) (fun n r s => f_X3_init_59 n (nI C) (some D.p) (nI R) (nI r) s) (fun n m r k s => f_X3_init_76 (f_X3_init_59 n) m (nI C) (some D.p) (nI R) (nI r) (some (D.rp r)) (nI k) s)
    (fun k s => CR s D (iniG R C o k) ∧ Pf h s ∧ s.length = h.length + 3 + 2 * R ∧ sz s ≤ sz h + 400) (fun res => ∃ h', res = some (none, h') ∧ Pf h h' ∧ CR h' D (newG R C o) ∧ h'.length = h.length + 3 + 2 * R ∧ sz h' ≤ sz h + 400) ?_ ?_ ?_ ?_ hF ⟨c0, pF, lF, zF⟩
  · intro s n hs
    rw [f_X3_init_59_s]
    simp only
    rw [if_pos (nI_le (Nat.le_refl _) (by omega))]
    refine ⟨s, rfl, hs.2.1, hs.1.cong rfl rfl rfl (fun _ _ => rfl) (fun k hk => ?_), hs.2.2⟩
    show (-6 : Int32) = if k < C * R then -6 else 0
    have hk : k < C * R := hk
    rw [if_pos hk]
  · intro r s n hr hs hk
    rw [f_X3_init_59_s]
    simp only
    rw [if_neg (nI_ge hr (by omega)), c_rowp hs.1 (iniG_GV o _ hR hC) hr]
    exact hk s hs
  · intro r s n m hr hs hk
    rw [f_X3_init_76_s]
    simp only
    rw [if_pos (nI_le (Nat.le_refl _) (by omega)), o_let_eq, li1, nI_add]
    exact hk s (by rw [Nat.mul_succ]; exact hs)
  · intro r k s n m hr hk hkN hs hn
    obtain ⟨s', e1, e2, e3⟩ := cw_p hs.1 (iniG_GV o _ hR hC) hci hc hr hk (-6)
    rw [f_X3_init_76_s]
    simp only
    rw [if_neg (nI_ge hk (by omega)), e1, o_let_eq, li1, nI_add]
    have hrp : 1024 + h.length ≤ D.rp r := (hci.2.2.2.2.2 r hr).2
    refine hn s' ⟨e2.cong rfl rfl rfl (fun _ _ => rfl) (fun j hj => ?_), ?_, by rw [e3.1]; exact hs.2.2.1, by rw [e3.2.1]; exact hs.2.2.2⟩
    · show (if j < C * r + k + 1 then (-6 : Int32) else 0) = up (fun j => if j < C * r + k then -6 else 0) (C * r + k) (-6) j
      unfold up
      by_cases w : j = C * r + k
      · rw [if_pos w, if_pos (by omega)]
      · rw [if_neg w]
        show _ = if j < C * r + k then (-6 : Int32) else 0
        by_cases v : j < C * r + k
        · rw [if_pos v, if_pos (by omega)]
        · rw [if_neg v, if_neg (by omega)]
    · exact Pf.of (by rw [e3.1]; exact hs.2.1.len) (fun i hi => by rw [e3.2.2 i (by omega), hs.2.1.same hi])
