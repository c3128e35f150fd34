/-! LAMBDAS: making one, calling one -/
set_option maxRecDepth 100000
def lamV (v : TV) : Value := match v with
  | .inl x => .int x
  | .inr (.inl x) => .long x
  | .inr (.inr (.inl x)) => .float x
  | .inr (.inr (.inr none)) => .null
  | .inr (.inr (.inr (some i))) => .ref i
theorem cv_lamV (X : XT) (v : TV) : cv X (lamV v) = tv X v := by
  rcases v with x | x | x | _ | x <;> rfl
/-- making a lambda object: the captured values into a new object -/
def o_lam (tag : Nat) (tys : List FieldType) (vs : List TV) (K : Rf → AH → Res) (h : AH) : Res := if (tys.zip vs).all (fun q => fits q.1 (lamV q.2)) = true then o_new tag (vs.map lamV) K h else none
theorem fits_lamV (X : XT) {t : FieldType} {v : TV} (h : fits t (lamV v) = true) : fits t (tv X v) = true := by
  rcases v with x | x | x | _ | x
  · exact h
  · exact h
  · exact h
  · exact h
  · cases t <;> exact h
section LM
variable {Z : ZT} {cc : ByteArray} {own : String} {nm : MethodName} {nL : Nat} {ret : Option FieldType} {h : AH} {pc : Nat} {lv : List (Nat × TV)} {st : List TV}
theorem cats_le (X : XT) (l : List TV) : ((l.map (tv X)).map fun v => v.category).sum ≤ 2 * l.length := by
  induction l with
  | nil => simp
  | cons v t ih =>
    simp only [List.map_cons, List.sum_cons, List.length_cons, tv_cat]
    split <;> omega
theorem GX.lam {X : XT} {U : State} (h : GX X U) {k : Nat} {q : LSt} {o : Option Nat} (hq : mySites[k]? = some (q, o)) : lamOk U q (X.dL k) (lkOf X k o) := h.2.2.2.2.2.2.2.2.2.2.2.2.2.1 k _ hq
theorem r_lamC (C : Cx Z cc own nL ret nm) {k i : Nat} {q : LSt} (hq : mySites[k]? = some (q, some i)) (hqx : q.x = nm) (hpc : q.pc = pc) (hi : i < 1024) (hlo : 3080 ≤ Z.lo) (hst : st.length ≤ 4) (hdg : decode cc pc = .ok (.invokedynamic q.idx, 5)) (kk : V Z nL h (pc + 5) lv (vR (some i) :: st)) : V Z nL h pc lv st := by
  intro a b ls H locs hl hR hf
  have kk := kk a b ls H locs hl hR hf
  obtain ⟨hx, hb, hml, hret, hlk, hown, hts, hG, hnm⟩ := C
  obtain ⟨m, kD, cf, i0, p0, b', n, nm', ds, sg, iface, kI, r0, r, h1, h2, h3, h4, h5, h6, h7, h8, h9, h10⟩ := hG.lam hq
  rw [hqx] at h1
  cases h1.symm.trans hnm.2
  rw [hpc] at h9
  intro T hT X
  have hpl : Z.e.platform.lambdaLinkWords = 3072 := by rw [X.admits.platform]
  obtain ⟨t, a1, b1⟩ := kk T hT X
  have had : ad Z.X i = Z.X.pre i := by unfold ad; rw [if_neg (by omega)]
  refine ⟨t, X.lambdaConstant hx (g := F0 Z.m pc ls (st.map (tv Z.X))) rfl (hl.1.trans hml.symm) (by rw [hb]; exact hdg) h2 h9 ?_ (a := Z.X.pre i) ?_, b1⟩
  · have h8 := rest_ok (pc := pc) Z.X hst (ls := ls) (stk := st.map (tv Z.X)) (m := Z.m)
    rw [hpl]
    show _ + _ + 3072 ≤ Z.lo
    have : 2 * (F0 Z.m pc ls (st.map (tv Z.X))).monitorRoom + (((F0 Z.m pc ls (st.map (tv Z.X))).stack).map fun v => v.category).sum ≤ 8 := h8
    omega
  · rw [← had]; exact a1
theorem r_lamM (C : Cx Z cc own nL ret nm) {k : Nat} {q : LSt} (hq : mySites[k]? = some (q, none)) (hqx : q.x = nm) (hpc : q.pc = pc) (hlo : 3090 ≤ Z.lo) (vs : List TV) {stk : List TV} (hstk : stk = vs.reverse ++ st) (hst : stk.length ≤ 8) (hdg : decode cc pc = .ok (.invokedynamic q.idx, 5)) (hlen : vs.length = q.sh.captured.length) {K : Rf → AH → Res} (hrun : o_lam (96 + k) q.sh.captured vs K h = Z.res) (kk : ∀ r h1, K r h1 = Z.res → V Z nL h1 (pc + 5) lv (vR r :: st)) : V Z nL h pc lv stk := by
  unfold o_lam at hrun
  split at hrun
  case isFalse => cases hrun
  rename_i hfit
  unfold o_new at hrun
  split at hrun
  case isFalse => cases hrun
  rename_i hcap
  intro a b ls H locs hl hR hf
  have kk := kk _ _ hrun
  obtain ⟨hx, hb, hml, hret, hlk, hown, hts, hG, hnm⟩ := C
  obtain ⟨m, kD, cf, i0, p0, b', n, nm', ds, sg, iface, kI, r0, r, h1, h2, h3, h4, h5, h6, h7, h8, h9, h10, h11, h12, h13, h14, h15, h16, h17, h18, h19, h20, h21⟩ := hG.lam hq
  have hchk : q.chk = true := mySites_chk _ (List.mem_of_getElem? hq)
  obtain ⟨kc, tk, file, methk, ck, t, tgt, z1, z2, z3, z4, z5, z6, z7, z8, z9, z10, z11, z12, z13, z14, z15, z16, z17, z18, z19, z20, z21⟩ := made_facts hchk h2 h3 h10 h21
  rw [hqx] at h1
  cases h1.symm.trans hnm.2
  rw [hpc] at h9
  have hHs : H.size = Z.X.base + h.length := hR.2.1
  have hadr : ad Z.X (1024 + h.length) = H.size := by rw [ad_new _ (by omega), hHs]; omega
  have hk96 : k < 1000000 := by have := (List.getElem?_eq_some_iff.mp hq).1; simp [mySites] at this; omega
  have hnar : ((kc.instanceTypes.toList.zip (vs.map (tv Z.X))).map fun (t, v) => narrow t v) = (vs.map lamV).map (cv Z.X) := by
    rw [z21, List.map_map]
    have hg : ∀ (tys : List FieldType) (ws : List TV), ws.length = tys.length → (tys.zip ws).all (fun q => fits q.1 (lamV q.2)) = true → ((tys.zip (ws.map (tv Z.X))).map fun (t, v) => narrow t v) = ws.map (cv Z.X ∘ lamV) := by
      intro tys ws
      induction ws generalizing tys with
      | nil => intro _ _; cases tys <;> simp
      | cons w ws ih =>
        intro hlen hall
        cases tys with
        | nil => simp at hlen
        | cons t tys =>
          simp only [List.zip_cons_cons, List.all_cons, Bool.and_eq_true] at hall
          simp only [List.map_cons, List.zip_cons_cons, Function.comp, cv_lamV, List.cons.injEq]
          exact ⟨narrow_of_fits (fits_lamV Z.X hall.1), by rw [ih tys (by simpa using hlen) hall.2]⟩
    exact hg _ _ hlen hfit
  intro T hT X
  have hpl : Z.e.platform.lambdaLinkWords = 3072 := by rw [X.admits.platform]
  have hcats := cats_le Z.X stk
  obtain ⟨X', stp⟩ := X.lambdaMakes hx (g := F0 Z.m pc ls (stk.map (tv Z.X))) rfl (hl.1.trans hml.symm) (by rw [hb]; exact hdg) (kc := kc) (vals := vs.map (tv Z.X)) (rest := st.map (tv Z.X)) h2 h9 h4 h5 h6 h7 (by rw [h8, List.length_map, hlen]) (by rw [hstk]; simp) z1
    (by rw [hpl]; show 2 * 0 + _ + 3072 ≤ Z.lo; have : ((stk.map (tv Z.X)).map fun v => v.category).sum ≤ 16 := by omega
        have e0 : (((F0 Z.m pc ls (stk.map (tv Z.X))).stack).map fun v => v.category).sum = ((stk.map (tv Z.X)).map fun v => v.category).sum := rfl
        omega)
    (by show _ ≤ CAP - _; omega) (by rw [hnar]; simp only [List.length_map]; have := hcap.2; simp only [List.length_map] at this; show _ ≤ CAPS - _; omega)
    (by
      intro i v hv
      rw [hnar] at hv
      simp only [List.getElem?_toArray, List.map_map, List.getElem?_map] at hv
      cases hw : vs[i]? with
      | none => rw [hw] at hv; cases hv
      | some w =>
        rw [hw] at hv
        simp only [Option.map_some, Function.comp, cv_lamV, Option.some.injEq] at hv
        subst hv
        have hi := (List.getElem?_eq_some_iff.mp hw).1
        have ht : kc.instanceTypes[i]? = some (q.sh.captured[i]'(by omega)) := by
          rw [← Array.getElem?_toList, z21]
          exact List.getElem?_eq_getElem _
        rw [List.all_eq_true] at hfit
        have hz : (q.sh.captured.zip vs)[i]? = some (q.sh.captured[i]'(by omega), w) := by
          rw [List.getElem?_zip_eq_some]
          exact ⟨List.getElem?_eq_getElem _, hw⟩
        have := hfit _ (List.mem_of_getElem? hz)
        simp only [State.fitsSlot, State.slotType?, z1, z3, ht, Option.bind_eq_bind, Option.bind_some]
        exact fits_lamV Z.X this)
  rw [hnar] at X' stp
  have hR1 : Rp Z.X (h ++ [(96 + k, vs.map lamV)]) (T.pushCell { cls := Z.X.dL k, slots := ((vs.map lamV).map (cv Z.X)).toArray, vm := .none }).heap := by
    have hheap : (T.pushCell { cls := Z.X.dL k, slots := ((vs.map lamV).map (cv Z.X)).toArray, vm := .none }).heap = H.push { cls := Z.X.dL k, slots := ((vs.map lamV).map (cv Z.X)).toArray, vm := .none } := by rw [← hT]; rfl
    rw [hheap]
    refine hR.push (by simp) (fun z hz => by rw [Array.getElem?_push_lt hz]; exact (Array.getElem?_eq_getElem hz).symm) ⟨_, Array.getElem?_push_size, rfl, (fun z => by cases z), fun _ => rfl, ?_, ?_⟩ hcap.1 hcap.2
    · show Z.X.dL k = clOf Z.X (96 + k)
      unfold clOf
      rw [if_neg (by omega), if_neg (by omega)]
      congr 1
      omega
    · rw [if_neg (by omega)]
  have kk := V.grow (e := (96 + k, vs.map lamV)) a b kk hl hR1 hf
  have kk := kk _ rfl (by
    have : ((vs.map lamV).map (cv Z.X)).toArray.size = (vs.map lamV).length := by simp
    rw [this] at X'
    exact X')
  obtain ⟨t2, a1, b1⟩ := kk
  refine ⟨t2, stp t2 ?_, b1⟩
  rw [hT, ← hadr]
  exact a1
end LM
