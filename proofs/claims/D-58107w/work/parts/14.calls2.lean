/-! MORE CALLS, SWITCHES -/
set_option maxRecDepth 100000
def FUEL : Nat := 100000
def o_nn (r : Rf) (K : AH → Res) (h : AH) : Res := if r = none then none else K h
/-- a table switch: the branches' answers, by place -/
def o_tsw (x : Int32) (lo : Int) (bs : List Res) (dflt : Res) : Res := if x.toInt < lo then dflt else (bs[(x.toInt - lo).toNat]?).getD dflt
section C3
variable {Z : ZT} {cc : ByteArray} {own : String} {nm : MethodName} {nL : Nat} {ret : Option FieldType} {h : AH} {pc len : Nat} {lv : List (Nat × TV)} {st stk : List TV} {F : AH → Res}
theorem none_res {P : Prop} (hrun : (none : Res) = Z.res) : P := by cases hrun
theorem room_ok {a b f l mx : Nat} (hfr : Z.fr = a) (hlo : Z.lo = b) (h1 : f + 1 ≤ a) (h2 : 8 + (mx + 11) + l ≤ b) : f + 1 ≤ Z.fr ∧ 8 + (mx + 11) + l ≤ Z.lo := by
  rw [hfr, hlo]; exact ⟨h1, h2⟩
theorem room_oi {a b : Nat} (hfr : Z.fr = a) (hlo : Z.lo = b) (h1 : 1 ≤ a) (h2 : 20 ≤ b) : 1 ≤ Z.fr ∧ 20 ≤ Z.lo := by
  rw [hfr, hlo]; exact ⟨h1, h2⟩
theorem room_n {a b w : Nat} (hfr : Z.fr = a) (hlo : Z.lo = b) (h1 : 1 ≤ a) (h2 : w ≤ b) : 1 ≤ Z.fr ∧ w ≤ Z.lo := by
  rw [hfr, hlo]; exact ⟨h1, h2⟩
theorem r_oinit (C : Cx Z cc own nL ret nm) {idx : Nat} (q1 : Cond.methodLink own idx Lib.objectInit ∈ lw_all) (q2 : Cond.instanceMethod Lib.objectInit ∈ lw_all) (q3 : Cond.code Lib.objectInit ⟨#[0xb1]⟩ 1 none ∈ lw_all) {r : Rf} {K : AH → Res} (hdg : decode cc pc = .ok (.invokespecial idx, 3)) (hroom : 1 ≤ Z.fr ∧ 20 ≤ Z.lo) (hst : st.length ≤ 4) (hrun : o_nn r K h = Z.res) (kk : K h = Z.res → V Z nL h (pc + 3) lv st) : V Z nL h pc lv (vR r :: st) := by
  unfold o_nn at hrun
  split at hrun
  · cases hrun
  rename_i hr
  cases r with
  | none => exact absurd rfl hr
  | some i =>
  intro a b ls H locs hl hR hf
  have kk := kk hrun a b ls H locs hl hR hf
  obtain ⟨hx, hb, hml, hret, hlk, hown, hts, hG, hnm⟩ := C
  have h8 := rest_ok (pc := pc) Z.X hst (ls := ls) (stk := []) (m := Z.m)
  refine W.objInit hx hb hown (hts _ q1) (hts _ q2) (hts _ q3) rfl (by rw [hml]; exact hl.1) rfl hdg ?_ ?_ kk
  · exact hroom.1
  · show 2 * 0 + _ + 12 ≤ Z.lo
    have : 2 * 0 + ((st.map (tv Z.X)).map fun v => v.category).sum ≤ 8 := h8
    omega
theorem r_tsw (C : Cx Z cc own nL ret nm) {dflt lo hi : Int} {offs : Array Int} {ln : Nat} {x : Int32} {bs : List Res} {dr : Res} (hdg : decode cc pc = .ok (.tableswitch dflt lo hi offs, ln)) (tgs : List Nat) (dt : Nat) (htg : offs.toList.map (fun o => (pc : Int) + o) = tgs.map Int.ofNat ∧ hi = lo + tgs.length - 1) (hdt : (pc : Int) + dflt = (dt : Int)) (hrun : o_tsw x lo bs dr = Z.res)
    (k1 : ∀ j, j < tgs.length → (bs[j]?).getD dr = Z.res → V Z nL h (tgs.getD j 0) lv st) (k2 : dr = Z.res → V Z nL h dt lv st) (hlen : bs.length = tgs.length := by rfl) : V Z nL h pc lv (vI x :: st) := by
  unfold o_tsw at hrun
  intro a b ls H locs hl hR hf
  split at hrun
  · exact lv_tableOut C.1 C.2.1 hdg (Or.inl (by assumption)) hdt (k2 hrun a b ls H locs hl hR hf)
  rename_i hlo
  by_cases hj : (x.toInt - lo).toNat < tgs.length
  · have hk := k1 _ hj hrun a b ls H locs hl hR hf
    have hsz : offs.toList.length = tgs.length := by have := congrArg List.length htg.1; simpa using this
    have ho : offs[(x.toInt - lo).toNat]? = some (offs.toList[(x.toInt - lo).toNat]'(by omega)) := by
      rw [← Array.getElem?_toList]
      exact List.getElem?_eq_getElem _
    have hhi : ¬ hi < x.toInt := by have := htg.2; omega
    refine lv_tableIn C.1 C.2.1 hdg hlo hhi ho ?_ hk
    have e1 : (offs.toList.map (fun o => (pc : Int) + o))[(x.toInt - lo).toNat]? = (tgs.map Int.ofNat)[(x.toInt - lo).toNat]? := by rw [htg.1]
    rw [List.getElem?_map, List.getElem?_map, List.getElem?_eq_getElem (by omega), List.getElem?_eq_getElem hj] at e1
    simp only [Option.map_some, Option.some.injEq] at e1
    show (pc : Int) + _ = _
    rw [e1]
    simp [List.getD_eq_getElem?_getD, hj]
  · rw [List.getElem?_eq_none (by omega)] at hrun
    exact lv_tableOut C.1 C.2.1 hdg (Or.inr (by have := htg.2; omega)) hdt (k2 hrun a b ls H locs hl hR hf)
/-- invokevirtual: the receiver's class selects another method than the one named -/
theorem callU_ok (C : Cx Z cc own nL ret nm) {idx t : Nat} {x y : MethodName} {bytes : ByteArray} {maxL : Nat} {rt : Option FieldType} {fr lo n : Nat} {rc : Rf} {as : List TV} (hL : LkU own idx t x y n) (hm : ML y bytes maxL rt) (hM : Ctr Z.X Z.l y bytes maxL rt fr lo F (vR rc :: as)) (hn : as.length = n) (hst : st.length ≤ 4) (hroom : fr + 1 ≤ Z.fr ∧ 8 + (maxL + 11) + lo ≤ Z.lo) (hdg : decode cc pc = .ok (.invokevirtual idx, 3)) : Call Z nL h 3 pc (as.reverse ++ vR rc :: st) st (tagIs t rc F) := by
  intro h' r lv hF kk
  obtain ⟨i, ei, rfl, hei, hti, hF⟩ := tagIs_spec hF
  refine r_call C hM hm hroom (fun H hR Pre Post hB T locs cells slots ls hT hsz X hpre => ?_) hF kk
  obtain ⟨hx, hb, hml, hret, hlk, hown, hts, hG, hnm⟩ := C
  obtain ⟨q, owner, hc, hl, hsm, hdc, hse, hin, hno, hnp⟩ := hL
  obtain ⟨cell, kB, q1, q2, q3, q4⟩ := recv_ok hG hR hc hei hti
  have e : (as.reverse ++ vR (some i) :: st).map (tv Z.X) = (as.map (tv Z.X)).reverse ++ .ref (ad Z.X i) :: st.map (tv Z.X) := by rw [List.map_append, List.map_reverse]; rfl
  have hd := va_Decl.abs (hG.2.2.2.2.2.2.1 _ hdc rfl)
  have hsm' : (Cond.sameMethod x.cls owner x.name x.desc).before Z.args Z.s = true := hts _ hsm
  exact va_callVU X hx (C := q.1) (bytes := bytes) (maxL := maxL) (ret := rt) hown (hts _ hl) hsm' hd hno (hts _ hse) (hts _ hin) (hts _ hm.1) hB (by rw [hT]; exact q1) q2 q3 rfl (hsz.trans hml.symm) (argsL := as.map (tv Z.X)) (rest := st.map (tv Z.X)) (nPar_len hnp (by simp [hn])) e (rest_ok Z.X hst) (by rw [hb]; exact hdg) hpre
/-- invokeinterface -/
def LkF (own : String) (idx t : Nat) (x y : MethodName) (n : Nat) : Prop := ∃ q, myCl[t]? = some q ∧ Cond.methodLink own idx x ∈ lw_all ∧ Cond.selects q.1 x y ∈ lw_all ∧ Cond.instanceMethod y ∈ lw_all ∧ Cond.declares x ∈ lw_tbl ∧ Cond.interfaceMethod x.cls x.cls x.name x.desc ∈ lw_tbl ∧ Cond.publicMethod y ∈ lw_tbl ∧ Cond.unhidden q.1 x.name x.desc ∈ lw_tbl ∧ Cond.castable q.1 x.cls ∈ lw_tbl ∧ noMH x ∧ nPar x n
theorem callF_ok (C : Cx Z cc own nL ret nm) {idx t cnt : Nat} {x y : MethodName} {bytes : ByteArray} {maxL : Nat} {rt : Option FieldType} {fr lo n : Nat} {rc : Rf} {as : List TV} (hL : LkF own idx t x y n) (hm : ML y bytes maxL rt) (hM : Ctr Z.X Z.l y bytes maxL rt fr lo F (vR rc :: as)) (hn : as.length = n) (hst : st.length ≤ 4) (hroom : fr + 1 ≤ Z.fr ∧ 8 + (maxL + 11) + lo ≤ Z.lo) (hdg : decode cc pc = .ok (.invokeinterface idx cnt, 5)) : Call Z nL h 5 pc (as.reverse ++ vR rc :: st) st (tagIs t rc F) := by
  intro h' r lv hF kk
  obtain ⟨i, ei, rfl, hei, hti, hF⟩ := tagIs_spec hF
  refine r_call C hM hm hroom (fun H hR Pre Post hB T locs cells slots ls hT hsz X hpre => ?_) hF kk
  obtain ⟨hx, hb, hml, hret, hlk, hown, hts, hG, hnm⟩ := C
  obtain ⟨q, hc, hl, hse, hin, a1, a2, a3, a4, a5, hno, hnp⟩ := hL
  obtain ⟨cell, kB, q1, q2, q3, q4⟩ := recv_ok hG hR hc hei hti
  have e : (as.reverse ++ vR (some i) :: st).map (tv Z.X) = (as.map (tv Z.X)).reverse ++ .ref (ad Z.X i) :: st.map (tv Z.X) := by rw [List.map_append, List.map_reverse]; rfl
  obtain ⟨f1, f2, f3, f4, f5⟩ := hG.2.2.2.2.2.2.2.2.2.2.2.1 q.1 x y a1 a2 a3 a4 a5 hno
  exact va_callIF X hx (C := q.1) (bytes := bytes) (maxL := maxL) (ret := rt) hown (hts _ hl) (va_any rfl f1) (va_any rfl f2) (hts _ hse) (hts _ hin) (va_any rfl f3) (va_any rfl f4) (va_any rfl f5) (hts _ hm.1) hno hB (by rw [hT]; exact q1) q2 q3 q4 rfl (hsz.trans hml.symm) (argsL := as.map (tv Z.X)) (rest := st.map (tv Z.X)) (nPar_len hnp (by simp [hn])) e (rest_ok Z.X hst) (by rw [hb]; exact hdg) hpre
/-- invokespecial of a superclass's method -/
def LkSU (own : String) (idx t : Nat) (y : MethodName) (n : Nat) : Prop := ∃ q, myCl[t]? = some q ∧ Cond.methodLink own idx y ∈ lw_all ∧ Cond.sameMethod y.cls y.cls y.name y.desc ∈ lw_all ∧ Cond.superclass own y.cls ∈ lw_all ∧ Cond.instanceMethod y ∈ lw_all ∧ y.name ≠ "<init>" ∧ noMH y ∧ nPar y n
theorem callSU_ok (C : Cx Z cc own nL ret nm) {idx t : Nat} {y : MethodName} {bytes : ByteArray} {maxL : Nat} {rt : Option FieldType} {fr lo n : Nat} {rc : Rf} {as : List TV} (hL : LkSU own idx t y n) (hm : ML y bytes maxL rt) (hM : Ctr Z.X Z.l y bytes maxL rt fr lo F (vR rc :: as)) (hn : as.length = n) (hst : st.length ≤ 4) (hroom : fr + 1 ≤ Z.fr ∧ 8 + (maxL + 11) + lo ≤ Z.lo) (hdg : decode cc pc = .ok (.invokespecial idx, 3)) : Call Z nL h 3 pc (as.reverse ++ vR rc :: st) st (tagIs t rc F) := by
  intro h' r lv hF kk
  obtain ⟨i, ei, rfl, hei, hti, hF⟩ := tagIs_spec hF
  refine r_call C hM hm hroom (fun H hR Pre Post hB T locs cells slots ls hT hsz X hpre => ?_) hF kk
  obtain ⟨hx, hb, hml, hret, hlk, hown, hts, hG, hnm⟩ := C
  obtain ⟨q, hc, hl, a1, a2, a3, a4, hno, hnp⟩ := hL
  obtain ⟨cell, kB, q1, q2, q3, q4⟩ := recv_ok hG hR hc hei hti
  have e : (as.reverse ++ vR (some i) :: st).map (tv Z.X) = (as.map (tv Z.X)).reverse ++ .ref (ad Z.X i) :: st.map (tv Z.X) := by rw [List.map_append, List.map_reverse]; rfl
  exact va_callSU X hx (bytes := bytes) (maxL := maxL) (ret := rt) hown (hts _ hl) (hts _ a1) (hts _ a2) (hts _ a3) (hts _ hm.1) a4 hB (by rw [hT]; exact q1) q2 q4 rfl (hsz.trans hml.symm) (argsL := as.map (tv Z.X)) (rest := st.map (tv Z.X)) (nPar_len hnp (by simp [hn])) e (rest_ok Z.X hst) (by rw [hb]; exact hdg) hpre
end C3
