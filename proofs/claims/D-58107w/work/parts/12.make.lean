/-! OBJECTS, ARRAYS, STATICS, REFERENCES, RETURNS -/
set_option maxRecDepth 100000
def o_new (t : Nat) (fs : List Value) (K : Rf → AH → Res) (h : AH) : Res := if h.length < CAP ∧ sl h + fs.length ≤ CAPS then K (some (1024 + h.length)) (h ++ [(t, fs)]) else none
def o_nwa (tag : Nat) (d : Value) (n : Int32) (K : Rf → AH → Res) (h : AH) : Res := if n < 0 then none else o_new tag (List.replicate n.toNatClampNeg d) K h
/-- what a 'new' asks of the tables -/
def NL (own : String) (idx t : Nat) (fs : List Value) : Prop := ∃ (C : String) (T : u_T) (N : Nat) (ty : Nat → FieldType), myCl[t]? = some (C, T, N) ∧ Cond.classLink own idx C ∈ lw_all ∧ Cond.instantiable C N ∈ lw_all ∧ Cond.initialized C ∈ lw_all ∧ (∀ w ∈ u_ws C T N, w ∈ lw_all) ∧
  (∀ k, k < N → parseFieldDescriptor (T k).2.2.1 = some (ty k)) ∧ fs.length = N ∧ ∀ k, k < N → fs.getD k .null = defaultValue (ty k)
theorem cv_default (X : XT) (ty : FieldType) : cv X (defaultValue ty) = defaultValue ty := by cases ty <;> rfl
theorem bytes_le (ty : FieldType) : componentBytes ty ≤ 8 := by cases ty <;> simp [componentBytes]
section MK
variable {Z : ZT} {cc : ByteArray} {own : String} {nm : MethodName} {nL : Nat} {ret : Option FieldType} {h : AH} {pc : Nat} {lv : List (Nat × TV)} {st : List TV}
theorem V.grow {e : AE} {pc2 : Nat} {st2 : List TV} {lv2 : List (Nat × TV)} (a : Z.h0.length ≤ h.length) (b : sl Z.h0 ≤ sl h) (k : V Z nL (h ++ [e]) pc2 lv2 st2) {ls : Array Slot} {H : Heap} {locs : List Loc} (hl : lv_has ls nL (lvm Z.X lv2)) (hR : Rp Z.X (h ++ [e]) H) (hf : ∀ q ∈ locs, Z.X.base ≤ q.base) :
    W Z.p Z.l Z.e (ZR Z.fr Z.lo Z.h0) Z.s Z.m Z.args Z.below Z.meth Z.c H locs (h.length - Z.h0.length + 1) (sl h - sl Z.h0 + e.2.length) Z.Q (F0 Z.m pc2 ls (st2.map (tv Z.X))) := by
  have k := k (by simp; omega) (by rw [sl_append]; omega) ls H locs hl hR hf
  have e1 : (h ++ [e]).length - Z.h0.length = h.length - Z.h0.length + 1 := by simp; omega
  have e2 : sl (h ++ [e]) - sl Z.h0 = sl h - sl Z.h0 + e.2.length := by rw [sl_append]; omega
  rw [e1, e2] at k
  exact k
theorem r_new (C : Cx Z cc own nL ret nm) {idx t : Nat} {fs : List Value} (hN : NL own idx t fs) {K : Rf → AH → Res} (hdg : decode cc pc = .ok (.new idx, 3)) (hrun : o_new t fs K h = Z.res) (kk : ∀ r h1, K r h1 = Z.res → V Z nL h1 (pc + 3) lv (vR r :: st)) : V Z nL h pc lv st := by
  unfold o_new at hrun
  split at hrun
  case isFalse => cases hrun
  rename_i hcap
  intro a b ls H locs hl hR hf
  have kk := kk _ _ hrun
  obtain ⟨hx, hb, hml, hret, hlk, hown, hts, hG, hnm⟩ := C
  obtain ⟨Cn, T, N, ty, hc, q1, q2, q3, hin, hty, hfl, hfs⟩ := hN
  have hKn := hG.2.2.1 t _ hc
  have h64 := myCl_lt hc
  have hHs : H.size = Z.X.base + h.length := hR.2.1
  subst hfl
  refine W.newcK hx hb hown (hts _ q1) (hts _ q2) (hts _ q3) rfl hdg ?_ ?_ hKn.2.1 rfl fun H1 kC hkC e1 z1 o1 => ?_
  · show _ ≤ CAP - _; omega
  · show _ ≤ CAPS - _; omega
  have hadr : ad Z.X (1024 + h.length) = H.size := by rw [ad_new _ (by omega), hHs]; omega
  obtain ⟨cell, f1, f2, f3, f4⟩ := u_born ty hts hin hKn hkC e1 hty
  have hR1 : Rp Z.X (h ++ [(t, fs)]) H1 := by
    refine hR.push z1 o1 ⟨cell, f1, (by rw [f3]; rfl), (by rw [f3]; exact (fun z => by cases z)), fun _ => f3, ?_, ?_⟩ hcap.1 hcap.2
    · rw [f2]; unfold clOf; rw [if_pos h64]
    · rw [if_pos h64]
      intro k hk
      have hN : clN t = fs.length := by unfold clN; rw [hc]
      have hk : k < clN t := hk
      rw [hN] at hk
      rw [f4 k hk]
      show some (defaultValue (ty k)) = some (cv Z.X (fs.getD k .null))
      rw [hfs k hk, cv_default]
  have := V.grow a b kk hl hR1 hf
  rw [List.map_cons, show tv Z.X (vR (some (1024 + h.length))) = .ref H.size from congrArg Value.ref hadr] at this
  exact this
/-- a new array of a kind whose class the tables hold -/
theorem arr_born {X : XT} {h : AH} {H H1 : Heap} {kt N : Nat} {d : Value} {cA : ClassId} (hR : Rp X h H) (hkt : kt < 9) (hcA : cA = X.dA kt) (hd : cv X d = d) (h1 : H1 = H.push { cls := cA, slots := Array.replicate N d, vm := .none }) (hc : h.length < CAP) (hs : sl h + N ≤ CAPS) : Rp X (h ++ [(64 + kt, List.replicate N d)]) H1 := by
  subst h1
  refine hR.push (by simp) (fun q hq => by rw [Array.getElem?_push, if_neg (Nat.ne_of_lt hq)]) ⟨_, (by simp; rfl), rfl, (fun z => by cases z), fun _ => rfl, ?_, ?_⟩ hc (by simpa using hs)
  · show cA = clOf X (64 + kt)
    rw [hcA]; unfold clOf
    rw [if_neg (by omega), if_pos (by omega), Nat.add_sub_cancel_left]
  · rw [if_neg (show ¬ (64 + kt, List.replicate N d).1 < 64 from by show ¬ 64 + kt < 64; omega)]
    simp [hd]
theorem r_nwa (C : Cx Z cc own nL ret nm) (kt : Nat) (hkt : kt < 9) {atype : ArrayType} (hty : myTy[kt]? = some (Op.newarray.typeOf atype)) (hq : Cond.arrayClass (Op.newarray.typeOf atype) ∈ lw_all) {d : Value} (hd : defaultValue (Op.newarray.typeOf atype) = d) {n : Int32} {K : Rf → AH → Res} (hdg : decode cc pc = .ok (.newarray atype, 2)) (hrun : o_nwa (64 + kt) d n K h = Z.res) (kk : ∀ r h1, K r h1 = Z.res → V Z nL h1 (pc + 2) lv (vR r :: st)) : V Z nL h pc lv (vI n :: st) := by
  unfold o_nwa o_new at hrun
  split at hrun
  · cases hrun
  rename_i hn
  split at hrun
  case isFalse => cases hrun
  rename_i hcap
  rw [List.length_replicate] at hcap
  intro a b ls H locs hl hR hf
  have kk := kk _ _ hrun
  subst hd
  obtain ⟨hx, hb, hml, hret, hlk, hown, hts, hG, hnm⟩ := C
  have hHs : H.size = Z.X.base + h.length := hR.2.1
  have hadr : ad Z.X (1024 + h.length) = H.size := by rw [ad_new _ (by omega), hHs]; omega
  have hbytes : n.toNatClampNeg * componentBytes (Op.newarray.typeOf atype) ≤ 536870912 := by
    have h8 := bytes_le (Op.newarray.typeOf atype)
    have hs : n.toNatClampNeg ≤ 5501098 := by have := hcap.2; unfold CAPS at this; omega
    exact Nat.le_trans (Nat.mul_le_mul hs h8) (Nat.le_of_ble_eq_true rfl)
  refine W.newa hx hb (hts _ hq) rfl hdg rfl hn hbytes ?_ ?_ fun cA kA comp g1 g2 g3 => ?_
  · show _ ≤ CAP - _; omega
  · show _ ≤ CAPS - _; omega
  obtain ⟨kA', comp', m1, m2, m3, m4⟩ := hG.2.2.2.1 kt _ hty
  have hcA : cA = Z.X.dA kt := Option.some.inj (g1.symm.trans (m3 hkt))
  have hR1 := arr_born (N := n.toNatClampNeg) (d := defaultValue (Op.newarray.typeOf atype)) (H1 := H.push { cls := cA, slots := Array.replicate n.toNatClampNeg (defaultValue (Op.newarray.typeOf atype)), vm := .none }) hR hkt hcA (cv_default Z.X _) rfl hcap.1 hcap.2
  have := V.grow a b kk hl hR1 hf
  rw [List.map_cons, show tv Z.X (vR (some (1024 + h.length))) = .ref H.size from congrArg Value.ref hadr, List.length_replicate] at this
  exact this
theorem r_nwr (C : Cx Z cc own nL ret nm) (kt : Nat) (hkt : kt < 9) {Cn : String} {idx : Nat} (hty : myTy[kt]? = some (.object Cn)) (hq : Cond.classLink own idx Cn ∈ lw_all) (hq2 : Cond.arrayOver (.object Cn) ∈ lw_tbl) {n : Int32} {K : Rf → AH → Res} (hdg : decode cc pc = .ok (.anewarray idx, 3)) (hrun : o_nwa (64 + kt) .null n K h = Z.res) (kk : ∀ r h1, K r h1 = Z.res → V Z nL h1 (pc + 3) lv (vR r :: st)) : V Z nL h pc lv (vI n :: st) := by
  unfold o_nwa o_new at hrun
  split at hrun
  · cases hrun
  rename_i hn
  split at hrun
  case isFalse => cases hrun
  rename_i hcap
  rw [List.length_replicate] at hcap
  intro a b ls H locs hl hR hf
  have kk := kk _ _ hrun
  obtain ⟨hx, hb, hml, hret, hlk, hown, hts, hG, hnm⟩ := C
  have hHs : H.size = Z.X.base + h.length := hR.2.1
  have hadr : ad Z.X (1024 + h.length) = H.size := by rw [ad_new _ (by omega), hHs]; omega
  have hbytes : n.toNatClampNeg * 4 ≤ 536870912 := by
    have hs : n.toNatClampNeg ≤ 5501098 := by have := hcap.2; unfold CAPS at this; omega
    exact Nat.le_trans (Nat.mul_le_mul hs (Nat.le_refl 4)) (Nat.le_of_ble_eq_true rfl)
  refine W.anew hx hb hown (hts _ hq) (va_AO.use (hG.2.2.2.2.2.2.2.2.2.2.1 _ hq2)) rfl hdg rfl hn hbytes ?_ ?_ fun cA kA comp g1 g2 g3 g4 => ?_
  · show _ ≤ CAP - _; omega
  · show _ ≤ CAPS - _; omega
  obtain ⟨kA', comp', m1, m2, m3, m4⟩ := hG.2.2.2.1 kt _ hty
  have hcA : cA = Z.X.dA kt := Option.some.inj (g1.symm.trans (m3 hkt))
  have hR1 := arr_born (N := n.toNatClampNeg) (d := .null) (H1 := H.push { cls := cA, slots := Array.replicate n.toNatClampNeg .null, vm := .none }) hR hkt hcA rfl rfl hcap.1 hcap.2
  have := V.grow a b kk hl hR1 hf
  rw [List.map_cons, show tv Z.X (vR (some (1024 + h.length))) = .ref H.size from congrArg Value.ref hadr, List.length_replicate] at this
  exact this
/-- a static field, by its place in myStat -/
theorem r_gets (C : Cx Z cc own nL ret nm) (k : Nat) {Cn n d ref : String} {v : Value} {idx : Nat} (hk : myStat[k]? = some (Cn, n, d, v)) (hq : Cond.fieldLink own idx ref n d ∈ lw_all) (hsm : ref = Cn ∨ Cond.sameField ref Cn n d ∈ lw_all) {w : TV} (hw : ∀ X, tv X w = cv X v) (hdg : decode cc pc = .ok (.getstatic idx, 3)) (kk : V Z nL h (pc + 3) lv (w :: st)) : V Z nL h pc lv st := by
  intro a b ls H locs hl hR hf
  have kk := kk a b ls H locs hl hR hf
  obtain ⟨hx, hb, hml, hret, hlk, hown, hts, hG, hnm⟩ := C
  obtain ⟨cf, kf, fi, f, q, cell, h1, h2, h3, h4, h5, h6, h7, h8⟩ := hG.2.2.2.2.2.1 k _ hk
  have hsame : Z.s.fieldFound? ref n d = some (cf, kf, fi, f) := by
    rcases hsm with e1 | e1
    · rw [e1]; exact h1
    · exact u_same (hts _ e1) _ h1
  refine W.gets (v := tv Z.X w) hx hb hown (hts _ hq) hsame h2 h3 h4 (by rw [hR.1 q (Nat.lt_of_not_le h8)]; exact h5) (fun z => by rw [z] at h6; cases h6) (by rw [hw]; exact h7) rfl hdg kk
/-! references -/
theorem r_ifnull (C : Cx Z cc own nL ret nm) {x : Rf} {off : Int} (tgt : Nat) {A B : Res} (hdg : decode cc pc = .ok (.ifnull off, 3)) (ht : (pc : Int) + off = (tgt : Int)) (hrun : (if x = none then A else B) = Z.res) (kt : x = none → A = Z.res → V Z nL h tgt lv st) (kf : ¬ x = none → B = Z.res → V Z nL h (pc + 3) lv st) : V Z nL h pc lv (vR x :: st) := by
  intro a b ls H locs hl hR hf
  cases x with
  | none => exact lv_ifnullN C.1 C.2.1 hdg ht (kt rfl hrun a b ls H locs hl hR hf)
  | some i => exact lv_ifnull C.1 C.2.1 hdg (kf (fun z => by cases z) hrun a b ls H locs hl hR hf)
theorem r_ifnonnull (C : Cx Z cc own nL ret nm) {x : Rf} {off : Int} (tgt : Nat) {A B : Res} (hdg : decode cc pc = .ok (.ifnonnull off, 3)) (ht : (pc : Int) + off = (tgt : Int)) (hrun : (if x = none then A else B) = Z.res) (kt : ¬ x = none → B = Z.res → V Z nL h tgt lv st) (kf : x = none → A = Z.res → V Z nL h (pc + 3) lv st) : V Z nL h pc lv (vR x :: st) := by
  intro a b ls H locs hl hR hf
  cases x with
  | none => exact lv_ifnonnullN C.1 C.2.1 hdg (kf rfl hrun a b ls H locs hl hR hf)
  | some i => exact lv_ifnonnull C.1 C.2.1 hdg ht (kt (fun z => by cases z) hrun a b ls H locs hl hR hf)
/-- two references that differ are known to differ in the machine: not both are old -/
def okNe (x y : Rf) : Bool := match x, y with
  | some i, some j => (decide (1024 ≤ i) || decide (1024 ≤ j)) && (decide (i ≠ 4 ∧ i ≠ 10) && decide (j ≠ 4 ∧ j ≠ 10))
  | _, _ => true
def o_acmp (x y : Rf) (A B : Res) : Res := if x = y then A else if okNe x y = true then B else none
theorem ne_of_okNe {X : XT} {U : State} (hG : GX X U) {x y : Rf} (hne : ¬ x = y) (hk : okNe x y = true) : ¬ x.map (ad X) = y.map (ad X) := by
  cases x with
  | none =>
    cases y with
    | none => exact absurd rfl hne
    | some j => exact fun z => by cases z
  | some i =>
    cases y with
    | none => exact fun z => by cases z
    | some j =>
      simp only [Option.map_some, Option.some.injEq] at hne ⊢
      simp only [okNe, Bool.and_eq_true, Bool.or_eq_true, decide_eq_true_eq] at hk
      obtain ⟨hk, hk4, hk5⟩ := hk
      intro z
      by_cases hi : 1024 ≤ i
      · by_cases hj : 1024 ≤ j
        · rw [ad_new _ hi, ad_new _ hj] at z
          omega
        · have := hG.ad_lt (Nat.lt_of_not_le hj) hk5.1 hk5.2
          rw [← z, ad_new _ hi] at this
          omega
      · have h1 := hG.ad_lt (Nat.lt_of_not_le hi) hk4.1 hk4.2
        have hj : 1024 ≤ j := by omega
        rw [z, ad_new _ hj] at h1
        omega
theorem tv_map (X : XT) (x : Rf) : tv X (vR x) = va_rf (x.map (ad X)) := by cases x <;> rfl
theorem r_acmp_eq (C : Cx Z cc own nL ret nm) {x y : Rf} {off : Int} (tgt : Nat) {A B : Res} (hdg : decode cc pc = .ok (.if_acmp .eq off, 3)) (ht : (pc : Int) + off = (tgt : Int)) (hrun : o_acmp x y A B = Z.res) (kt : x = y → A = Z.res → V Z nL h tgt lv st) (kf : ¬ x = y → B = Z.res → V Z nL h (pc + 3) lv st) : V Z nL h pc lv (vR y :: vR x :: st) := by
  intro a b ls H locs hl hR hf
  unfold o_acmp at hrun
  rw [List.map_cons, List.map_cons, tv_map, tv_map]
  split at hrun
  · rename_i hxy
    exact lv_acmp_eq C.1 C.2.1 hdg ht (fun _ => kt hxy hrun a b ls H locs hl hR hf) (fun z => absurd (by rw [hxy]) z)
  · rename_i hxy
    split at hrun
    · exact lv_acmp_eq C.1 C.2.1 hdg ht (fun z => absurd z (ne_of_okNe C.2.2.2.2.2.2.2.1 hxy (by assumption))) (fun z => kf hxy hrun a b ls H locs hl hR hf)
    · cases hrun
theorem r_acmp_ne (C : Cx Z cc own nL ret nm) {x y : Rf} {off : Int} (tgt : Nat) {A B : Res} (hdg : decode cc pc = .ok (.if_acmp .ne off, 3)) (ht : (pc : Int) + off = (tgt : Int)) (hrun : o_acmp x y A B = Z.res) (kt : ¬ x = y → B = Z.res → V Z nL h tgt lv st) (kf : x = y → A = Z.res → V Z nL h (pc + 3) lv st) : V Z nL h pc lv (vR y :: vR x :: st) := by
  intro a b ls H locs hl hR hf
  unfold o_acmp at hrun
  rw [List.map_cons, List.map_cons, tv_map, tv_map]
  split at hrun
  · rename_i hxy
    exact lv_acmp_ne C.1 C.2.1 hdg ht (fun z => absurd (by rw [hxy]) z) (fun _ => kf hxy hrun a b ls H locs hl hR hf)
  · rename_i hxy
    split at hrun
    · exact lv_acmp_ne C.1 C.2.1 hdg ht (fun z => kt hxy hrun a b ls H locs hl hR hf) (fun z => absurd z (ne_of_okNe C.2.2.2.2.2.2.2.1 hxy (by assumption)))
    · cases hrun
/-! casts -/
def o_cc (t : Nat) (x : Rf) (K : AH → Res) (h : AH) : Res := match x with
  | none => K h
  | some i => match hget h i with
    | none => none
    | some e => if e.1 = t then K h else none
def o_io (t : Nat) (b : Int32) (x : Rf) (K : Int32 → AH → Res) (h : AH) : Res := match x with
  | none => K 0 h
  | some i => match hget h i with
    | none => none
    | some e => if e.1 = t then K b h else none
/-- a cast that goes well: from objects with tag t -/
def CCL (own : String) (idx t : Nat) : Prop := ∃ nm, Cond.classLink own idx nm ∈ lw_all ∧ ((∃ r, myCl[t]? = some r ∧ (r.1 = nm ∨ Cond.castable r.1 nm ∈ lw_tbl)) ∨ ∃ k ty, k < 9 ∧ myTy[k]? = some ty ∧ t = 64 + k ∧ "[" ++ ty.toString = nm)
theorem assign_self (U : State) (c : ClassId) : U.vm.assignable c c = true := by
  show Vm.assignableAux _ 256 c c = true
  unfold Vm.assignableAux
  simp
theorem r_cc (C : Cx Z cc own nL ret nm) {idx t : Nat} (hC : CCL own idx t) {x : Rf} {K : AH → Res} (hdg : decode cc pc = .ok (.checkcast idx, 3)) (hrun : o_cc t x K h = Z.res) (kk : K h = Z.res → V Z nL h (pc + 3) lv (vR x :: st)) : V Z nL h pc lv (vR x :: st) := by
  unfold o_cc at hrun
  intro a b ls H locs hl hR hf
  split at hrun
  · exact lv_castN C.1 C.2.1 hdg (kk hrun a b ls H locs hl hR hf)
  rename_i i
  split at hrun
  · cases hrun
  rename_i e he
  split at hrun
  case isFalse => cases hrun
  rename_i ht
  have kk := kk hrun a b ls H locs hl hR hf
  obtain ⟨hx, hb, hml, hret, hlk, hown, hts, hG, hnm⟩ := C
  obtain ⟨nmc, hq, hC⟩ := hC
  obtain ⟨cell, q1, q2, q3, q4, q5, q6⟩ := hG.get hR he
  rcases hC with ⟨r, hc, hC⟩ | ⟨k, ty, hk9, hk, htk, hnmc⟩
  · have h64 := myCl_lt hc
    have hKn := hG.2.2.1 t _ hc
    have hcls : Z.s.vm.findClass r.1 = some cell.cls := by rw [q5, ht]; unfold clOf; rw [if_pos h64]; exact hKn.2.1
    rcases hC with e1 | e1
    · subst e1
      exact va_castS hx hb hown (hts _ hq) hKn.2 ⟨cell, q1, q2, hcls⟩ hdg kk
    · exact va_castY hx hb hown (hts _ hq) (hG.2.2.2.2.2.2.1 _ e1 rfl) ⟨cell, q1, q2, hcls⟩ hdg kk
  · obtain ⟨kA, comp, m1, m2, m3, -⟩ := hG.2.2.2.1 k _ hk
    have hcl : cell.cls = Z.X.dA k := by
      rw [q5, ht, htk]; unfold clOf
      rw [if_neg (by omega), if_pos (by omega), Nat.add_sub_cancel_left]
    intro T hT X
    obtain ⟨vm', X', stp⟩ := X.checkcastYes hx hown (hts _ hq) (by rw [hT]; exact q1) q2 (by rw [← hnmc]; exact m3 hk9) (by rw [hcl]; exact assign_self _ _) (g := F0 Z.m pc ls (.ref (ad Z.X i) :: st.map (tv Z.X))) rfl rfl (by rw [hb]; exact hdg)
    obtain ⟨t2, a1, b1⟩ := kk (T.setVm vm') hT X'
    exact ⟨t2, stp t2 a1, b1⟩
/-- instanceof of objects with tag t: yes (the class itself), or no -/
def IOL (own : String) (idx t : Nat) (b : Int32) : Prop := ∃ nm, Cond.classLink own idx nm ∈ lw_all ∧ ∃ r, myCl[t]? = some r ∧ ((b = 1 ∧ r.1 = nm) ∨ (b = 0 ∧ r.1 = "java/util/HashMap$Node" ∧ nm = "java/util/HashMap$TreeNode"))
theorem r_io (C : Cx Z cc own nL ret nm) {idx t : Nat} {b : Int32} (hC : IOL own idx t b) {x : Rf} {K : Int32 → AH → Res} (hdg : decode cc pc = .ok (.instanceof idx, 3)) (hrun : o_io t b x K h = Z.res) (kk : ∀ v, K v h = Z.res → V Z nL h (pc + 3) lv (vI v :: st)) : V Z nL h pc lv (vR x :: st) := by
  unfold o_io at hrun
  intro a b1 ls H locs hl hR hf
  split at hrun
  · exact lv_instN C.1 C.2.1 hdg (kk _ hrun a b1 ls H locs hl hR hf)
  rename_i i
  split at hrun
  · cases hrun
  rename_i e he
  split at hrun
  case isFalse => cases hrun
  rename_i ht
  have kk := kk _ hrun a b1 ls H locs hl hR hf
  obtain ⟨hx, hb, hml, hret, hlk, hown, hts, hG, hnm⟩ := C
  obtain ⟨nmc, hq, r, hc, hC⟩ := hC
  obtain ⟨cell, q1, q2, q3, q4, q5, q6⟩ := hG.get hR he
  have h64 := myCl_lt hc
  have hKn := hG.2.2.1 t _ hc
  have hcls : Z.s.vm.findClass r.1 = some cell.cls := by rw [q5, ht]; unfold clOf; rw [if_pos h64]; exact hKn.2.1
  rcases hC with ⟨rfl, e1⟩ | ⟨rfl, e1, e2⟩
  · subst e1
    exact va_instS hx hb hown (hts _ hq) hKn.2 ⟨cell, q1, q2, hcls⟩ hdg kk
  · rw [e1] at hcls
    rw [e2] at hq
    exact va_instNo hx hb hown (hts _ hq) hG.2.2.2.2.2.2.2.1 ⟨cell, q1, q2, hcls⟩ hdg kk
/-! stores of references into arrays -/
theorem ok_lt {kt t : Nat} (h : okEl (64 + kt) t = true) : kt < 9 := by
  unfold okEl at h
  simp only [Bool.or_eq_true, Bool.and_eq_true, beq_iff_eq] at h
  omega
theorem asg_ok {X : XT} {U : State} {kt t : Nat} {ty : FieldType} (hG : GX X U) (hty : myTy[kt]? = some ty) (hok : okEl (64 + kt) t = true) {comp : ClassId} (hm : compOk U ty comp) : U.vm.assignable (clOf X t) comp = true ∧ (∃ k, U.vm.classes[clOf X t]? = some k) ∧ (∃ k, U.vm.classes[comp]? = some k) ∧ ty.isReference = true := by
  have obj : ∀ (r : vw_C) (t : Nat), myCl[t]? = some r → U.vm.findClass r.1 = some (clOf X t) ∧ ∃ k, U.vm.classes[clOf X t]? = some k := by
    intro r t hc
    have h64 := myCl_lt hc
    obtain ⟨-, hfc, kC, hkC, -⟩ := hG.2.2.1 t _ hc
    have e : clOf X t = X.D.1 t := by unfold clOf; rw [if_pos h64]
    rw [e]
    exact ⟨hfc, kC, hkC⟩
  have comp_ok : ∀ {n : String}, U.vm.findClass n = some comp → ∃ k, U.vm.classes[comp]? = some k := fun q => by
    obtain ⟨k, hk, -⟩ := Vm.findClass_spec q
    exact ⟨k, hk⟩
  have cast : ∀ (r : vw_C) (t : Nat), myCl[t]? = some r → Cond.castable r.1 "java/lang/Object" ∈ lw_tbl → U.vm.findClass "java/lang/Object" = some comp → U.vm.assignable (clOf X t) comp = true := by
    intro r t hc hw ho
    obtain ⟨c0, t0, f1, f2, f3⟩ := Cond.castable_spec (hG.2.2.2.2.2.2.1 _ hw rfl)
    cases (obj r t hc).1.symm.trans f1
    cases ho.symm.trans f2
    exact f3
  have arr : ∀ (k2 : Nat) (t2 : FieldType), k2 < 9 → myTy[k2]? = some t2 → U.vm.findClass ("[" ++ t2.toString) = some comp → U.vm.assignable (clOf X (64 + k2)) comp = true ∧ ∃ k, U.vm.classes[clOf X (64 + k2)]? = some k := by
    intro k2 t2 h9 hk hf
    obtain ⟨kB, comp2, m1, m2, m3, -⟩ := hG.2.2.2.1 k2 _ hk
    have e : clOf X (64 + k2) = X.dA k2 := by
      unfold clOf
      rw [if_neg (by omega), if_pos (by omega), Nat.add_sub_cancel_left]
    rw [e]
    cases hf.symm.trans (m3 h9)
    exact ⟨assign_self _ _, kB, m1⟩
  unfold okEl at hok
  simp only [Bool.or_eq_true, Bool.and_eq_true, beq_iff_eq] at hok
  rcases hok with ((⟨hk, h2⟩ | ⟨hk, h2⟩) | ⟨hk, h2⟩) | ⟨hk, h2⟩
  · have hk : kt = 5 := by omega
    subst hk
    cases hty
    rcases h2 with (rfl | rfl) | rfl
    · exact ⟨cast _ 2 rfl q2500 hm, (obj _ 2 rfl).2, comp_ok hm, rfl⟩
    · exact ⟨cast _ 3 rfl q2503 hm, (obj _ 3 rfl).2, comp_ok hm, rfl⟩
    · exact ⟨cast _ 5 rfl q2509 hm, (obj _ 5 rfl).2, comp_ok hm, rfl⟩
  · have hk : kt = 6 := by omega
    subst hk
    subst h2
    cases hty
    have h1 := obj _ 10 rfl
    cases h1.1.symm.trans hm
    exact ⟨assign_self _ _, h1.2, comp_ok hm, rfl⟩
  · have hk : kt = 7 := by omega
    subst hk
    subst h2
    cases hty
    have h1 := arr 1 .boolean (by omega) rfl hm
    exact ⟨h1.1, h1.2, comp_ok hm, rfl⟩
  · have hk : kt = 8 := by omega
    subst hk
    subst h2
    cases hty
    have h1 := arr 0 .int (by omega) rfl hm
    exact ⟨h1.1, h1.2, comp_ok hm, rfl⟩
theorem r_aast (C : Cx Z cc own nL ret nm) (kt : Nat) {ty : FieldType} (hty : myTy[kt]? = some ty) {r x : Rf} {i : Int32} {K : AH → Res} (hdg : decode cc pc = .ok (.aastore, 1)) (hrun : o_astR (64 + kt) r i x K h = Z.res) (kk : ∀ h1, K h1 = Z.res → V Z nL h1 (pc + 1) lv st) : V Z nL h pc lv (vR x :: vI i :: vR r :: st) := by
  have hx : ∃ v : Value, tv Z.X (vR x) = cv Z.X v ∧ o_ast (64 + kt) r i v K h = Z.res ∧ ((x = none ∧ v = .null ∧ ∃ Cn, ty = .object Cn) ∨ ∃ j e, x = some j ∧ v = .ref j ∧ hget h j = some e ∧ okEl (64 + kt) e.1 = true) := by
    unfold o_astR at hrun
    split at hrun
    · split at hrun
      · rename_i hk
        refine ⟨.null, rfl, hrun, Or.inl ⟨rfl, rfl, ?_⟩⟩
        rcases hk with hk | hk
        · have : kt = 5 := by omega
          subst this; cases hty; exact ⟨_, rfl⟩
        · have : kt = 6 := by omega
          subst this; cases hty; exact ⟨_, rfl⟩
      · cases hrun
    · rename_i j
      split at hrun
      · cases hrun
      rename_i e he
      split at hrun
      · exact ⟨.ref j, rfl, hrun, Or.inr ⟨j, e, rfl, rfl, he, by assumption⟩⟩
      · cases hrun
  clear hrun
  obtain ⟨v, hv, hrun, hkind⟩ := hx
  unfold o_ast at hrun
  split at hrun
  · cases hrun
  rename_i q
  split at hrun
  · cases hrun
  rename_i e he
  split at hrun
  case isFalse => cases hrun
  rename_i hcond
  obtain ⟨ht, hi1, h0, hlt⟩ := hcond
  intro a b ls H locs hl hR hf
  have hlen : (hset h q (64 + kt, e.2.set i.toNatClampNeg v)).length = h.length := by simp [hset]
  have hgl : h[q - 1024]? = some e := by unfold hget at he; rw [if_pos hi1] at he; exact he
  have hsl0 : sl (hset h q (64 + kt, e.2.set i.toNatClampNeg v)) = sl h := sl_set hgl (by simp)
  have kk := kk _ hrun (by rw [hlen]; exact a) (by rw [hsl0]; exact b) ls
  rw [hlen, hsl0] at kk
  have hG := C.2.2.2.2.2.2.2.1
  have hA := hG.get hR he
  obtain ⟨cell, q1, q2, q3, q4, q5, q6, q7⟩ := arr_of (k := kt) hG hty ht hA
  have hin : ¬ (i < 0 ∨ cell.slots.size ≤ i.toNatClampNeg) := by
    rw [q4]; simp only [List.size_toArray, List.length_map]; rintro (z | z)
    · exact h0 z
    · omega
  have fin1 : ∀ H' : Heap, H'[ad Z.X q]? = some (cell.setSlot i.toNatClampNeg (cv Z.X v)) → H'.size = H.size → (∀ z, z ≠ ad Z.X q → H'[z]? = H[z]?) → W Z.p Z.l Z.e (ZR Z.fr Z.lo Z.h0) Z.s Z.m Z.args Z.below Z.meth Z.c H' (locs ++ [⟨ad Z.X q, i.toNatClampNeg⟩]) (h.length - Z.h0.length) (sl h - sl Z.h0) Z.Q (F0 Z.m (pc + 1) ls (st.map (tv Z.X))) := by
    intro H' e1 e2 e3
    have hk10 : kt < 12 := (List.getElem?_eq_some_iff.mp hty).1
    refine kk H' _ hl ?_ ?_
    · have := ast_go (v := v) hi1 hR he (by omega) q1 q7 q3 q5 (by rw [q6, ht]; unfold clOf; rw [if_neg (by omega), if_pos (by omega), Nat.add_sub_cancel_left]) q4 hlt e1 e2 e3
      rw [ht] at this
      exact this
    · intro z hz
      rcases List.mem_append.mp hz with h1 | h1
      · exact hf z h1
      · rw [List.mem_singleton.mp h1]
        show Z.X.base ≤ ad Z.X q
        rw [ad_new _ hi1]; omega
  rcases hkind with ⟨rfl, rfl, Cn, rfl⟩ | ⟨j, ej, rfl, rfl, hej, hok⟩
  · exact va_WaastN (C := Cn) C.1 C.2.1 q1 q2 q3 hin rfl rfl hdg fin1
  · obtain ⟨kA, comp, m1, m2, m3, m4⟩ := hG.2.2.2.1 kt _ hty
    obtain ⟨g1, ⟨kv, g2⟩, ⟨kc, g3⟩, g4⟩ := asg_ok hG hty hok (m4 (by have := ok_lt hok; omega))
    obtain ⟨cj, p1, p2, p3, p4, p5, p6⟩ := hG.get hR hej
    refine W.aast C.1 C.2.1 q1 (fun z hz => by rw [hz] at q7; cases q7) q3 (by rw [q6]; exact m1) m2 g4 g3 ⟨h0, ?_⟩ p1 (fun z hz => by rw [hz] at p2; cases p2) (by rw [p5]; exact g2) (by rw [p5]; exact g1) rfl rfl hdg fin1
    exact Nat.lt_of_not_le fun z => hin (Or.inr z)
end MK
theorem va_Wgets {p : Program} {l : Launch} {e : Env} {R : Room} {s : State} {m : MethodId} {args : Array Value} {below : List Frame} {meth : Method} {c : Code} {H : Heap} {locs : List Loc} {cells slots : Nat} {Q : State → Prop} {cc : ByteArray} (hexec : p.tables.exec = Jvm.exec) (hb : c.code = cc) {own ref name desc host : String} {index : Nat} (hown : s.vm.findClass own = some m.cls) (hlink : (Cond.fieldLinkNest own index ref name desc host).before args s = true)
    {cf i : Nat} {k : Class} {f : Field} (hi : s.fieldFound? ref name desc = some (cf, k, i, f)) (hst : f.isStatic = true) (hinit : k.init = .initialized)
    {a₁ : Addr} {cell₁ : Cell} {v : Value} (hstatics : k.statics = some a₁) (hcell : H[a₁]? = some cell₁) (hknown : cell₁.vm ≠ .unknown) (hslot : cell₁.slots[f.slot]? = some v)
    {g : JFrame} (hg : g.method = m) (hdg : decode cc g.pc = .ok (.getstatic index, 3)) (kk : W p l e R s m args below meth c H locs cells slots Q { g with pc := g.pc + 3, stack := v :: g.stack }) : W p l e R s m args below meth c H locs cells slots Q g := by
  intro T hT X
  obtain ⟨vm', X', st⟩ := X.getstaticNest hexec hown hlink hi hst hinit hstatics (by rw [hT]; exact hcell) hknown hslot hg (by rw [hb]; exact hdg)
  obtain ⟨t, a1, b1⟩ := kk (T.setVm vm') hT X'
  exact ⟨t, st t a1, b1⟩
section HRn
variable {Z : ZT} {cc : ByteArray} {own : String} {nm : MethodName} {nL : Nat} {ret : Option FieldType} {h : AH} {pc : Nat} {lv : List (Nat × TV)} {st : List TV}
theorem r_getsN (C : Cx Z cc own nL ret nm) (k : Nat) {Cn n d host : String} {v : Value} {idx : Nat} (hk : myStat[k]? = some (Cn, n, d, v)) (hq : Cond.fieldLinkNest own idx Cn n d host ∈ lw_tbl) {w : TV} (hw : ∀ X, tv X w = cv X v) (hdg : decode cc pc = .ok (.getstatic idx, 3)) (kk : V Z nL h (pc + 3) lv (w :: st)) : V Z nL h pc lv st := by
  intro a b ls H locs hl hR hf
  have kk := kk a b ls H locs hl hR hf
  obtain ⟨hx, hb, hml, hret, hlk, hown, hts, hG, hnm⟩ := C
  obtain ⟨cf, kf, fi, f, q, cell, h1, h2, h3, h4, h5, h6, h7, h8⟩ := hG.2.2.2.2.2.1 k _ hk
  exact va_Wgets (v := tv Z.X w) hx hb hown (va_Nw.use rfl (hG.2.2.2.2.2.2.1 _ hq rfl)) h1 h2 h3 h4 (by rw [hR.1 q (Nat.lt_of_not_le h8)]; exact h5) (fun z => by rw [z] at h6; cases h6) (by rw [hw]; exact h7) rfl hdg kk
/-- a static of which only 'a reference or null' is known -/
theorem r_getsF (C : Cx Z cc own nL ret nm) {idx : Nat} (hq : Cond.fieldLink own idx "jdk/internal/util/Preconditions" "SIOOBE_FORMATTER" "Ljava/util/function/BiFunction;" ∈ lw_all) (hdg : decode cc pc = .ok (.getstatic idx, 3)) (kk : ∀ rr, V Z nL h (pc + 3) lv (vR rr :: st)) : V Z nL h pc lv st := by
  intro a b ls H locs hl hR hf
  obtain ⟨hx, hb, hml, hret, hlk, hown, hts, hG, hnm⟩ := C
  have h10 : ad Z.X 10 = Z.X.pre 10 := by unfold ad; rw [if_neg (by omega)]
  rcases hG.2.2.2.2.2.2.2.2.2.2.2.2.2.2 with hz | hz
  · have kk := kk none a b ls H locs hl hR hf
    obtain ⟨cf, kf, fi, f, q, cell, h1, h2, h3, h4, h5, h6, h7, h8⟩ := hz
    exact W.gets (v := .null) hx hb hown (hts _ hq) h1 h2 h3 h4 (by rw [hR.1 q (Nat.lt_of_not_le h8)]; exact h5) (fun z => by rw [z] at h6; cases h6) h7 rfl hdg kk
  · have kk := kk (some 10) a b ls H locs hl hR hf
    obtain ⟨cf, kf, fi, f, q, cell, h1, h2, h3, h4, h5, h6, h7, h8⟩ := hz
    rw [← h10] at h7
    exact W.gets (v := .ref (ad Z.X 10)) hx hb hown (hts _ hq) h1 h2 h3 h4 (by rw [hR.1 q (Nat.lt_of_not_le h8)]; exact h5) (fun z => by rw [z] at h6; cases h6) h7 rfl hdg kk
end HRn
