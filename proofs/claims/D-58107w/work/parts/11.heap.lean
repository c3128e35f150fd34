/-! HEAP ROWS: fields, arrays, objects, statics, casts, returns -/
set_option maxRecDepth 100000
def fld (h : AH) (t : Nat) (r : Rf) (k : Nat) : Option Value := r.bind fun i => (hget h i).bind fun e => if e.1 = t then e.2[k]? else none
def asR (v : Value) : Option Rf := match v with
  | .null => some none
  | .ref i => some (some i)
  | _ => none
def o_gi (t : Nat) (r : Rf) (k : Nat) (K : Int32 → AH → Res) (h : AH) : Res := match fld h t r k with
  | some (.int x) => K x h
  | _ => none
def o_gj (t : Nat) (r : Rf) (k : Nat) (K : Int64 → AH → Res) (h : AH) : Res := match fld h t r k with
  | some (.long x) => K x h
  | _ => none
def o_gf (t : Nat) (r : Rf) (k : Nat) (K : UInt32 → AH → Res) (h : AH) : Res := match fld h t r k with
  | some (.float x) => K x h
  | _ => none
def o_gr (t : Nat) (r : Rf) (k : Nat) (K : Rf → AH → Res) (h : AH) : Res := match fld h t r k with
  | some (.null) => K none h
  | some (.ref i) => K (some i) h
  | _ => none
/-- a field's link: own class's entry idx names the field k of the class with tag t -/
def FL (own : String) (idx t k : Nat) : Prop := ∃ (C : String) (T : u_T) (N : Nat) (ref : String), myCl[t]? = some (C, T, N) ∧ k < N ∧ (∀ w ∈ u_ws C T N, w ∈ lw_all) ∧
  (Cond.fieldLink own idx ref (T k).2.1 (T k).2.2.1 ∈ lw_all ∨ ∃ host, Cond.fieldLinkNest own idx ref (T k).2.1 (T k).2.2.1 host ∈ lw_tbl) ∧
  (ref = (T k).1 ∨ Cond.sameField ref (T k).1 (T k).2.1 (T k).2.2.1 ∈ lw_all)
theorem fld_spec {h : AH} {t : Nat} {r : Rf} {k : Nat} {v : Value} (hf : fld h t r k = some v) : ∃ i e, r = some i ∧ hget h i = some e ∧ e.1 = t ∧ e.2[k]? = some v := by
  unfold fld at hf
  cases r with
  | none => cases hf
  | some i =>
    simp only [Option.bind_some] at hf
    cases hg : hget h i with
    | none => rw [hg] at hf; cases hf
    | some e =>
      rw [hg] at hf
      simp only [Option.bind_some] at hf
      split at hf
      · exact ⟨i, e, rfl, hg, by assumption, hf⟩
      · cases hf
section HR
variable {Z : ZT} {cc : ByteArray} {own : String} {nm : MethodName} {nL : Nat} {ret : Option FieldType} {h : AH} {pc : Nat} {lv : List (Nat × TV)} {st : List TV}
theorem myCl_lt {t : Nat} {r : vw_C} (h : myCl[t]? = some r) : t < 64 := by
  have h1 := (List.getElem?_eq_some_iff.mp h).1
  have h2 : myCl.length = 18 := rfl
  omega
theorem r_getf (C : Cx Z cc own nL ret nm) {idx t k : Nat} (hF : FL own idx t k) {i : Nat} {e : AE} {v : Value} (he : hget h i = some e) (ht : e.1 = t) (hv : e.2[k]? = some v) (hdg : decode cc pc = .ok (.getfield idx, 3))
    {w : TV} (hw : tv Z.X w = cv Z.X v) (kk : V Z nL h (pc + 3) lv (w :: st)) : V Z nL h pc lv (vR (some i) :: st) := by
  intro a b ls H locs hl hR hf
  have kk := kk a b ls H locs hl hR hf
  obtain ⟨hx, hb, hml, hret, hlk, hown, hts, hG, hnm⟩ := C
  obtain ⟨Cn, T, N, ref, hc, hk, hin, hlink, hsm⟩ := hF
  obtain ⟨cell, q1, q2, q3, q4, q5, q6⟩ := hG.get hR he
  have hKn := hG.2.2.1 t _ hc
  obtain ⟨hS, hfc, kC, hkC, hkind⟩ := hKn
  obtain ⟨cf, kf, fi, f, hi, hsl⟩ := hS k hk
  have h64 := myCl_lt hc
  rw [ht, if_pos h64] at q6
  have hslot : cell.slots[f.slot]? = some (tv Z.X w) := by
    rw [hsl, q6 k (by unfold clN; rw [hc]; exact hk), hw]
    simp [hv]
  have hsame : Z.s.fieldFound? ref (T k).2.1 (T k).2.2.1 = some (cf, kf, fi, f) := by
    rcases hsm with e1 | e1
    · rw [e1]; exact hi
    · exact u_same (hts _ e1) _ hi
  have hst := (u_facts hfc hkC (u_lays hts hin hk) hi).1
  rcases hlink with hl1 | ⟨host, hl1⟩
  · exact W.getf hx hb hown (hts _ hl1) hsame hst q1 q3 hslot rfl rfl hdg kk
  · exact va_Wgetf hx hb hown (va_Nw.use rfl (hG.2.2.2.2.2.2.1 _ hl1 rfl)) hsame hst q1 q3 hslot rfl rfl hdg kk
theorem r_gi (C : Cx Z cc own nL ret nm) {idx t k : Nat} (hF : FL own idx t k) {r : Rf} {K : Int32 → AH → Res} (hdg : decode cc pc = .ok (.getfield idx, 3)) (hrun : o_gi t r k K h = Z.res) (kk : ∀ x, K x h = Z.res → V Z nL h (pc + 3) lv (vI x :: st)) : V Z nL h pc lv (vR r :: st) := by
  unfold o_gi at hrun
  split at hrun
  · rename_i x hfx
    obtain ⟨i, e, rfl, he, ht, hv⟩ := fld_spec hfx
    exact r_getf C hF he ht hv hdg rfl (kk x hrun)
  · cases hrun
theorem r_gj (C : Cx Z cc own nL ret nm) {idx t k : Nat} (hF : FL own idx t k) {r : Rf} {K : Int64 → AH → Res} (hdg : decode cc pc = .ok (.getfield idx, 3)) (hrun : o_gj t r k K h = Z.res) (kk : ∀ x, K x h = Z.res → V Z nL h (pc + 3) lv (vJ x :: st)) : V Z nL h pc lv (vR r :: st) := by
  unfold o_gj at hrun
  split at hrun
  · rename_i x hfx
    obtain ⟨i, e, rfl, he, ht, hv⟩ := fld_spec hfx
    exact r_getf C hF he ht hv hdg rfl (kk x hrun)
  · cases hrun
theorem r_gf (C : Cx Z cc own nL ret nm) {idx t k : Nat} (hF : FL own idx t k) {r : Rf} {K : UInt32 → AH → Res} (hdg : decode cc pc = .ok (.getfield idx, 3)) (hrun : o_gf t r k K h = Z.res) (kk : ∀ x, K x h = Z.res → V Z nL h (pc + 3) lv (vF x :: st)) : V Z nL h pc lv (vR r :: st) := by
  unfold o_gf at hrun
  split at hrun
  · rename_i x hfx
    obtain ⟨i, e, rfl, he, ht, hv⟩ := fld_spec hfx
    exact r_getf C hF he ht hv hdg rfl (kk x hrun)
  · cases hrun
theorem r_gr (C : Cx Z cc own nL ret nm) {idx t k : Nat} (hF : FL own idx t k) {r : Rf} {K : Rf → AH → Res} (hdg : decode cc pc = .ok (.getfield idx, 3)) (hrun : o_gr t r k K h = Z.res) (kk : ∀ x, K x h = Z.res → V Z nL h (pc + 3) lv (vR x :: st)) : V Z nL h pc lv (vR r :: st) := by
  unfold o_gr at hrun
  split at hrun
  · rename_i hfx
    obtain ⟨i, e, rfl, he, ht, hv⟩ := fld_spec hfx
    exact r_getf C hF he ht hv hdg rfl (kk none hrun)
  · rename_i j hfx
    obtain ⟨i, e, rfl, he, ht, hv⟩ := fld_spec hfx
    exact r_getf C hF he ht hv hdg rfl (kk (some j) hrun)
  · cases hrun
/-- a store into a field -/
def o_pf (t : Nat) (r : Rf) (k : Nat) (v : Value) (K : AH → Res) (h : AH) : Res := match r with
  | none => none
  | some i => match hget h i with
    | none => none
    | some e => if e.1 = t ∧ 1024 ≤ i ∧ k < e.2.length then K (hset h i (t, e.2.set k v)) else none
/-- a store of a number into a field of a type smaller than int: the number fits -/
def o_pz (ty : FieldType) (t : Nat) (r : Rf) (k : Nat) (x : Int32) (K : AH → Res) (h : AH) : Res := if fits ty (.int x) = true ∧ vp_nar ty x = x then o_pf t r k (.int x) K h else none
/-- a field's link for a store: 'fin': the field is final (a constructor's store) -/
def FP (own : String) (idx t k : Nat) (ty : FieldType) (fin : Bool) : Prop := ∃ (C : String) (T : u_T) (N : Nat) (ref : String) (ty0 : Nat → FieldType), myCl[t]? = some (C, T, N) ∧ k < N ∧ (∀ w ∈ u_ws C T N, w ∈ lw_all) ∧
  (Cond.fieldLink own idx ref (T k).2.1 (T k).2.2.1 ∈ lw_all ∨ ∃ host, Cond.fieldLinkNest own idx ref (T k).2.1 (T k).2.2.1 host ∈ lw_tbl) ∧
  (ref = (T k).1 ∨ Cond.sameField ref (T k).1 (T k).2.1 (T k).2.2.1 ∈ lw_all) ∧
  (∀ k, k < N → parseFieldDescriptor (T k).2.2.1 = some (ty0 k)) ∧ (∀ a, a < N → ∀ b, b < N → a ≠ b → (T a).2.1 ≠ (T b).2.1) ∧ parseFieldDescriptor (T k).2.2.1 = some ty ∧ (T k).2.2.2 = fin ∧ (fin = true → (T k).1 = own)
theorem my_apart {X : XT} {s : State} {args : Array Value} {t N : Nat} {Cn : String} {T : u_T} (hts : ∀ w ∈ lw_all, w.before args s = true) (hin : ∀ w ∈ u_ws Cn T N, w ∈ lw_all) {ty : Nat → FieldType} (hty : ∀ k, k < N → parseFieldDescriptor (T k).2.2.1 = some (ty k)) (hnm : ∀ a, a < N → ∀ b, b < N → a ≠ b → (T a).2.1 ≠ (T b).2.1) (hKn : u_Kn s Cn T N (X.D.1 t) (X.D.2 t)) : ∀ x y, x < N → y < N → x ≠ y → X.D.2 t x ≠ X.D.2 t y := by
  intro x y hx hy hne
  obtain ⟨hS, -⟩ := hKn
  obtain ⟨_, _, _, fa, hia, ea⟩ := hS x hx
  obtain ⟨_, _, _, fb, hib, eb⟩ := hS y hy
  rw [← ea, ← eb]
  refine u_apart (u_lays hts hin hx) (u_lays hts hin hy) hia hib ?_
  rw [(State.fieldFound?_type hia (hty x hx)).1, (State.fieldFound?_type hib (hty y hy)).1]
  exact hnm x hx y hy hne
theorem r_pf (C : Cx Z cc own nL ret nm) {idx t k : Nat} {ty : FieldType} {fin : Bool} (hF : FP own idx t k ty fin) (hini : fin = true → nm.name = "<init>") {r : Rf} {v : Value} {w : TV} {K : AH → Res} (hdg : decode cc pc = .ok (.putfield idx, 3)) (hw : tv Z.X w = cv Z.X v) (hn : narrow ty (cv Z.X v) = cv Z.X v) (hfit : fits ty (cv Z.X v) = true)
    (hrun : o_pf t r k v K h = Z.res) (kk : ∀ h1, K h1 = Z.res → V Z nL h1 (pc + 3) lv st) : V Z nL h pc lv (w :: vR r :: st) := by
  unfold o_pf at hrun
  split at hrun
  · cases hrun
  rename_i i
  split at hrun
  · cases hrun
  rename_i e he
  split at hrun
  case isFalse => cases hrun
  rename_i hcond
  obtain ⟨ht, hi1, hkl⟩ := hcond
  intro a b ls H locs hl hR hf
  have hlen : (hset h i (t, e.2.set k v)).length = h.length := by simp [hset]
  have hgl : h[i - 1024]? = some e := by unfold hget at he; rw [if_pos hi1] at he; exact he
  have hsl0 : sl (hset h i (t, e.2.set k v)) = sl h := sl_set hgl (by simp)
  have kk := kk _ hrun (by rw [hlen]; exact a) (by rw [hsl0]; exact b) ls
  rw [hlen, hsl0] at kk
  obtain ⟨hx, hb, hml, hret, hlk, hown, hts, hG, hnm⟩ := C
  obtain ⟨Cn, T, N, ref, ty0, hc, hk, hin, hlink, hsm, hty, hnms, hd, hfin, hown2⟩ := hF
  obtain ⟨cell, q1, q2, q3, q4, q5, q6⟩ := hG.get hR he
  have hKn := hG.2.2.1 t _ hc
  have hap := my_apart hts hin hty hnms hKn
  obtain ⟨hS, hfc, kC, hkC, hkind⟩ := hKn
  obtain ⟨cf, kf, fi, f, hi, hsl⟩ := hS k hk
  have h64 := myCl_lt hc
  have hbase : Z.X.base ≤ ad Z.X i := by rw [ad_new _ hi1]; omega
  have hvm := q4 hbase
  have hcls : cell.cls = Z.X.D.1 t := by rw [q5, ht]; unfold clOf; rw [if_pos h64]
  rw [ht, if_pos h64] at q6
  have hN : clN t = N := by unfold clN; rw [hc]
  rw [hN] at q6
  have hsame : Z.s.fieldFound? ref (T k).2.1 (T k).2.2.1 = some (cf, kf, fi, f) := by
    rcases hsm with e1 | e1
    · rw [e1]; exact hi
    · exact u_same (hts _ e1) _ hi
  have hst := (u_facts hfc hkC (u_lays hts hin hk) hi).1
  have h6 := u_fits hfc hkC hkind (u_lays hts hin hk) hi hd hn hfit
  have hfl : hasFlag f.accessFlags Acc.final = false ∨ (Z.m.cls = cf ∧ Z.meth.name = "<init>") := by
    have hlay := hts _ (hin _ (u_in_lay hk))
    unfold u_lay at hlay
    cases fin with
    | false =>
      rw [if_neg (by rw [hfin]; decide)] at hlay
      exact Or.inl (u_store hfc hkC hkind hlay hi hd hn hfit).1
    | true =>
      rw [if_pos hfin] at hlay
      have hcf : Z.m.cls = cf := by
        obtain ⟨_, _, c', _, _, _, -, -, hf', -, -, -, hown3, -⟩ := Cond.laysFinal_spec hlay
        have e1 : c' = cf := by have := hi.symm.trans hf'; simp at this; exact this.1.symm
        rw [hown2 rfl] at hown3
        rw [← e1]; exact Option.some.inj (hown.symm.trans hown3)
      exact Or.inr ⟨hcf, hnm.1.trans (hini rfl)⟩
  have hlt : f.slot < cell.slots.size := by rw [hsl]; exact k2_hasslot (q6 k hk)
  have hHa : ad Z.X i < H.size := (Array.getElem?_eq_some_iff.mp q1).1
  have fin1 : W Z.p Z.l Z.e (ZR Z.fr Z.lo Z.h0) Z.s Z.m Z.args Z.below Z.meth Z.c (H.setIfInBounds (ad Z.X i) (cell.setSlot f.slot (cv Z.X v))) (locs ++ [⟨ad Z.X i, f.slot⟩]) (h.length - Z.h0.length) (sl h - sl Z.h0) Z.Q (F0 Z.m (pc + 3) ls (st.map (tv Z.X))) := by
    refine kk _ _ hl (hR.set hi1 he (by simp) (by simp) (fun q hq => by simp [Array.getElem?_setIfInBounds, Ne.symm hq]) ?_) ?_
    · refine ⟨cell.setSlot f.slot (cv Z.X v), by simp [Array.getElem?_setIfInBounds, hHa], q2, q3, q4, ?_, ?_⟩
      · show cell.cls = _
        rw [hcls]; unfold clOf; rw [if_pos h64]
      · rw [if_pos (show (t, e.2.set k v).1 < 64 from h64)]
        intro j hj
        have hj : j < clN t := hj
        rw [hN] at hj
        rw [hsl, t_set q6 hap hk (cv Z.X v) j hj]
        congr 1
        unfold updV
        by_cases hjk : j = k
        · subst hjk
          simp [hkl]
        · rw [if_neg hjk]
          simp [List.getD_eq_getElem?_getD, List.getElem?_set, Ne.symm hjk]
    · intro q hq
      rcases List.mem_append.mp hq with h1 | h1
      · exact hf q h1
      · rw [List.mem_singleton.mp h1]
        exact hbase
  rcases hlink with hl1 | ⟨host, hl1⟩
  · exact W.putf hx hb hown (hts _ hl1) hsame hst hfl q1 q3 hlt h6.1 (by rw [hcls, hvm]; exact h6.2) rfl (by rw [← hw]; rfl) hdg fin1
  · exact va_Wputf hx hb hown (va_Nw.use rfl (hG.2.2.2.2.2.2.1 _ hl1 rfl)) hsame hst hfl q1 q3 hlt h6.1 (by rw [hcls, hvm]; exact h6.2) rfl (by rw [← hw]; rfl) hdg fin1

theorem r_pi (C : Cx Z cc own nL ret nm) {idx t k : Nat} {fin : Bool} (hF : FP own idx t k .int fin) (hini : fin = true → nm.name = "<init>") {r : Rf} {x : Int32} {K : AH → Res} (hdg : decode cc pc = .ok (.putfield idx, 3)) (hrun : o_pf t r k (.int x) K h = Z.res) (kk : ∀ h1, K h1 = Z.res → V Z nL h1 (pc + 3) lv st) : V Z nL h pc lv (vI x :: vR r :: st) :=
  r_pf C hF hini hdg (w := vI x) rfl rfl rfl hrun kk
theorem r_pj (C : Cx Z cc own nL ret nm) {idx t k : Nat} {fin : Bool} (hF : FP own idx t k .long fin) (hini : fin = true → nm.name = "<init>") {r : Rf} {x : Int64} {K : AH → Res} (hdg : decode cc pc = .ok (.putfield idx, 3)) (hrun : o_pf t r k (.long x) K h = Z.res) (kk : ∀ h1, K h1 = Z.res → V Z nL h1 (pc + 3) lv st) : V Z nL h pc lv (vJ x :: vR r :: st) :=
  r_pf C hF hini hdg (w := vJ x) rfl rfl rfl hrun kk
theorem r_pfl (C : Cx Z cc own nL ret nm) {idx t k : Nat} {fin : Bool} (hF : FP own idx t k .float fin) (hini : fin = true → nm.name = "<init>") {r : Rf} {x : UInt32} {K : AH → Res} (hdg : decode cc pc = .ok (.putfield idx, 3)) (hrun : o_pf t r k (.float x) K h = Z.res) (kk : ∀ h1, K h1 = Z.res → V Z nL h1 (pc + 3) lv st) : V Z nL h pc lv (vF x :: vR r :: st) :=
  r_pf C hF hini hdg (w := vF x) rfl rfl rfl hrun kk
theorem tv_rf (X : XT) (x : Rf) : tv X (vR x) = cv X (va_rf x) := by cases x <;> rfl
def isRefTy (ty : FieldType) : Bool := match ty with
  | .object _ => true
  | .array _ => true
  | _ => false
theorem rf_narrow {ty : FieldType} (h : isRefTy ty = true) (X : XT) (x : Rf) : narrow ty (cv X (va_rf x)) = cv X (va_rf x) ∧ fits ty (cv X (va_rf x)) = true := by
  cases ty <;> first | (cases h; done) | (cases x <;> exact ⟨rfl, rfl⟩)
theorem r_pr (C : Cx Z cc own nL ret nm) {idx t k : Nat} {ty : FieldType} {fin : Bool} (hF : FP own idx t k ty fin) (hty : isRefTy ty = true) (hini : fin = true → nm.name = "<init>") {r x : Rf} {K : AH → Res} (hdg : decode cc pc = .ok (.putfield idx, 3)) (hrun : o_pf t r k (va_rf x) K h = Z.res) (kk : ∀ h1, K h1 = Z.res → V Z nL h1 (pc + 3) lv st) : V Z nL h pc lv (vR x :: vR r :: st) :=
  r_pf C hF hini hdg (w := vR x) (tv_rf _ _) (rf_narrow hty Z.X x).1 (rf_narrow hty Z.X x).2 hrun kk
def isSmall (ty : FieldType) : Bool := match ty with
  | .boolean | .byte | .char | .short => true
  | _ => false
theorem vp_nar_small {ty : FieldType} (h : isSmall ty = true) {x : Int32} (hx : vp_nar ty x = x) : narrow ty (.int x) = .int x := by
  cases ty <;> first | (cases h; done) | exact congrArg Value.int hx
theorem r_pz (C : Cx Z cc own nL ret nm) {idx t k : Nat} {ty : FieldType} {fin : Bool} (hF : FP own idx t k ty fin) (hty : isSmall ty = true) (hini : fin = true → nm.name = "<init>") {r : Rf} {x : Int32} {K : AH → Res} (hdg : decode cc pc = .ok (.putfield idx, 3)) (hrun : o_pz ty t r k x K h = Z.res) (kk : ∀ h1, K h1 = Z.res → V Z nL h1 (pc + 3) lv st) : V Z nL h pc lv (vI x :: vR r :: st) := by
  unfold o_pz at hrun
  split at hrun
  · rename_i hx
    exact r_pf C hF hini (v := .int x) hdg (w := vI x) rfl (vp_nar_small hty hx.2) hx.1 hrun kk
  · cases hrun
/-! arrays -/
end HR
def ael (h : AH) (tag : Nat) (r : Rf) (i : Int32) : Option Value := r.bind fun a => (hget h a).bind fun e => if e.1 = tag ∧ ¬ i < 0 then e.2[i.toNatClampNeg]? else none
def o_aldI (tag : Nat) (r : Rf) (i : Int32) (K : Int32 → AH → Res) (h : AH) : Res := match ael h tag r i with
  | some (.int x) => K x h
  | _ => none
def o_aldJ (tag : Nat) (r : Rf) (i : Int32) (K : Int64 → AH → Res) (h : AH) : Res := match ael h tag r i with
  | some (.long x) => K x h
  | _ => none
def o_aldR (tag : Nat) (r : Rf) (i : Int32) (K : Rf → AH → Res) (h : AH) : Res := match ael h tag r i with
  | some (.null) => K none h
  | some (.ref j) => K (some j) h
  | _ => none
def o_ast (tag : Nat) (r : Rf) (i : Int32) (v : Value) (K : AH → Res) (h : AH) : Res := match r with
  | none => none
  | some a => match hget h a with
    | none => none
    | some e => if e.1 = tag ∧ 1024 ≤ a ∧ ¬ i < 0 ∧ i.toNatClampNeg < e.2.length then K (hset h a (tag, e.2.set i.toNatClampNeg v)) else none
/-- which objects may stand in which array of references -/
def okEl (tag t : Nat) : Bool := (tag == 69 && (t == 2 || t == 3 || t == 5)) || (tag == 70 && t == 10) || (tag == 71 && t == 65) || (tag == 72 && t == 64)
def o_astR (tag : Nat) (r : Rf) (i : Int32) (x : Rf) (K : AH → Res) (h : AH) : Res := match x with
  | none => if tag = 69 ∨ tag = 70 then o_ast tag r i .null K h else none
  | some j => match hget h j with
    | none => none
    | some e => if okEl tag e.1 = true then o_ast tag r i (.ref j) K h else none
def o_alen (r : Rf) (K : Int32 → AH → Res) (h : AH) : Res := match r.bind (hget h) with
  | none => none
  | some e => if 64 ≤ e.1 ∧ e.1 < 74 then K (Int32.ofNat e.2.length) h else none
section HA
variable {Z : ZT} {cc : ByteArray} {own : String} {nm : MethodName} {nL : Nat} {ret : Option FieldType} {h : AH} {pc : Nat} {lv : List (Nat × TV)} {st : List TV}
theorem ael_spec {h : AH} {t : Nat} {r : Rf} {i : Int32} {v : Value} (hf : ael h t r i = some v) : ∃ a e, r = some a ∧ hget h a = some e ∧ e.1 = t ∧ ¬ i < 0 ∧ e.2[i.toNatClampNeg]? = some v := by
  unfold ael at hf
  cases r with
  | none => cases hf
  | some a =>
    simp only [Option.bind_some] at hf
    cases hg : hget h a with
    | none => rw [hg] at hf; cases hf
    | some e =>
      rw [hg] at hf
      simp only [Option.bind_some] at hf
      split at hf
      · rename_i hc
        exact ⟨a, e, rfl, hg, hc.1, hc.2, hf⟩
      · cases hf
theorem arr_of {X : XT} {U : State} {q : Nat} {e : AE} {H : Heap} {k : Nat} {ty : FieldType} (hG : GX X U) (hk : myTy[k]? = some ty) (ht : e.1 = 64 + k) (hA : atA X q e H) : ∃ cell : Cell, H[q]? = some cell ∧ U.isArrayOf cell ty ∧ cell.vm ≠ .unknown ∧ cell.slots = (e.2.map (cv X)).toArray ∧ (X.base ≤ q → cell.vm = .none) ∧ cell.cls = X.dA k ∧ cell.vm.isStatics = false := by
  obtain ⟨cell, q1, q2, q3, q4, q5, q6⟩ := hA
  have hk10 : k < 12 := (List.getElem?_eq_some_iff.mp hk).1
  rw [if_neg (by omega)] at q6
  have hcls : cell.cls = X.dA k := by
    rw [q5, ht]
    unfold clOf
    rw [if_neg (by omega), if_pos (by omega), Nat.add_sub_cancel_left]
  obtain ⟨kA, comp, h1, h2, -⟩ := hG.2.2.2.1 k ty hk
  exact ⟨cell, q1, ⟨(fun z hz => by rw [hz] at q2; cases q2), kA, by rw [hcls]; exact h1, comp, h2⟩, q3, q6, q4, hcls, q2⟩
theorem arr_in {X : XT} {vs : List Value} {i : Int32} {v : Value} (h0 : ¬ i < 0) (hv : vs[i.toNatClampNeg]? = some v) : ¬ (i < 0 ∨ (vs.map (cv X)).toArray.size ≤ i.toNatClampNeg) ∧ (vs.map (cv X)).toArray[i.toNatClampNeg]? = some (cv X v) := by
  have h1 := (List.getElem?_eq_some_iff.mp hv).1
  refine ⟨fun q => ?_, by simp [hv]⟩
  rcases q with q | q
  · exact h0 q
  · simp at q
    omega
theorem r_iald (C : Cx Z cc own nL ret nm) {r : Rf} {i : Int32} {K : Int32 → AH → Res} (hdg : decode cc pc = .ok (.iaload, 1)) (hrun : o_aldI 64 r i K h = Z.res) (kk : ∀ x, K x h = Z.res → V Z nL h (pc + 1) lv (vI x :: st)) : V Z nL h pc lv (vI i :: vR r :: st) := by
  unfold o_aldI at hrun
  split at hrun
  · rename_i x hfx
    obtain ⟨q, e, rfl, he, ht, h0, hv⟩ := ael_spec hfx
    intro a b ls H locs hl hR hf
    obtain ⟨cell, q1, q2, q3, q4, -⟩ := arr_of (k := 0) C.2.2.2.2.2.2.2.1 rfl ht (C.2.2.2.2.2.2.2.1.get hR he)
    have h7 := arr_in (X := Z.X) h0 hv
    exact W.iald C.1 C.2.1 q1 q2 q3 (by rw [q4]; exact h7.1) (by rw [q4]; exact h7.2) rfl rfl hdg (kk x hrun a b ls H locs hl hR hf)
  · cases hrun
/-- the same, of an old array that has a class number of its own -/
theorem r_ialdS (C : Cx Z cc own nL ret nm) (kt : Nat) (hk : myTy[kt]? = some .int) {r : Rf} {i : Int32} {K : Int32 → AH → Res} (hdg : decode cc pc = .ok (.iaload, 1)) (hrun : o_aldI (64 + kt) r i K h = Z.res) (kk : ∀ x, K x h = Z.res → V Z nL h (pc + 1) lv (vI x :: st)) : V Z nL h pc lv (vI i :: vR r :: st) := by
  unfold o_aldI at hrun
  split at hrun
  · rename_i x hfx
    obtain ⟨q, e, rfl, he, ht, h0, hv⟩ := ael_spec hfx
    intro a b ls H locs hl hR hf
    obtain ⟨cell, q1, q2, q3, q4, -⟩ := arr_of (k := kt) C.2.2.2.2.2.2.2.1 hk ht (C.2.2.2.2.2.2.2.1.get hR he)
    have h7 := arr_in (X := Z.X) h0 hv
    exact W.iald C.1 C.2.1 q1 q2 q3 (by rw [q4]; exact h7.1) (by rw [q4]; exact h7.2) rfl rfl hdg (kk x hrun a b ls H locs hl hR hf)
  · cases hrun
theorem r_zald (C : Cx Z cc own nL ret nm) {r : Rf} {i : Int32} {K : Int32 → AH → Res} (hdg : decode cc pc = .ok (.baload, 1)) (hrun : o_aldI 65 r i K h = Z.res) (kk : ∀ x, K x h = Z.res → V Z nL h (pc + 1) lv (vI x :: st)) : V Z nL h pc lv (vI i :: vR r :: st) := by
  unfold o_aldI at hrun
  split at hrun
  · rename_i x hfx
    obtain ⟨q, e, rfl, he, ht, h0, hv⟩ := ael_spec hfx
    intro a b ls H locs hl hR hf
    obtain ⟨cell, q1, q2, q3, q4, -⟩ := arr_of (k := 1) C.2.2.2.2.2.2.2.1 rfl ht (C.2.2.2.2.2.2.2.1.get hR he)
    have h7 := arr_in (X := Z.X) h0 hv
    exact W.zald C.1 C.2.1 q1 q2 q3 (by rw [q4]; exact h7.1) (by rw [q4]; exact h7.2) rfl rfl hdg (kk x hrun a b ls H locs hl hR hf)
  · cases hrun
theorem r_bald (C : Cx Z cc own nL ret nm) {r : Rf} {i : Int32} {K : Int32 → AH → Res} (hdg : decode cc pc = .ok (.baload, 1)) (hrun : o_aldI 67 r i K h = Z.res) (kk : ∀ x, K x h = Z.res → V Z nL h (pc + 1) lv (vI x :: st)) : V Z nL h pc lv (vI i :: vR r :: st) := by
  unfold o_aldI at hrun
  split at hrun
  · rename_i x hfx
    obtain ⟨q, e, rfl, he, ht, h0, hv⟩ := ael_spec hfx
    intro a b ls H locs hl hR hf
    obtain ⟨cell, q1, q2, q3, q4, -⟩ := arr_of (k := 3) C.2.2.2.2.2.2.2.1 rfl ht (C.2.2.2.2.2.2.2.1.get hR he)
    have h7 := arr_in (X := Z.X) h0 hv
    exact W.bald C.1 C.2.1 q1 q2 q3 (by rw [q4]; exact h7.1) (by rw [q4]; exact h7.2) rfl rfl hdg (kk x hrun a b ls H locs hl hR hf)
  · cases hrun
theorem r_cald (C : Cx Z cc own nL ret nm) {r : Rf} {i : Int32} {K : Int32 → AH → Res} (hdg : decode cc pc = .ok (.caload, 1)) (hrun : o_aldI 68 r i K h = Z.res) (kk : ∀ x, K x h = Z.res → V Z nL h (pc + 1) lv (vI x :: st)) : V Z nL h pc lv (vI i :: vR r :: st) := by
  unfold o_aldI at hrun
  split at hrun
  · rename_i x hfx
    obtain ⟨q, e, rfl, he, ht, h0, hv⟩ := ael_spec hfx
    intro a b ls H locs hl hR hf
    obtain ⟨cell, q1, q2, q3, q4, -⟩ := arr_of (k := 4) C.2.2.2.2.2.2.2.1 rfl ht (C.2.2.2.2.2.2.2.1.get hR he)
    have h7 := arr_in (X := Z.X) h0 hv
    exact W.cald C.1 C.2.1 q1 q2 q3 (by rw [q4]; exact h7.1) (by rw [q4]; exact h7.2) rfl rfl hdg (kk x hrun a b ls H locs hl hR hf)
  · cases hrun
theorem r_lald (C : Cx Z cc own nL ret nm) {r : Rf} {i : Int32} {K : Int64 → AH → Res} (hdg : decode cc pc = .ok (.laload, 1)) (hrun : o_aldJ 66 r i K h = Z.res) (kk : ∀ x, K x h = Z.res → V Z nL h (pc + 1) lv (vJ x :: st)) : V Z nL h pc lv (vI i :: vR r :: st) := by
  unfold o_aldJ at hrun
  split at hrun
  · rename_i x hfx
    obtain ⟨q, e, rfl, he, ht, h0, hv⟩ := ael_spec hfx
    intro a b ls H locs hl hR hf
    obtain ⟨cell, q1, q2, q3, q4, -⟩ := arr_of (k := 2) C.2.2.2.2.2.2.2.1 rfl ht (C.2.2.2.2.2.2.2.1.get hR he)
    have h7 := arr_in (X := Z.X) h0 hv
    exact W.lald C.1 C.2.1 q1 q2 q3 (by rw [q4]; exact h7.1) (by rw [q4]; exact h7.2) rfl rfl hdg (kk x hrun a b ls H locs hl hR hf)
  · cases hrun
theorem r_aald (C : Cx Z cc own nL ret nm) {r : Rf} {i : Int32} (kt : Nat) {ty : FieldType} (hty : myTy[kt]? = some ty) (href : ty.isReference = true) {K : Rf → AH → Res} (hdg : decode cc pc = .ok (.aaload, 1)) (hrun : o_aldR (64 + kt) r i K h = Z.res) (kk : ∀ x, K x h = Z.res → V Z nL h (pc + 1) lv (vR x :: st)) : V Z nL h pc lv (vI i :: vR r :: st) := by
  unfold o_aldR at hrun
  have go : ∀ (v : Value) (w : Rf), ael h (64 + kt) r i = some v → tv Z.X (vR w) = cv Z.X v → K w h = Z.res → V Z nL h pc lv (vI i :: vR r :: st) := by
    clear hrun
    intro v w hfx hw hrun
    obtain ⟨q, e, rfl, he, ht, h0, hv⟩ := ael_spec hfx
    intro a b ls H locs hl hR hf
    obtain ⟨cell, q1, q2, q3, q4, -⟩ := arr_of (k := kt) C.2.2.2.2.2.2.2.1 hty ht (C.2.2.2.2.2.2.2.1.get hR he)
    have h7 := arr_in (X := Z.X) h0 hv
    exact W.aald C.1 C.2.1 q1 q2 href q3 (by rw [q4]; exact h7.1) (v := tv Z.X (vR w)) (by rw [q4, h7.2, hw]) rfl rfl hdg (kk w hrun a b ls H locs hl hR hf)
  split at hrun
  · rename_i hfx
    exact go _ none hfx rfl hrun
  · rename_i j hfx
    exact go _ (some j) hfx rfl hrun
  · cases hrun
/-- behind a store into an array -/
theorem ast_go {X : XT} {h : AH} {H H' : Heap} {a : Nat} {e : AE} {i : Int32} {v : Value} {cell : Cell} (ha : 1024 ≤ a) (hR : Rp X h H) (he : hget h a = some e) (h64 : 64 ≤ e.1) (q1 : H[ad X a]? = some cell) (q2 : cell.vm.isStatics = false) (q3 : cell.vm ≠ .unknown) (q4 : X.base ≤ ad X a → cell.vm = .none) (q5 : cell.cls = clOf X e.1) (q6 : cell.slots = (e.2.map (cv X)).toArray) (hlt : i.toNatClampNeg < e.2.length)
    (e1 : H'[ad X a]? = some (cell.setSlot i.toNatClampNeg (cv X v))) (e2 : H'.size = H.size) (e3 : ∀ q, q ≠ ad X a → H'[q]? = H[q]?) : Rp X (hset h a (e.1, e.2.set i.toNatClampNeg v)) H' := by
  refine hR.set ha he (by simp) e2 e3 ⟨_, e1, q2, q3, q4, q5, ?_⟩
  rw [if_neg (show ¬ (e.1, e.2.set i.toNatClampNeg v).1 < 64 from by show ¬ e.1 < 64; omega)]
  show (cell.setSlot _ _).slots = _
  simp only [Cell.setSlot, q6, List.map_set]
  simp
theorem r_iast (C : Cx Z cc own nL ret nm) {r : Rf} {i : Int32} {x : Int32} {K : AH → Res} (hdg : decode cc pc = .ok (.iastore, 1)) (hrun : o_ast 64 r i (.int x) K h = Z.res) (kk : ∀ h1, K h1 = Z.res → V Z nL h1 (pc + 1) lv st) : V Z nL h pc lv (vI x :: vI i :: vR r :: st) := by
  unfold o_ast at hrun
  split at hrun
  · cases hrun
  rename_i q
  split at hrun
  · cases hrun
  rename_i e he
  split at hrun
  case isFalse => cases hrun
  rename_i hcond
  obtain ⟨ht, hi1, h0, hlt⟩ := hcond
  intro a b ls H locs hl hR hf
  have hlen : (hset h q (64, e.2.set i.toNatClampNeg (.int x))).length = h.length := by simp [hset]
  have hgl : h[q - 1024]? = some e := by unfold hget at he; rw [if_pos hi1] at he; exact he
  have hsl0 : sl (hset h q (64, e.2.set i.toNatClampNeg (.int x))) = sl h := sl_set hgl (by simp)
  have kk := kk _ hrun (by rw [hlen]; exact a) (by rw [hsl0]; exact b) ls
  rw [hlen, hsl0] at kk
  have hA := C.2.2.2.2.2.2.2.1.get hR he
  obtain ⟨cell, q1, q2, q3, q4, q5, q6, q7⟩ := arr_of (k := 0) C.2.2.2.2.2.2.2.1 rfl ht hA
  have hin : ¬ (i < 0 ∨ cell.slots.size ≤ i.toNatClampNeg) := by
    rw [q4]; simp only [List.size_toArray, List.length_map]; rintro (z | z)
    · exact h0 z
    · omega
  refine W.iast C.1 C.2.1 q1 q2 q3 hin rfl rfl hdg fun H' e1 e2 e3 => ?_
  refine kk H' _ hl ?_ ?_
  · have := ast_go (v := .int x) hi1 hR he (by omega) q1 q7 q3 q5 (by rw [q6, ht]; rfl) q4 hlt e1 e2 e3
    rw [ht] at this
    exact this
  · intro z hz
    rcases List.mem_append.mp hz with h1 | h1
    · exact hf z h1
    · rw [List.mem_singleton.mp h1]
      show Z.X.base ≤ ad Z.X q
      rw [ad_new _ hi1]; omega
theorem r_last (C : Cx Z cc own nL ret nm) {r : Rf} {i : Int32} {x : Int64} {K : AH → Res} (hdg : decode cc pc = .ok (.lastore, 1)) (hrun : o_ast 66 r i (.long x) K h = Z.res) (kk : ∀ h1, K h1 = Z.res → V Z nL h1 (pc + 1) lv st) : V Z nL h pc lv (vJ x :: vI i :: vR r :: st) := by
  unfold o_ast at hrun
  split at hrun
  · cases hrun
  rename_i q
  split at hrun
  · cases hrun
  rename_i e he
  split at hrun
  case isFalse => cases hrun
  rename_i hcond
  obtain ⟨ht, hi1, h0, hlt⟩ := hcond
  intro a b ls H locs hl hR hf
  have hlen : (hset h q (66, e.2.set i.toNatClampNeg (.long x))).length = h.length := by simp [hset]
  have hgl : h[q - 1024]? = some e := by unfold hget at he; rw [if_pos hi1] at he; exact he
  have hsl0 : sl (hset h q (66, e.2.set i.toNatClampNeg (.long x))) = sl h := sl_set hgl (by simp)
  have kk := kk _ hrun (by rw [hlen]; exact a) (by rw [hsl0]; exact b) ls
  rw [hlen, hsl0] at kk
  have hA := C.2.2.2.2.2.2.2.1.get hR he
  obtain ⟨cell, q1, q2, q3, q4, q5, q6, q7⟩ := arr_of (k := 2) C.2.2.2.2.2.2.2.1 rfl ht hA
  have hin : ¬ (i < 0 ∨ cell.slots.size ≤ i.toNatClampNeg) := by
    rw [q4]; simp only [List.size_toArray, List.length_map]; rintro (z | z)
    · exact h0 z
    · omega
  refine W.last C.1 C.2.1 q1 q2 q3 hin rfl rfl hdg fun H' e1 e2 e3 => ?_
  refine kk H' _ hl ?_ ?_
  · have := ast_go (v := .long x) hi1 hR he (by omega) q1 q7 q3 q5 (by rw [q6, ht]; rfl) q4 hlt e1 e2 e3
    rw [ht] at this
    exact this
  · intro z hz
    rcases List.mem_append.mp hz with h1 | h1
    · exact hf z h1
    · rw [List.mem_singleton.mp h1]
      show Z.X.base ≤ ad Z.X q
      rw [ad_new _ hi1]; omega
theorem r_bast (C : Cx Z cc own nL ret nm) {r : Rf} {i : Int32} {x : Int32} {K : AH → Res} (hdg : decode cc pc = .ok (.bastore, 1)) (hrun : o_ast 67 r i (.int (vp_nar .byte x)) K h = Z.res) (kk : ∀ h1, K h1 = Z.res → V Z nL h1 (pc + 1) lv st) : V Z nL h pc lv (vI x :: vI i :: vR r :: st) := by
  unfold o_ast at hrun
  split at hrun
  · cases hrun
  rename_i q
  split at hrun
  · cases hrun
  rename_i e he
  split at hrun
  case isFalse => cases hrun
  rename_i hcond
  obtain ⟨ht, hi1, h0, hlt⟩ := hcond
  intro a b ls H locs hl hR hf
  have hlen : (hset h q (67, e.2.set i.toNatClampNeg (.int (vp_nar .byte x)))).length = h.length := by simp [hset]
  have hgl : h[q - 1024]? = some e := by unfold hget at he; rw [if_pos hi1] at he; exact he
  have hsl0 : sl (hset h q (67, e.2.set i.toNatClampNeg (.int (vp_nar .byte x)))) = sl h := sl_set hgl (by simp)
  have kk := kk _ hrun (by rw [hlen]; exact a) (by rw [hsl0]; exact b) ls
  rw [hlen, hsl0] at kk
  have hA := C.2.2.2.2.2.2.2.1.get hR he
  obtain ⟨cell, q1, q2, q3, q4, q5, q6, q7⟩ := arr_of (k := 3) C.2.2.2.2.2.2.2.1 rfl ht hA
  have hin : ¬ (i < 0 ∨ cell.slots.size ≤ i.toNatClampNeg) := by
    rw [q4]; simp only [List.size_toArray, List.length_map]; rintro (z | z)
    · exact h0 z
    · omega
  refine W.bast C.1 C.2.1 q1 q2 q3 hin rfl rfl hdg fun H' e1 e2 e3 => ?_
  refine kk H' _ hl ?_ ?_
  · have := ast_go (v := .int (vp_nar .byte x)) hi1 hR he (by omega) q1 q7 q3 q5 (by rw [q6, ht]; rfl) q4 hlt e1 e2 e3
    rw [ht] at this
    exact this
  · intro z hz
    rcases List.mem_append.mp hz with h1 | h1
    · exact hf z h1
    · rw [List.mem_singleton.mp h1]
      show Z.X.base ≤ ad Z.X q
      rw [ad_new _ hi1]; omega
theorem r_zast (C : Cx Z cc own nL ret nm) {r : Rf} {i : Int32} {x : Int32} {K : AH → Res} (hdg : decode cc pc = .ok (.bastore, 1)) (hrun : o_ast 65 r i (.int (vp_nar .boolean x)) K h = Z.res) (kk : ∀ h1, K h1 = Z.res → V Z nL h1 (pc + 1) lv st) : V Z nL h pc lv (vI x :: vI i :: vR r :: st) := by
  unfold o_ast at hrun
  split at hrun
  · cases hrun
  rename_i q
  split at hrun
  · cases hrun
  rename_i e he
  split at hrun
  case isFalse => cases hrun
  rename_i hcond
  obtain ⟨ht, hi1, h0, hlt⟩ := hcond
  intro a b ls H locs hl hR hf
  have hlen : (hset h q (65, e.2.set i.toNatClampNeg (.int (vp_nar .boolean x)))).length = h.length := by simp [hset]
  have hgl : h[q - 1024]? = some e := by unfold hget at he; rw [if_pos hi1] at he; exact he
  have hsl0 : sl (hset h q (65, e.2.set i.toNatClampNeg (.int (vp_nar .boolean x)))) = sl h := sl_set hgl (by simp)
  have kk := kk _ hrun (by rw [hlen]; exact a) (by rw [hsl0]; exact b) ls
  rw [hlen, hsl0] at kk
  have hA := C.2.2.2.2.2.2.2.1.get hR he
  obtain ⟨cell, q1, q2, q3, q4, q5, q6, q7⟩ := arr_of (k := 1) C.2.2.2.2.2.2.2.1 rfl ht hA
  have hin : ¬ (i < 0 ∨ cell.slots.size ≤ i.toNatClampNeg) := by
    rw [q4]; simp only [List.size_toArray, List.length_map]; rintro (z | z)
    · exact h0 z
    · omega
  refine W.zast C.1 C.2.1 q1 q2 q3 hin rfl rfl hdg fun H' e1 e2 e3 => ?_
  refine kk H' _ hl ?_ ?_
  · have := ast_go (v := .int (vp_nar .boolean x)) hi1 hR he (by omega) q1 q7 q3 q5 (by rw [q6, ht]; rfl) q4 hlt e1 e2 e3
    rw [ht] at this
    exact this
  · intro z hz
    rcases List.mem_append.mp hz with h1 | h1
    · exact hf z h1
    · rw [List.mem_singleton.mp h1]
      show Z.X.base ≤ ad Z.X q
      rw [ad_new _ hi1]; omega
theorem r_cast (C : Cx Z cc own nL ret nm) {r : Rf} {i : Int32} {x : Int32} {K : AH → Res} (hdg : decode cc pc = .ok (.castore, 1)) (hrun : o_ast 68 r i (.int (vp_nar .char x)) K h = Z.res) (kk : ∀ h1, K h1 = Z.res → V Z nL h1 (pc + 1) lv st) : V Z nL h pc lv (vI x :: vI i :: vR r :: st) := by
  unfold o_ast at hrun
  split at hrun
  · cases hrun
  rename_i q
  split at hrun
  · cases hrun
  rename_i e he
  split at hrun
  case isFalse => cases hrun
  rename_i hcond
  obtain ⟨ht, hi1, h0, hlt⟩ := hcond
  intro a b ls H locs hl hR hf
  have hlen : (hset h q (68, e.2.set i.toNatClampNeg (.int (vp_nar .char x)))).length = h.length := by simp [hset]
  have hgl : h[q - 1024]? = some e := by unfold hget at he; rw [if_pos hi1] at he; exact he
  have hsl0 : sl (hset h q (68, e.2.set i.toNatClampNeg (.int (vp_nar .char x)))) = sl h := sl_set hgl (by simp)
  have kk := kk _ hrun (by rw [hlen]; exact a) (by rw [hsl0]; exact b) ls
  rw [hlen, hsl0] at kk
  have hA := C.2.2.2.2.2.2.2.1.get hR he
  obtain ⟨cell, q1, q2, q3, q4, q5, q6, q7⟩ := arr_of (k := 4) C.2.2.2.2.2.2.2.1 rfl ht hA
  have hin : ¬ (i < 0 ∨ cell.slots.size ≤ i.toNatClampNeg) := by
    rw [q4]; simp only [List.size_toArray, List.length_map]; rintro (z | z)
    · exact h0 z
    · omega
  refine W.cast C.1 C.2.1 q1 q2 q3 hin rfl rfl hdg fun H' e1 e2 e3 => ?_
  refine kk H' _ hl ?_ ?_
  · have := ast_go (v := .int (vp_nar .char x)) hi1 hR he (by omega) q1 q7 q3 q5 (by rw [q6, ht]; rfl) q4 hlt e1 e2 e3
    rw [ht] at this
    exact this
  · intro z hz
    rcases List.mem_append.mp hz with h1 | h1
    · exact hf z h1
    · rw [List.mem_singleton.mp h1]
      show Z.X.base ≤ ad Z.X q
      rw [ad_new _ hi1]; omega
theorem r_alen (C : Cx Z cc own nL ret nm) {r : Rf} {K : Int32 → AH → Res} (hdg : decode cc pc = .ok (.arraylength, 1)) (hrun : o_alen r K h = Z.res) (kk : ∀ x, K x h = Z.res → V Z nL h (pc + 1) lv (vI x :: st)) : V Z nL h pc lv (vR r :: st) := by
  unfold o_alen at hrun
  split at hrun
  · cases hrun
  rename_i e hb
  split at hrun
  case isFalse => cases hrun
  rename_i hcond
  cases r with
  | none => cases hb
  | some q =>
  simp only [Option.bind_some] at hb
  intro a b ls H locs hl hR hf
  have hkt : ∃ k ty, myTy[k]? = some ty ∧ e.1 = 64 + k := by
    have h10 : e.1 - 64 < 10 := by omega
    have h11 : e.1 - 64 < myTy.length := Nat.lt_of_lt_of_le h10 (Nat.le_of_ble_eq_true rfl)
    exact ⟨e.1 - 64, _, List.getElem?_eq_getElem h11, by omega⟩
  obtain ⟨k, ty, hk, ht⟩ := hkt
  obtain ⟨cell, q1, q2, q3, q4, -⟩ := arr_of C.2.2.2.2.2.2.2.1 hk ht (C.2.2.2.2.2.2.2.1.get hR hb)
  exact W.alen (n := Int32.ofNat e.2.length) C.1 C.2.1 q1 q2 (by rw [q4]; simp) rfl rfl hdg (kk _ hrun a b ls H locs hl hR hf)
end HA
