/-! RETURNS, CONTRACTS, CALLS -/
set_option maxRecDepth 100000
def o_retz (ty : FieldType) (x : Int32) (h : AH) : Res := if vp_nar ty x = x then some (some (vI x), h) else none
section RT
variable {Z : ZT} {cc : ByteArray} {own : String} {nm : MethodName} {nL : Nat} {ret : Option FieldType} {h : AH} {pc : Nat} {lv : List (Nat × TV)} {st : List TV}
theorem r_vret (C : Cx Z cc own nL none nm) (hdg : decode cc pc = .ok (.return_, 1)) (hrun : (some (none, h) : Res) = Z.res) : V Z nL h pc lv [] := by
  obtain ⟨X, l, p, e, s, m, args, below, meth, c, h0, fr, lo, r, hE⟩ := Z
  cases hrun
  intro a b ls H locs hl hR hf
  exact W.vret (hlocks := C.2.2.2.2.1) C.1 C.2.1 C.2.2.2.1 (fun t ht _ => ⟨rfl, by rw [ht]; exact hR, a, b⟩) hf hdg
theorem r_iret (C : Cx Z cc own nL (some .int) nm) {x : Int32} (hdg : decode cc pc = .ok (.ireturn, 1)) (hrun : (some (some (vI x), h) : Res) = Z.res) : V Z nL h pc lv [vI x] := by
  obtain ⟨X, l, p, e, s, m, args, below, meth, c, h0, fr, lo, r, hE⟩ := Z
  cases hrun
  intro a b ls H locs hl hR hf
  exact W.iret (v := x) (hlocks := C.2.2.2.2.1) C.1 C.2.1 C.2.2.2.1 (fun t ht _ => ⟨rfl, by rw [ht]; exact hR, a, b⟩) hf hdg
theorem r_zret {ty : FieldType} (C : Cx Z cc own nL (some ty) nm) (hty : isSmall ty = true) {x : Int32} (hdg : decode cc pc = .ok (.ireturn, 1)) (hrun : o_retz ty x h = Z.res) : V Z nL h pc lv [vI x] := by
  obtain ⟨X, l, p, e, s, m, args, below, meth, c, h0, fr, lo, r, hE⟩ := Z
  unfold o_retz at hrun
  split at hrun
  case isFalse => cases hrun
  rename_i hx
  cases hrun
  intro a b ls H locs hl hR hf
  exact W.zret (v := x) (hlocks := C.2.2.2.2.1) C.1 C.2.1 C.2.2.2.1 (vp_nar_small hty hx) (fun t ht _ => ⟨rfl, by rw [ht]; exact hR, a, b⟩) hf hdg
theorem r_lret (C : Cx Z cc own nL (some .long) nm) {x : Int64} (hdg : decode cc pc = .ok (.lreturn, 1)) (hrun : (some (some (vJ x), h) : Res) = Z.res) : V Z nL h pc lv [vJ x] := by
  obtain ⟨X, l, p, e, s, m, args, below, meth, c, h0, fr, lo, r, hE⟩ := Z
  cases hrun
  intro a b ls H locs hl hR hf
  exact W.lret (v := x) (hlocks := C.2.2.2.2.1) C.1 C.2.1 C.2.2.2.1 (fun t ht _ => ⟨rfl, by rw [ht]; exact hR, a, b⟩) hf hdg
theorem r_aret {ty : FieldType} (C : Cx Z cc own nL (some ty) nm) (hty : isRefTy ty = true) {x : Rf} (hdg : decode cc pc = .ok (.areturn, 1)) (hrun : (some (some (vR x), h) : Res) = Z.res) : V Z nL h pc lv [vR x] := by
  obtain ⟨X, l, p, e, s, m, args, below, meth, c, h0, fr, lo, r, hE⟩ := Z
  cases hrun
  intro a b ls H locs hl hR hf
  have h1 : (∃ n, ty = .object n) ∨ ∃ t, ty = .array t := by
    cases ty <;> first | (cases hty; done) | exact Or.inl ⟨_, rfl⟩ | exact Or.inr ⟨_, rfl⟩
  have h2 : tv X (vR x) = .null ∨ ∃ a, tv X (vR x) = .ref a := by
    cases x with
    | none => exact Or.inl rfl
    | some i => exact Or.inr ⟨_, rfl⟩
  exact W.aret (v := tv X (vR x)) (hlocks := C.2.2.2.2.1) C.1 C.2.1 C.2.2.2.1 h1 h2 (fun t ht _ => ⟨rfl, by rw [ht]; exact hR, a, b⟩) hf hdg
end RT
/-- A CONTRACT: the method y does what the function F says, from every abstract heap from which F has an answer -/
def Ctr (X : XT) (l : Launch) (y : MethodName) (bytes : ByteArray) (maxL : Nat) (ret : Option FieldType) (fr lo : Nat) (F : AH → Res) (as : List TV) : Prop :=
  ∀ (h h' : AH) (r : Option TV), F h = some (r, h') → Met l y (ws_ y bytes maxL ret) (ZR fr lo h) (fun v U => v = (as.map (tv X)).toArray ∧ GX X U ∧ Rp X h U.heap) (CQ X h r h') (h'.length - h.length) (sl h' - sl h) (fun q => X.base ≤ q)
def tvArgs : Nat → List TV → List (Nat × TV)
  | _, [] => []
  | i, v :: t => (i, v) :: tvArgs (if isJ v then i + 2 else i + 1) t
def tvLen : List TV → Nat
  | [] => 0
  | v :: t => (if isJ v then 2 else 1) + tvLen t
theorem tvArgs_m (X : XT) (as : List TV) : ∀ i, lv_args i (as.map (tv X)) = lvm X (tvArgs i as) := by
  induction as with
  | nil => intro i; rfl
  | cons v t ih =>
    intro i
    simp only [List.map_cons, lv_args, tvArgs, lvm, tv_cat]
    congr 1
    rw [ih]
    cases isJ v <;> rfl
theorem tvLen_m (X : XT) (as : List TV) : (lg_sl (as.map (tv X))).length = tvLen as := by
  induction as with
  | nil => rfl
  | cons v t ih =>
    have e : lg_sl ((v :: t).map (tv X)) = (if (tv X v).category = 2 then [Slot.val (tv X v), .second] else [.val (tv X v)]) ++ lg_sl (t.map (tv X)) := by
      simp [lg_sl]
    rw [e, List.length_append, ih, tv_cat, tvLen]
    cases isJ v <;> rfl
theorem Met.ofWF {y : MethodName} {ws ws' : List Cond} {rm : Room} {Pc : Array Value → State → Prop} {Qc : Array Value → State → Outcome → State → Prop} {mc ms : Nat} {free : Addr → Prop} {l : Launch} {cc : ByteArray} {maxL : Nat} {ret : Option FieldType}
    (hy : plainFor y = true) (hw : ws = Cond.code y cc maxL ret :: ws')
    (body : ∀ p e s m args below meth c s₁, BodyLoose p l y (headSpec ws rm) cc maxL ret e s m args below meth c s₁ → c.maxLocals = maxL → Pc args s →
      W p l e (headSpec ws rm).room s m args below meth c s.heap [] 0 0 (MQ below Qc args s mc ms free) (entryFrame m args maxL)) : Met l y ws rm Pc Qc mc ms free := by
  refine MetFree.of_bodyRF (code := cc) (maxLocals := maxL) (ret := ret) hy ?_ ?_
  · intro args s m h hn
    obtain ⟨meth, c, h1, h2, h3, h4, h5, h6, -, -⟩ := Cond.code_spec hn (atoms_spec (ws := ws) h _ (by rw [hw]; exact List.mem_cons_self))
    exact ⟨meth, c, h1, h2, h3, h4, h5, h6⟩
  · intro p e s m args below meth c s₁ B hml hP _ hst
    have hh0 : s₁.heap = s.heap := by rw [B.state]; rfl
    obtain ⟨t, a1, o, b1, b2, b3⟩ := body p e s m args below meth c s₁ B hml hP s₁ hh0 (Stand.of_body B)
    exact ⟨t, o, hst.trans a1, b1, b2, ⟨b3.1, b3.2⟩⟩
theorem Ctr.of {X : XT} {l : Launch} {y : MethodName} {bytes : ByteArray} {maxL : Nat} {ret : Option FieldType} (fr lo : Nat) {F : AH → Res} {as : List TV} (hy : plainFor y = true) (hlen : tvLen as ≤ maxL)
    (body : ∀ Z : ZT, Z.X = X → Z.l = l → Z.fr = fr → Z.lo = lo → F Z.h0 = Z.res → Cx Z bytes y.cls maxL ret y → V Z maxL Z.h0 0 (tvArgs 0 as) []) : Ctr X l y bytes maxL ret fr lo F as := by
  intro h h' r hF
  refine Met.ofWF (cc := bytes) (maxL := maxL) (ret := ret) hy rfl ?_
  intro p e s m args below meth c s₁ B hml hv
  obtain ⟨rfl, hG, hR⟩ := hv
  have hts := atoms_spec (ws := ws_ y bytes maxL ret) B.pre
  have hts : ∀ w ∈ lw_all, w.before _ s = true := fun w h => hts w (List.mem_cons_of_mem _ h)
  have hown : s.vm.findClass y.cls = some m.cls := findClass_of_methodNamed B.named
  have hnm : meth.name = y.name := (name_of_methodNamed B.named B.method).1
  have k := body (X, l, p, e, s, m, (as.map (tv X)).toArray, below, meth, c, h, fr, lo, r, h') rfl rfl rfl rfl hF ⟨B.exec, B.bytes, hml, B.returns, B.notSynchronized, hown, hts, hG, hnm, B.named⟩
  have hl := lv_entry (as.map (tv X)) (n := maxL) (by rw [tvLen_m]; exact hlen)
  rw [tvArgs_m] at hl
  rw [lg_entry_eq]
  have k := k (Nat.le_refl _) (Nat.le_refl _) _ s.heap [] hl hR (fun q hq => by cases hq)
  simp only [Nat.sub_self] at k
  exact k
/-- what the tables hold of a method -/
def ML (y : MethodName) (bytes : ByteArray) (maxL : Nat) (ret : Option FieldType) : Prop := Cond.code y bytes maxL ret ∈ lw_all ∧ Cond.initialized y.cls ∈ lw_all
/-- one call, whatever its kind: if the callee comes back, the machine does -/
def CallStep (Z : ZT) (nL : Nat) (y : MethodName) (len pc : Nat) (stk rest aa : List Value) (H : Heap) : Prop :=
  ∀ (Pre : Pt → Array Value → Prop) (Post : Pt → Array Value → Option Value → Pt → Prop), Back Z.l (ZR Z.fr Z.lo Z.h0) Z.p Z.e Z.below Z.s Z.args y len 8 Pre Post →
  ∀ (T : State) (locs : List Loc) (cells slots : Nat) (ls : Array Slot), T.heap = H → ls.size = nL → Stand Z.p Z.l Z.e (ZR Z.fr Z.lo Z.h0) Z.s Z.m Z.args Z.below Z.meth Z.c T locs cells slots →
  (∀ vm₁, Z.s.WarmedH vm₁ → Pre ⟨T.setVm vm₁, locs, cells, slots⟩ aa.toArray) →
  ∃ (v : Option Value) (vm₁ : Vm) (B : Pt), Z.s.WarmedH vm₁ ∧ Stand Z.p Z.l Z.e (ZR Z.fr Z.lo Z.h0) Z.s Z.m Z.args Z.below Z.meth Z.c B.U B.locs B.cells B.slots ∧ Post ⟨T.setVm vm₁, locs, cells, slots⟩ aa.toArray v B ∧
    ∀ target, Steps Z.p.tables Z.e Z.below (B.U.setTop (F0 Z.m (pc + len) ls (v.toList ++ rest))) target → Steps Z.p.tables Z.e Z.below (T.setTop (F0 Z.m pc ls stk)) target
def PreC (X : XT) (R : Room) (fr lo : Nat) (h : AH) (as : List TV) : Pt → Array Value → Prop := fun A a =>
  A.cells + (ZR fr lo h).cells ≤ R.cells ∧ A.slots + (ZR fr lo h).slots ≤ R.slots ∧ a = (as.map (tv X)).toArray ∧ GX X A.U ∧ Rp X h A.U.heap
section CL
variable {Z : ZT} {cc : ByteArray} {own : String} {nm : MethodName} {nL : Nat} {ret : Option FieldType} {h : AH} {pc : Nat} {lv : List (Nat × TV)} {st : List TV}
theorem my_back_ (hts : ∀ w ∈ lw_all, w.before Z.args Z.s = true) {y : MethodName} {bytes : ByteArray} {maxL : Nat} {rt : Option FieldType} {fr lo len : Nat} {F : AH → Res} {as : List TV} {h' : AH} {r : Option TV} (hM : Ctr Z.X Z.l y bytes maxL rt fr lo F as) (hm : ML y bytes maxL rt) (hF : F h = some (r, h')) (hroom : fr + 1 ≤ Z.fr ∧ 8 + (maxL + 11) + lo ≤ Z.lo) :
    Back Z.l (ZR Z.fr Z.lo Z.h0) Z.p Z.e Z.below Z.s Z.args y len 8 (PreC Z.X (ZR Z.fr Z.lo Z.h0) fr lo h as) (PostOf (CQ Z.X h r h') (h'.length - h.length) (sl h' - sl h) (fun q => Z.X.base ≤ q)) := by
  have hM := hM h h' r hF
  have hws : ∀ w ∈ ws_ y bytes maxL rt, ∀ (a' : Array Value) (U : State), Z.s.WarmedH U.vm → w.before a' U = true := pay_in hts (lw_meth hm.1)
  have hini : ∀ (a' : Array Value) (U : State), Z.s.WarmedH U.vm → (Cond.initialized y.cls).before a' U = true := fun a' U hW => word_at hW (Or.inl (by first | rfl | simp [Cond.onTables, Cond.keeps, Cond.steady])) (hts _ hm.2)
  refine Back.of_free (S := headSpec (ws_ y bytes maxL rt) (ZR fr lo h)) (K := fun _ _ _ _ _ => True) (bytes := bytes) (maxL := maxL) (ret := rt)
    (E := fun a st o t L k n => k = h'.length - h.length ∧ n = sl h' - sl h ∧ ∀ q ∈ L, Z.X.base ≤ q.base) hM hroom.1 hroom.2 ?_ ?_ (fun _ _ _ _ _ _ _ _ _ => trivial) ?_ ?_
  · intro m meth c A a X hp
    exact ⟨atoms_intro fun w hw => hws w hw _ _ X.warmed, hws _ List.mem_cons_self _ _ X.warmed, hini _ _ X.warmed, hp.1, hp.2.1⟩
  · intro m meth c A a g mk X hp
    exact ⟨hp.2.2.1, GX.moved (u := A.U) (U := A.U.calling g mk a) (State.WarmedH.refl A.U) hp.2.2.2.1, hp.2.2.2.2⟩
  · intro a st o t ⟨hq, L, hF, hL⟩
    exact ⟨L, _, _, hF, rfl, rfl, hL⟩
  · intro m meth c A a g mk v t L k n X hp hq hF ⟨e1, e2, hL⟩
    subst e1; subst e2
    exact ⟨g, mk, t, L, rfl, rfl, hq.1, rfl, hL, rfl, rfl⟩
theorem my_back (C : Cx Z cc own nL ret nm) {y : MethodName} {bytes : ByteArray} {maxL : Nat} {rt : Option FieldType} {fr lo len : Nat} {F : AH → Res} {as : List TV} {h' : AH} {r : Option TV} (hM : Ctr Z.X Z.l y bytes maxL rt fr lo F as) (hm : ML y bytes maxL rt) (hF : F h = some (r, h')) (hroom : fr + 1 ≤ Z.fr ∧ 8 + (maxL + 11) + lo ≤ Z.lo) :
    Back Z.l (ZR Z.fr Z.lo Z.h0) Z.p Z.e Z.below Z.s Z.args y len 8 (PreC Z.X (ZR Z.fr Z.lo Z.h0) fr lo h as) (PostOf (CQ Z.X h r h') (h'.length - h.length) (sl h' - sl h) (fun q => Z.X.base ≤ q)) := my_back_ C.2.2.2.2.2.2.1 hM hm hF hroom
theorem r_call (C : Cx Z cc own nL ret nm) {y : MethodName} {bytes : ByteArray} {maxL : Nat} {rt : Option FieldType} {fr lo len : Nat} {F : AH → Res} {as : List TV} {h' : AH} {r : Option TV} {stk : List TV} (hM : Ctr Z.X Z.l y bytes maxL rt fr lo F as) (hm : ML y bytes maxL rt) (hroom : fr + 1 ≤ Z.fr ∧ 8 + (maxL + 11) + lo ≤ Z.lo)
    (hcs : ∀ H, Rp Z.X h H → CallStep Z nL y len pc (stk.map (tv Z.X)) (st.map (tv Z.X)) (as.map (tv Z.X)) H) (hF : F h = some (r, h')) (kk : V Z nL h' (pc + len) lv (r.toList ++ st)) : V Z nL h pc lv stk := by
  intro a b ls H locs hl hR hf T hT X
  have hcap := hR.2.2.2
  obtain ⟨v, vm₁, ⟨U', l2, c2, s2⟩, hW₁, X', ⟨g', mk, t, L, e1, e2, hq, h1, hL, h2, h3⟩, stp⟩ := hcs H hR _ _ (my_back C hM hm hF hroom) T locs _ _ ls hT hl.1 X (fun vm₁ hW₁ => ⟨by
      show h.length - Z.h0.length + (CAP - h.length) ≤ CAP - Z.h0.length
      omega, by
      show sl h - sl Z.h0 + (CAPS - sl h) ≤ CAPS - sl Z.h0
      omega, rfl, C.2.2.2.2.2.2.2.1.moved hW₁, by show Rp Z.X h T.heap; rw [hT]; exact hR⟩)
  dsimp only [Pt.U, Pt.locs, Pt.cells, Pt.slots] at X' e1 e2 h1 h2 h3 stp
  obtain ⟨hv, hR', hz1, hz2⟩ := hq
  have hv : v = r.map (tv Z.X) := by cases hv; rfl
  subst h1; subst h2; subst h3
  have ec : h.length - Z.h0.length + (h'.length - h.length) = h'.length - Z.h0.length := by omega
  have es : sl h - sl Z.h0 + (sl h' - sl h) = sl h' - sl Z.h0 := by omega
  rw [ec, es] at X'
  have kk := kk (by omega) (by omega) ls U'.heap (locs ++ L) hl (by rw [e1]; exact hR') (fun q hq => by
    rcases List.mem_append.mp hq with z | z
    · exact hf q z
    · exact hL q z)
  rw [List.map_append, show r.toList.map (tv Z.X) = v.toList from by rw [hv]; cases r <;> rfl] at kk
  obtain ⟨t2, a1, b1⟩ := kk U' rfl X'
  exact ⟨t2, stp t2 a1, b1⟩
end CL
def o_cv (F : AH → Res) (K : AH → Res) (h : AH) : Res := match F h with
  | some (none, h1) => K h1
  | _ => none
def o_ci (F : AH → Res) (K : Int32 → AH → Res) (h : AH) : Res := match F h with
  | some (some (.inl x), h1) => K x h1
  | _ => none
def o_cj (F : AH → Res) (K : Int64 → AH → Res) (h : AH) : Res := match F h with
  | some (some (.inr (.inl x)), h1) => K x h1
  | _ => none
def o_cf (F : AH → Res) (K : UInt32 → AH → Res) (h : AH) : Res := match F h with
  | some (some (.inr (.inr (.inl x))), h1) => K x h1
  | _ => none
def o_cr (F : AH → Res) (K : Rf → AH → Res) (h : AH) : Res := match F h with
  | some (some (.inr (.inr (.inr x))), h1) => K x h1
  | _ => none
/-- a call as a row sees it: what it asks of the callee -/
def Call (Z : ZT) (nL : Nat) (h : AH) (len pc : Nat) (stk st : List TV) (F : AH → Res) : Prop :=
  ∀ (h' : AH) (r : Option TV) (lv : List (Nat × TV)), F h = some (r, h') → V Z nL h' (pc + len) lv (r.toList ++ st) → V Z nL h pc lv stk
section CL2
variable {Z : ZT} {cc : ByteArray} {own : String} {nm : MethodName} {nL : Nat} {ret : Option FieldType} {h : AH} {pc len : Nat} {lv : List (Nat × TV)} {st stk : List TV} {F : AH → Res}
theorem r_cv (hC : Call Z nL h len pc stk st F) {K : AH → Res} (hrun : o_cv F K h = Z.res) (kk : ∀ h1, K h1 = Z.res → V Z nL h1 (pc + len) lv st) : V Z nL h pc lv stk := by
  unfold o_cv at hrun
  split at hrun
  · exact hC _ _ _ (by assumption) (kk _ hrun)
  · cases hrun
theorem r_ci (hC : Call Z nL h len pc stk st F) {K : Int32 → AH → Res} (hrun : o_ci F K h = Z.res) (kk : ∀ x h1, K x h1 = Z.res → V Z nL h1 (pc + len) lv (vI x :: st)) : V Z nL h pc lv stk := by
  unfold o_ci at hrun
  split at hrun
  · exact hC _ _ _ (by assumption) (kk _ _ hrun)
  · cases hrun
theorem r_cj (hC : Call Z nL h len pc stk st F) {K : Int64 → AH → Res} (hrun : o_cj F K h = Z.res) (kk : ∀ x h1, K x h1 = Z.res → V Z nL h1 (pc + len) lv (vJ x :: st)) : V Z nL h pc lv stk := by
  unfold o_cj at hrun
  split at hrun
  · exact hC _ _ _ (by assumption) (kk _ _ hrun)
  · cases hrun
theorem r_cf (hC : Call Z nL h len pc stk st F) {K : UInt32 → AH → Res} (hrun : o_cf F K h = Z.res) (kk : ∀ x h1, K x h1 = Z.res → V Z nL h1 (pc + len) lv (vF x :: st)) : V Z nL h pc lv stk := by
  unfold o_cf at hrun
  split at hrun
  · exact hC _ _ _ (by assumption) (kk _ _ hrun)
  · cases hrun
theorem r_cr (hC : Call Z nL h len pc stk st F) {K : Rf → AH → Res} (hrun : o_cr F K h = Z.res) (kk : ∀ x h1, K x h1 = Z.res → V Z nL h1 (pc + len) lv (vR x :: st)) : V Z nL h pc lv stk := by
  unfold o_cr at hrun
  split at hrun
  · exact hC _ _ _ (by assumption) (kk _ _ hrun)
  · cases hrun
theorem rest_ok (X : XT) {st : List TV} (hst : st.length ≤ 4) {ls : Array Slot} {stk : List Value} {m : MethodId} : 2 * (F0 m pc ls stk).monitorRoom + ((st.map (tv X)).map fun v => v.category).sum ≤ 8 := by
  show 2 * 0 + _ ≤ 8
  have : ∀ l : List TV, ((l.map (tv X)).map fun v => v.category).sum ≤ 2 * l.length := by
    intro l
    induction l with
    | nil => simp
    | cons v t ih =>
      simp only [List.map_cons, List.sum_cons, List.length_cons, tv_cat]
      split <;> omega
  have := this st
  omega
abbrev noMH (y : MethodName) : Prop := y.cls ≠ "java/lang/invoke/MethodHandle" ∧ y.cls ≠ "java/lang/invoke/VarHandle"
abbrev nPar (y : MethodName) (n : Nat) : Prop := (parseMethodDescriptor y.desc).map (fun d => d.parameters.length) = some n
theorem nPar_len {y : MethodName} {n : Nat} (h : nPar y n) {as : List Value} (ha : as.length = n) : ∀ sig, parseMethodDescriptor y.desc = some sig → as.length = sig.parameters.length := by
  intro sig hs
  unfold nPar at h
  rw [hs] at h
  rw [ha]
  exact (Option.some.inj h).symm
/-- invokestatic -/
def LkS (own : String) (idx : Nat) (y : MethodName) (n : Nat) : Prop := (Cond.methodLink own idx y ∈ lw_all ∨ ∃ host, Cond.methodLinkNest own idx y host ∈ lw_tbl) ∧ Cond.static y ∈ lw_all ∧ noMH y ∧ nPar y n
theorem callS_ok (C : Cx Z cc own nL ret nm) {idx : Nat} {y : MethodName} {bytes : ByteArray} {maxL : Nat} {rt : Option FieldType} {fr lo n : Nat} {as : List TV} (hL : LkS own idx y n) (hm : ML y bytes maxL rt) (hM : Ctr Z.X Z.l y bytes maxL rt fr lo F as) (hn : as.length = n) (hst : st.length ≤ 4) (hroom : fr + 1 ≤ Z.fr ∧ 8 + (maxL + 11) + lo ≤ Z.lo) (hdg : decode cc pc = .ok (.invokestatic idx, 3)) : Call Z nL h 3 pc (as.reverse ++ st) st F := by
  intro h' r lv hF kk
  refine r_call C hM hm hroom (fun H hR Pre Post hB T locs cells slots ls hT hsz X hpre => ?_) hF kk
  obtain ⟨hx, hb, hml, hret, hlk, hown, hts, hG, hnm⟩ := C
  obtain ⟨hl, hs, hno, hnp⟩ := hL
  have e : (as.reverse ++ st).map (tv Z.X) = (as.map (tv Z.X)).reverse ++ st.map (tv Z.X) := by rw [List.map_append, List.map_reverse]
  rcases hl with hl | ⟨host, hl⟩
  · exact callS X hx (bytes := bytes) (maxL := maxL) (ret := rt) hown (hts _ hl) (hts _ hs) (hts _ hm.2) (hts _ hm.1) hno hB rfl (hsz.trans hml.symm) (argsL := as.map (tv Z.X)) (rest := st.map (tv Z.X)) (nPar_len hnp (by simp [hn])) e (rest_ok Z.X hst) (by rw [hb]; exact hdg) hpre
  · exact va_callSN X hx (bytes := bytes) (maxL := maxL) (ret := rt) hown (va_Nw.use rfl (hG.2.2.2.2.2.2.1 _ hl rfl)) (hts _ hs) (hts _ hm.2) (hts _ hm.1) hno hB rfl (hsz.trans hml.symm) (argsL := as.map (tv Z.X)) (rest := st.map (tv Z.X)) (nPar_len hnp (by simp [hn])) e (rest_ok Z.X hst) (by rw [hb]; exact hdg) hpre
def nnF (r : Rf) (F : AH → Res) (h : AH) : Res := if r = none then none else F h
theorem nnF_spec {r : Rf} {F : AH → Res} {h : AH} {x : Option TV × AH} (hF : nnF r F h = some x) : ∃ i, r = some i ∧ F h = some x := by
  unfold nnF at hF
  cases r with
  | none => simp at hF
  | some i => exact ⟨i, rfl, by simpa using hF⟩
/-- invokespecial of a constructor -/
def LkI (own : String) (idx : Nat) (y : MethodName) (n : Nat) : Prop := (Cond.methodLink own idx y ∈ lw_all ∨ ∃ host, Cond.methodLinkNest own idx y host ∈ lw_tbl) ∧ Cond.instanceMethod y ∈ lw_all ∧ y.name = "<init>" ∧ noMH y ∧ nPar y n
theorem callI_ok (C : Cx Z cc own nL ret nm) {idx : Nat} {y : MethodName} {bytes : ByteArray} {maxL : Nat} {fr lo n : Nat} {rc : Rf} {as : List TV} (hL : LkI own idx y n) (hm : ML y bytes maxL none) (hM : Ctr Z.X Z.l y bytes maxL none fr lo F (vR rc :: as)) (hn : as.length = n) (hst : st.length ≤ 4) (hroom : fr + 1 ≤ Z.fr ∧ 8 + (maxL + 11) + lo ≤ Z.lo) (hdg : decode cc pc = .ok (.invokespecial idx, 3)) : Call Z nL h 3 pc (as.reverse ++ vR rc :: st) st (nnF rc F) := by
  intro h' r lv hF kk
  obtain ⟨i, rfl, hF⟩ := nnF_spec hF
  refine r_call C hM hm hroom (fun H hR Pre Post hB T locs cells slots ls hT hsz X hpre => ?_) hF kk
  obtain ⟨hx, hb, hml, hret, hlk, hown, hts, hG, hnm⟩ := C
  obtain ⟨hl, hs, hyn, hno, hnp⟩ := hL
  have e : (as.reverse ++ vR (some i) :: st).map (tv Z.X) = (as.map (tv Z.X)).reverse ++ .ref (ad Z.X i) :: st.map (tv Z.X) := by rw [List.map_append, List.map_reverse]; rfl
  rcases hl with hl | ⟨host, hl⟩
  · exact callI X hx (bytes := bytes) (maxL := maxL) hown hyn (hts _ hl) (hts _ hs) (hts _ hm.1) hno hB rfl (hsz.trans hml.symm) (a := ad Z.X i) (argsL := as.map (tv Z.X)) (rest := st.map (tv Z.X)) (nPar_len hnp (by simp [hn])) e (rest_ok Z.X hst) (by rw [hb]; exact hdg) hpre
  · exact va_callIN X hx (bytes := bytes) (maxL := maxL) hown hyn (va_Nw.use rfl (hG.2.2.2.2.2.2.1 _ hl rfl)) (hts _ hs) (hts _ hm.1) hno hB rfl (hsz.trans hml.symm) (a := ad Z.X i) (argsL := as.map (tv Z.X)) (rest := st.map (tv Z.X)) (nPar_len hnp (by simp [hn])) e (rest_ok Z.X hst) (by rw [hb]; exact hdg) hpre
/-- the receiver's class, for a virtual call: the call's function begins with this test -/
def tagIs (t : Nat) (r : Rf) (F : AH → Res) (h : AH) : Res := match r.bind (hget h) with
  | none => none
  | some e => if e.1 = t then F h else none
theorem tagIs_spec {t : Nat} {r : Rf} {F : AH → Res} {h : AH} {x : Option TV × AH} (hF : tagIs t r F h = some x) : ∃ i e, r = some i ∧ hget h i = some e ∧ e.1 = t ∧ F h = some x := by
  unfold tagIs at hF
  cases r with
  | none => cases hF
  | some i =>
    simp only [Option.bind_some] at hF
    cases hg : hget h i with
    | none => rw [hg] at hF; cases hF
    | some e =>
      rw [hg] at hF
      simp only at hF
      split at hF
      · exact ⟨i, e, rfl, hg, by assumption, hF⟩
      · cases hF
theorem recv_ok {X : XT} {U : State} {H : Heap} {t i : Nat} {e : AE} {q : vw_C} (hG : GX X U) (hR : Rp X h H) (hc : myCl[t]? = some q) (he : hget h i = some e) (ht : e.1 = t) : ∃ cell kB, H[ad X i]? = some cell ∧ cell.vm.isStatics = false ∧ U.vm.findClass q.1 = some cell.cls ∧ U.vm.classes[cell.cls]? = some kB := by
  obtain ⟨cell, q1, q2, q3, q4, q5, q6⟩ := hG.get hR he
  have h64 := myCl_lt hc
  obtain ⟨-, hfc, kC, hkC, -⟩ := hG.2.2.1 t _ hc
  have ec : cell.cls = X.D.1 t := by rw [q5, ht]; unfold clOf; rw [if_pos h64]
  exact ⟨cell, kC, q1, q2, by rw [ec]; exact hfc, by rw [ec]; exact hkC⟩
theorem extra_tab : ∀ w ∈ extraSel, w.onTables = true := by decide +kernel
/-- invokevirtual of the method that the entry names -/
def LkV (own : String) (idx t : Nat) (y : MethodName) (n : Nat) : Prop := ∃ q, myCl[t]? = some q ∧ (Cond.methodLink own idx y ∈ lw_all ∨ ∃ host, Cond.methodLinkNest own idx y host ∈ lw_tbl) ∧ Cond.instanceMethod y ∈ lw_all ∧ (Cond.selects q.1 y y ∈ lw_all ∨ Cond.selects q.1 y y ∈ extraSel) ∧ noMH y ∧ nPar y n
theorem callV_ok (C : Cx Z cc own nL ret nm) {idx t : Nat} {y : MethodName} {bytes : ByteArray} {maxL : Nat} {rt : Option FieldType} {fr lo n : Nat} {rc : Rf} {as : List TV} (hL : LkV own idx t y n) (hm : ML y bytes maxL rt) (hM : Ctr Z.X Z.l y bytes maxL rt fr lo F (vR rc :: as)) (hn : as.length = n) (hst : st.length ≤ 4) (hroom : fr + 1 ≤ Z.fr ∧ 8 + (maxL + 11) + lo ≤ Z.lo) (hdg : decode cc pc = .ok (.invokevirtual idx, 3)) : Call Z nL h 3 pc (as.reverse ++ vR rc :: st) st (tagIs t rc F) := by
  intro h' r lv hF kk
  obtain ⟨i, ei, rfl, hei, hti, hF⟩ := tagIs_spec hF
  refine r_call C hM hm hroom (fun H hR Pre Post hB T locs cells slots ls hT hsz X hpre => ?_) hF kk
  obtain ⟨hx, hb, hml, hret, hlk, hown, hts, hG, hnm⟩ := C
  obtain ⟨q, hc, hl, hs, hse, hno, hnp⟩ := hL
  have hse : (Cond.selects q.1 y y).before Z.args Z.s = true := hse.elim (fun z => hts _ z) (fun z => va_any (extra_tab _ z) (hG.2.2.2.2.2.2.2.2.2.2.2.2.1 _ z))
  obtain ⟨cell, kB, q1, q2, q3, q4⟩ := recv_ok hG hR hc hei hti
  have e : (as.reverse ++ vR (some i) :: st).map (tv Z.X) = (as.map (tv Z.X)).reverse ++ .ref (ad Z.X i) :: st.map (tv Z.X) := by rw [List.map_append, List.map_reverse]; rfl
  rcases hl with hl | ⟨host, hl⟩
  · exact callV X hx (C := q.1) (bytes := bytes) (maxL := maxL) (ret := rt) hown (hts _ hl) (hts _ hs) hse (hts _ hm.1) hno hB (by rw [hT]; exact q1) q2 q3 rfl (hsz.trans hml.symm) (argsL := as.map (tv Z.X)) (rest := st.map (tv Z.X)) (nPar_len hnp (by simp [hn])) e (rest_ok Z.X hst) (by rw [hb]; exact hdg) hpre
  · exact va_callVN X hx (C := q.1) (bytes := bytes) (maxL := maxL) (ret := rt) hown (va_Nw.use rfl (hG.2.2.2.2.2.2.1 _ hl rfl)) (hts _ hs) hse (hts _ hm.1) hno hB (by rw [hT]; exact q1) q2 q3 rfl (hsz.trans hml.symm) (argsL := as.map (tv Z.X)) (rest := st.map (tv Z.X)) (nPar_len hnp (by simp [hn])) e (rest_ok Z.X hst) (by rw [hb]; exact hdg) hpre
/-- invokevirtual where the entry names x, found in 'owner', and the receiver's class selects y -/
def LkU (own : String) (idx t : Nat) (x y : MethodName) (n : Nat) : Prop := ∃ q owner, myCl[t]? = some q ∧ Cond.methodLink own idx x ∈ lw_all ∧ Cond.sameMethod x.cls owner x.name x.desc ∈ lw_all ∧ Cond.declares ⟨owner, x.name, x.desc⟩ ∈ lw_tbl ∧ Cond.selects q.1 x y ∈ lw_all ∧ Cond.instanceMethod y ∈ lw_all ∧ (owner ≠ "java/lang/invoke/MethodHandle" ∧ owner ≠ "java/lang/invoke/VarHandle") ∧ nPar x n
end CL2
