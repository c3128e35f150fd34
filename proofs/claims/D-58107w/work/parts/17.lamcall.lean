/-! CALLING A LAMBDA OBJECT: the forwarder of its hidden class, walked -/
set_option maxRecDepth 100000
section FW
variable {p : Program} {l : Launch} {e : Env} {R : Room} {s : State} {m : MethodId} {args : Array Value} {below : List Frame} {meth : Method} {c : Code} {H : Heap} {locs : List Loc} {cells slots : Nat} {Q : State → Prop} {cc : ByteArray} {q : LSt} {lk : Linked} {ls : Array Slot} {nL : Nat}
theorem fw_getf (hexec : p.tables.exec = Jvm.exec) (hb : c.code = cc) (hchk : q.chk = true) (hL : lamOk s q m.cls lk) {i ix : Nat} (hix : q.fs[i]? = some ix) {a : Addr} {cell : Cell} {v : Value} (hcell : H[a]? = some cell) (hkn : cell.vm ≠ .unknown) (hv : cell.slots[i]? = some v) {pc : Nat} {rest : List Value} (hdg : decode cc pc = .ok (.getfield ix, 3))
    (kk : W p l e R s m args below meth c H locs cells slots Q (F0 m (pc + 3) ls (v :: rest))) : W p l e R s m args below meth c H locs cells slots Q (F0 m pc ls (.ref a :: rest)) := by
  intro T hT X
  obtain ⟨t, a1, b1⟩ := kk T hT X
  have hL' : lamOk T q m.cls lk := lamOk.moved (U := T) X.warmed hL
  obtain ⟨mD, kD, cf, i0, p0, b', n, nm', ds, sg, iface, kI, r0, r, h1, h2, h3, h4, h5, h6, h7, h8, h9, h10, h11, h12, h13, h14, h15, h16, h17, h18, h19, h20, h21⟩ := hL'
  obtain ⟨kc, tk, file, methk, ck, t', tgt, z1, z2, z3, z4, z5, z6, z7, z8, z9, z10, z11, z12, z13, z14, z15, z16, z17, z18, z19, z20, z21⟩ := made_facts hchk h2 h3 h10 h21
  obtain ⟨f, f1, f2, f3⟩ := z20 i ix hix
  refine ⟨t, ?_, b1⟩
  jvm_step X.here [hexec, hb, hdg, getfield.wp_ready (e := e) (s := T) (c := m.cls) (field := f) (a := a) (rest := rest) (cell := cell) (v := v) (f := F0 m pc ls (.ref a :: rest)) X.here.top f1 f2 rfl (by rw [hT]; exact hcell) hkn (by rw [f3]; exact hv)]
  exact a1
theorem fw_caps (hexec : p.tables.exec = Jvm.exec) (hb : c.code = cc) (hchk : q.chk = true) (hL : lamOk s q m.cls lk) {a : Addr} {cell : Cell} (hcell : H[a]? = some cell) (hkn : cell.vm ≠ .unknown) {vs : List Value} (hvs : cell.slots = vs.toArray) (hlen : vs.length = q.fs.length) {lvr : List (Nat × Value)} (h0 : lv_has ls nL ((0, .ref a) :: lvr))
    (hdec : ∀ i ix, q.fs[i]? = some ix → decode cc (4 * i) = .ok (.aload_n 0, 1) ∧ decode cc (4 * i + 1) = .ok (.getfield ix, 3)) (kk : W p l e R s m args below meth c H locs cells slots Q (F0 m (4 * vs.length) ls vs.reverse)) :
    W p l e R s m args below meth c H locs cells slots Q (F0 m 0 ls []) := by
  suffices h : ∀ n k, n + k = vs.length → W p l e R s m args below meth c H locs cells slots Q (F0 m (4 * k) ls (vs.take k).reverse) from h vs.length 0 (by omega)
  intro n
  induction n with
  | zero =>
    intro k hk
    have : k = vs.length := by omega
    subst this
    rw [List.take_length]
    exact kk
  | succ n ih =>
    intro k hk
    have hk1 : k < vs.length := by omega
    have hk2 : k < q.fs.length := by omega
    obtain ⟨d1, d2⟩ := hdec k _ (List.getElem?_eq_getElem hk2)
    refine lv_aload_n hexec hb d1 rfl (lv_at h0 0 rfl) ?_
    refine fw_getf hexec hb hchk hL (List.getElem?_eq_getElem hk2) hcell hkn (v := vs[k]) (by rw [hvs]; simp [hk1]) d2 ?_
    have := ih (k + 1) (by omega)
    rw [List.take_succ_eq_append_getElem hk1, List.reverse_append] at this
    exact this
theorem fw_call (hexec : p.tables.exec = Jvm.exec) (hb : c.code = cc) (hml : c.maxLocals = nL) (hchk : q.chk = true) (hL : lamOk s q m.cls lk) (hitf : q.sh.implItf = false) (hsz : ls.size = nL) {y : MethodName} (hy : q.y = y) {bytes : ByteArray} {maxL : Nat} {rt : Option FieldType} {n : Nat}
    (w1 : (Cond.code y bytes maxL rt).before args s = true) (w2 : (Cond.initialized y.cls).before args s = true) (hnp : nPar y n) {argsL rest : List Value}
    {stk : List Value} {pc : Nat}
    (hkind : (decode cc pc = .ok (.invokestatic q.mi, 3) ∧ (Cond.static y).before args s = true ∧ stk = argsL.reverse ++ rest ∧ argsL.length = n) ∨
      (∃ (x : Addr) (cx : Cell) (C : String) (as : List Value), decode cc pc = .ok (.invokevirtual q.mi, 3) ∧ (Cond.instanceMethod y).before args s = true ∧ (Cond.selects C y y).before args s = true ∧ H[x]? = some cx ∧ cx.vm.isStatics = false ∧ s.vm.findClass C = some cx.cls ∧ argsL = .ref x :: as ∧ stk = as.reverse ++ .ref x :: rest ∧ as.length = n))
    {Pre : Pt → Array Value → Prop} {Post : Pt → Array Value → Option Value → Pt → Prop} (hK : Back l R p e below s args y 3 8 Pre Post) (hrest : (rest.map fun v => v.category).sum ≤ 8)
    (hpre : ∀ T, T.heap = H → Stand p l e R s m args below meth c T locs cells slots → Pre ⟨T, locs, cells, slots⟩ argsL.toArray)
    (kk : ∀ T v B, T.heap = H → Post ⟨T, locs, cells, slots⟩ argsL.toArray v B → Stand p l e R s m args below meth c B.U B.locs B.cells B.slots → ∃ t, Steps p.tables e below (B.U.setTop (F0 m (pc + 3) ls (v.toList ++ rest))) t ∧ Q t) :
    W p l e R s m args below meth c H locs cells slots Q (F0 m pc ls stk) := by
  subst hy
  intro T hT X
  have hL' : lamOk T q m.cls lk := lamOk.moved (U := T) X.warmed hL
  obtain ⟨mD, kD, cf, i0, p0, b', nn, nm', ds, sg, iface, kI, r0, r, h1, h2, h3, h4, h5, h6, h7, h8, h9, h10, h11, h12, h13, h14, h15, h16, h17, h18, h19, h20, h21⟩ := hL'
  obtain ⟨kc, tk, file, methk, ck, t', tgt, z1, z2, z3, z4, z5, z6, z7, z8, z9, z10, z11, z12, z13, z14, z15, z16, z17, z18, z19, z20, z21⟩ := made_facts hchk h2 h3 h10 h21
  have hA := X.warmed.alike
  obtain ⟨D, ms, lay, fw, cd, n0, g1, g2, g3, g4, g5, g6, g7, g8, g9, g10, g11, g12, g13, g14, g15, g16, g17, g18, g19, g20, g21⟩ := LSt.chk_spec hchk
  cases hmT : s.methodNamed? q.y with
  | none => simp [Cond.before, Cond.holds, Cond.value, hmT] at w1
  | some mT =>
  obtain ⟨methT, cT, hmethT, hcT, hbytesT, hlocT, hretT, hlocksT, -, hsigT⟩ := Cond.code_spec hmT w1
  obtain ⟨kT, hkT, hnameT⟩ := className_of_methodNamed hmT
  have hfT : s.vm.findClass q.y.cls = some mT.cls := findClass_of_methodNamed hmT
  have hinitT : kT.init = .initialized := Cond.initialized_spec hfT hkT w2
  have hfT' : T.vm.findClass q.sh.implClass = some mT.cls := by rw [hA.findClass]; exact hfT
  cases z14.symm.trans hfT'
  obtain ⟨kT', hkT', heT⟩ := hA.2.2 _ _ hkT
  cases z15.symm.trans hkT'
  have hmT' : T.methodNamed? q.y = some mT := X.named hmT
  have htgt : tgt = mT := by
    have q1 : T.methodFound? q.y.cls q.y.name q.y.desc = some mT := State.methodFound?_of_named hmT' g20
    have q2 : T.methodFound? q.sh.implClass q.sh.implName q.sh.implDesc.toString = some mT := q1
    simp only [State.methodFound?, hfT', z15, Option.bind_eq_bind, Option.bind_some, z17] at q2
    exact Option.some.inj q2
  subst htgt
  have hmethT' : T.vm.method? tgt = some methT := by rw [hA.method?]; exact hmethT
  have htkn : tk.name = q.y.cls := by rw [heT]; exact hnameT
  have hsp : ∀ y : Method, signaturePolymorphic tk y = false := fun y => by
    have n1 : tk.name ≠ "java/lang/invoke/MethodHandle" := by rw [htkn]; exact g20.1
    have n2 : tk.name ≠ "java/lang/invoke/VarHandle" := by rw [htkn]; exact g20.2
    simp [signaturePolymorphic, n1, n2]
  have hpar : methT.sig.parameters.length = n := by
    unfold nPar at hnp
    rw [hsigT] at hnp
    exact Option.some.inj hnp
  have hfin : ∀ {s₀ : State} {ig : Instr}, decode c.code pc = .ok (ig, 3) → Steps p.tables e below s₀ (doInvoke e (T.setTop (F0 m pc ls rest)) [] tgt argsL.toArray).1 → ∃ t, Steps p.tables e below s₀ t ∧ Q t := by
    intro s₀ ig hdg hcome
    obtain ⟨v, B, X', hpost, hsteps⟩ := X.back hK (g := F0 m pc ls rest) rfl (hsz.trans hml.symm) (by show 2 * 0 + (rest.map fun v => v.category).sum ≤ 8; omega) hdg hmT' (hpre T hT X) hcome
    obtain ⟨t, a1, b1⟩ := kk T v B hT hpost X'
    exact ⟨t, hsteps.trans a1, b1⟩
  rcases hkind with ⟨hdg, hst, rfl, hal⟩ | ⟨x, cx, Cn, as, hdg, hin, hsel, hcx, hcs, hcc, rfl, rfl, hal⟩
  · have hstatic : methT.isStatic = true := Cond.static_spec hmT hmethT hst
    obtain ⟨b, hmem⟩ := memberRef_ask' (e := e) (vm := T.vm) (d := m.cls) (index := q.mi) z1 z4 (Or.inl z5) z6
    refine hfin (by rw [hb]; exact hdg) ?_
    jvm_step X.here [hexec, hb, hdg, invokestatic.wp_ready (e := e) (s := T) (m := tgt) (k := tk) (meth := methT) (args := argsL) (rest := rest) (f := F0 m pc ls (argsL.reverse ++ rest)) X.here.top ⟨q.ci, _, _, b, tgt.cls, tk, hmem, z19, z15, by simp [hsp]⟩ z18 z15 hmethT' (hsp _) hstatic (by rw [heT]; exact hinitT) (by rw [hpar]; exact hal) rfl]
    intro acts
    rw [doInvoke_state]
    exact Steps.refl _
  · obtain ⟨mI, methI, i1, i2, hstat, habs⟩ := Cond.instanceMethod_spec hin
    cases hmT.symm.trans i1
    cases hmethT.symm.trans i2
    obtain ⟨c2, r2, m2, s1, s2, s3, s4, -⟩ := Cond.selects_spec hsel
    cases hcc.symm.trans s1
    cases hmT.symm.trans s3
    cases (State.methodFound?_of_named hmT g20).symm.trans s2
    refine hfin (by rw [hb]; exact hdg) ?_
    jvm_step X.here [hexec, hb, hdg, invokevirtual.wp_ready (e := e) (s := T) (r := tgt) (m := tgt) (k := tk) (mk := tk) (rmeth := methT) (meth := methT) (a := x) (args := as) (rest := rest) (cell := cx) (f := F0 m pc ls (as.reverse ++ .ref x :: rest)) X.here.top ⟨kc, file, q.ci, q.nt, tgt.cls, tk, z1, z4, z5, z19, z15, by rw [z16]; exact hitf⟩ z18 z15 hmethT' (hsp _) hstat (by rw [hpar]; exact hal) rfl
      (by rw [hT]; exact hcx) (fun k hk => by rw [hk] at hcs; cases hcs) (by rw [Launch.admits_selectMethod X.admits, hA.selectMethod]; exact s4) hmethT' habs z15 (by rw [z16]; exact hitf)]
    intro acts
    rw [doInvoke_state]
    exact Steps.refl _
end FW
/-- loading the forwarder's own parameters -/
def ParsOk (cc : ByteArray) (b : Nat) (as : List TV) : Prop :=
  ∀ (p : Program) (l : Launch) (e : Env) (R : Room) (s : State) (m : MethodId) (args : Array Value) (below : List Frame) (meth : Method) (c : Code) (H : Heap) (locs : List Loc) (cells slots : Nat) (Q : State → Prop) (ls : Array Slot) (nL : Nat) (X : XT) (v0 : TV) (stack : List Value),
    p.tables.exec = Jvm.exec → c.code = cc → lv_has ls nL (lvm X ((0, v0) :: tvArgs 1 as)) → W p l e R s m args below meth c H locs cells slots Q (F0 m (b + as.length) ls ((as.map (tv X)).reverse ++ stack)) → W p l e R s m args below meth c H locs cells slots Q (F0 m b ls stack)
theorem pars0 (cc : ByteArray) (b : Nat) : ParsOk cc b [] := fun _ _ _ _ _ _ _ _ _ _ _ _ _ _ _ _ _ _ _ _ _ _ _ k => k
theorem parsI {cc : ByteArray} {b : Nat} (d1 : decode cc b = .ok (.iload_n 1, 1)) (d2 : decode cc (b + 1) = .ok (.iload_n 2, 1)) (x y : Int32) : ParsOk cc b [vI x, vI y] := by
  intro p l e R s m args below meth c H locs cells slots Q ls nL X v0 stack hx hb hl k
  refine lv_iload_n hx hb d1 rfl (lv_at hl 1 rfl) ?_
  refine lv_iload_n hx hb d2 rfl (lv_at hl 2 rfl) ?_
  exact k
theorem parsR {cc : ByteArray} {b : Nat} (d1 : decode cc b = .ok (.aload_n 1, 1)) (x : Rf) : ParsOk cc b [vR x] := by
  intro p l e R s m args below meth c H locs cells slots Q ls nL X v0 stack hx hb hl k
  cases x with
  | none => exact lv_aload_nN hx hb d1 rfl (lv_at hl 1 rfl) k
  | some x => exact lv_aload_n hx hb d1 rfl (lv_at hl 1 rfl) k
def okR (b : Bool) (r : Option TV) : Bool := match b, r with
  | true, some (.inl _) => true
  | false, none => true
  | _, _ => false
/-- a call on a lambda object of this tag: what is run with the captured values -/
def lamF (b : Bool) (tag : Nat) (rc : Rf) (G : List Value → AH → Res) (h : AH) : Res := match rc.bind (hget h) with
  | none => none
  | some e => if e.1 = tag then (match G e.2 h with
    | none => none
    | some (r, h1) => if okR b r = true then some (r, h1) else none) else none
theorem lamF_spec {b : Bool} {tag : Nat} {rc : Rf} {G : List Value → AH → Res} {h : AH} {x : Option TV × AH} (hF : lamF b tag rc G h = some x) : ∃ i e, rc = some i ∧ hget h i = some e ∧ e.1 = tag ∧ G e.2 h = some x ∧ okR b x.1 = true := by
  unfold lamF at hF
  cases rc with
  | none => cases hF
  | some i =>
    simp only [Option.bind_some] at hF
    cases hg : hget h i with
    | none => rw [hg] at hF; cases hF
    | some e =>
      rw [hg] at hF
      simp only at hF
      split at hF
      · rename_i ht
        cases hG : G e.2 h with
        | none => rw [hG] at hF; cases hF
        | some y =>
          obtain ⟨r, h1⟩ := y
          rw [hG] at hF
          simp only at hF
          split at hF
          · cases hF
            exact ⟨i, e, rfl, hg, ht, hG, by assumption⟩
          · cases hF
      · cases hF
/-- what the site's target is: a static method that captures nothing, or an instance method of the class with this tag, whose receiver is captured first -/
def LamT (q : LSt) (y : MethodName) (n : Nat) (b : Bool) : Option Nat → Prop
  | none => decode q.code n = .ok (.invokestatic q.mi, 3) ∧ Cond.static y ∈ lw_all ∧ q.fs = []
  | some t => decode q.code n = .ok (.invokevirtual q.mi, 3) ∧ Cond.instanceMethod y ∈ lw_all ∧ ∃ cq, myCl[t]? = some cq ∧ Cond.selects cq.1 y y ∈ lw_all
def LamR (q : LSt) (n : Nat) (b : Bool) (rt : Option FieldType) : Prop := if b = true then q.sh.sam.returnType = some .int ∧ decode q.code n = .ok (.ireturn, 1) else q.sh.sam.returnType = none ∧ decode q.code n = .ok (.return_, 1)
section CLf
set_option maxHeartbeats 4000000 in
theorem fw_run {X : XT} {l : Launch} {p : Program} {e : Env} {s' : State} {cK : ClassId} {below : List Frame} {methk : Method} {ck : Code} {H : Heap} {h h' : AH} {r : Option TV} {b : Bool} {i fr lo maxL n : Nat} {q : LSt} {lk : Linked} {kt : Option Nat} {cell : Cell} {els : List Value} {as tvs : List TV} {F' : AH → Res} {y : MethodName} {bytes : ByteArray} {rt : Option FieldType}
    (hx : p.tables.exec = Jvm.exec) (z9 : ck.code = q.code) (z10 : ck.maxLocals = q.maxL) (z11 : methk.locks = false) (z13 : methk.sig.returnType = q.sh.sam.returnType) (hchk : q.chk = true) (hLam' : lamOk s' q cK lk)
    (c1 : H[ad X i]? = some cell) (c3 : cell.vm ≠ .unknown) (c6 : cell.slots = (els.map (cv X)).toArray) (hcaps : els = tvs.map lamV) (htl2 : tvs.length = q.fs.length) (hcap : h.length ≤ CAP ∧ sl h ≤ CAPS) (hGX' : GX X s') (hR : Rp X h H) (hts' : ∀ w ∈ lw_all, w.before (.ref (ad X i) :: as.map (tv X)).toArray s' = true)
    (hM : Ctr X l y bytes maxL rt fr lo F' (tvs ++ as)) (hm : ML y bytes maxL rt) (hF' : F' h = some (r, h')) (hy : q.y = y) (hnp : nPar y n) (hitf : q.sh.implItf = false) (hal : tvLen as = as.length) (hmaxL : q.maxL = 1 + as.length)
    (hdec : ∀ i ix, q.fs[i]? = some ix → decode q.code (4 * i) = .ok (.aload_n 0, 1) ∧ decode q.code (4 * i + 1) = .ok (.getfield ix, 3)) (hpar : ParsOk q.code (4 * q.fs.length) as) (hT : LamT q y (4 * q.fs.length + as.length) b kt) (hRt : LamR q (4 * q.fs.length + as.length + 3) b rt) (hokr : okR b r = true)
    (hargn : (tvs ++ as).length = (match kt with | none => n | some _ => n + 1)) (hrecv : ∀ t, kt = some t → ∃ x tv' ex, tvs = vR (some x) :: tv' ∧ hget h x = some ex ∧ ex.1 = t) :
    W p l e (ZR (fr + 1) (8 + (maxL + 11) + lo) h) s' ⟨cK, 1⟩ (.ref (ad X i) :: as.map (tv X)).toArray below methk ck H [] 0 0
      (MQ below (CQ X h r h') (.ref (ad X i) :: as.map (tv X)).toArray s' (h'.length - h.length) (sl h' - sl h) (fun q => X.base ≤ q)) (entryFrame ⟨cK, 1⟩ (.ref (ad X i) :: as.map (tv X)).toArray ck.maxLocals) := by
  have hback : Back l (ZR (fr + 1) (8 + (maxL + 11) + lo) h) p e below s' (.ref (ad X i) :: as.map (tv X)).toArray y 3 8 (PreC X (ZR (fr + 1) (8 + (maxL + 11) + lo) h) fr lo h (tvs ++ as)) (PostOf (CQ X h r h') (h'.length - h.length) (sl h' - sl h) (fun q => X.base ≤ q)) :=
    my_back_ (Z := (X, l, p, e, s', ⟨cK, 1⟩, (.ref (ad X i) :: as.map (tv X)).toArray, below, methk, ck, h, fr + 1, 8 + (maxL + 11) + lo, r, h')) (h := h) (len := 3) hts' hM hm hF' ⟨Nat.le_refl _, Nat.le_refl _⟩
  have hle := lv_entry ((vR (some i) :: as).map (tv X)) (n := q.maxL) (by rw [tvLen_m]; show 1 + tvLen as ≤ q.maxL; omega)
  rw [tvArgs_m] at hle
  rw [z10, show (Value.ref (ad X i) :: as.map (tv X)).toArray = ((vR (some i) :: as).map (tv X)).toArray from rfl, lg_entry_eq]
  have hvl : (els.map (cv X)).length = q.fs.length := by rw [List.length_map, hcaps, List.length_map, htl2]
  have hev : els.map (cv X) = tvs.map (tv X) := by rw [hcaps, List.map_map]; congr 1; funext v; exact cv_lamV X v
  refine fw_caps hx z9 hchk hLam' c1 c3 c6 hvl hle hdec ?_
  rw [hvl]
  refine hpar _ _ _ _ _ _ _ _ _ _ _ _ _ _ _ _ _ X (vR (some i)) _ hx z9 hle ?_
  rw [hev]
  have hkind : (decode q.code (4 * q.fs.length + as.length) = .ok (.invokestatic q.mi, 3) ∧ (Cond.static y).before (.ref (ad X i) :: as.map (tv X)).toArray s' = true ∧ (as.map (tv X)).reverse ++ (tvs.map (tv X)).reverse = ((tvs ++ as).map (tv X)).reverse ++ [] ∧ ((tvs ++ as).map (tv X)).length = n) ∨
    (∃ (x : Addr) (cx : Cell) (C : String) (as' : List Value), decode q.code (4 * q.fs.length + as.length) = .ok (.invokevirtual q.mi, 3) ∧ (Cond.instanceMethod y).before (.ref (ad X i) :: as.map (tv X)).toArray s' = true ∧ (Cond.selects C y y).before (.ref (ad X i) :: as.map (tv X)).toArray s' = true ∧ H[x]? = some cx ∧ cx.vm.isStatics = false ∧ s'.vm.findClass C = some cx.cls ∧ (tvs ++ as).map (tv X) = .ref x :: as' ∧ (as.map (tv X)).reverse ++ (tvs.map (tv X)).reverse = as'.reverse ++ .ref x :: [] ∧ as'.length = n) := by
    cases kt with
    | none =>
      obtain ⟨t1, t2, t3⟩ := hT
      exact Or.inl ⟨t1, hts' _ t2, by rw [List.map_append, List.reverse_append, List.append_nil], by rw [List.length_map]; exact hargn⟩
    | some t =>
      obtain ⟨t1, t2, cq, t3, t4⟩ := hT
      obtain ⟨x, tv', ex, rfl, hxx, hxt⟩ := hrecv t rfl
      obtain ⟨cx, kB, q1, q2, q3, q4⟩ := recv_ok hGX' hR t3 hxx hxt
      refine Or.inr ⟨ad X x, cx, cq.1, (tv' ++ as).map (tv X), t1, hts' _ t2, hts' _ t4, q1, q2, q3, rfl, ?_, ?_⟩
      · simp
        rfl
      · simp only [List.cons_append, List.length_cons] at hargn
        rw [List.length_map]
        exact Nat.succ.inj hargn
  refine fw_call hx z9 z10 hchk hLam' hitf hle.1 hy (hts' _ hm.1) (hts' _ hm.2) hnp hkind hback (by simp) ?_ ?_
  · intro T1 hT1 X1
    refine ⟨?_, ?_, rfl, GX.moved (u := s') (U := T1) X1.warmed hGX', by show Rp X h T1.heap; rw [hT1]; exact hR⟩
    · show 0 + (CAP - h.length) ≤ CAP - h.length; omega
    · show 0 + (CAPS - sl h) ≤ CAPS - sl h; omega
  · intro T1 v ⟨U', l2, k2, s2⟩ hT1 ⟨g', mk', t2, L, e1, e2, hqq, o1, hL, o2, o3⟩ X'
    dsimp only [Pt.U, Pt.locs, Pt.cells, Pt.slots] at X' e1 e2 o1 o2 o3 ⊢
    obtain ⟨hv, hR', hz1, hz2⟩ := hqq
    have hv : v = r.map (tv X) := by cases hv; rfl
    subst o2; subst o3
    rw [Nat.zero_add, Nat.zero_add] at X'
    have hL2 : ∀ q ∈ l2, X.base ≤ q.base := by rw [o1]; exact hL
    have hfin : W p l e (ZR (fr + 1) (8 + (maxL + 11) + lo) h) s' ⟨cK, 1⟩ (.ref (ad X i) :: as.map (tv X)).toArray below methk ck U'.heap l2 (h'.length - h.length) (sl h' - sl h)
        (MQ below (CQ X h r h') (.ref (ad X i) :: as.map (tv X)).toArray s' (h'.length - h.length) (sl h' - sl h) (fun q => X.base ≤ q)) (F0 ⟨cK, 1⟩ (4 * q.fs.length + as.length + 3) ((lg_sl ((vR (some i) :: as).map (tv X)) ++ List.replicate (q.maxL - (lg_sl ((vR (some i) :: as).map (tv X))).length) Slot.unset).toArray) (v.toList ++ [])) := by
      unfold LamR at hRt
      cases b with
      | true =>
        rw [if_pos rfl] at hRt
        have hr : ∃ x, r = some (vI x) := by
          unfold okR at hokr
          split at hokr
          · exact ⟨_, rfl⟩
          · rename_i hbb _; cases hbb
          · cases hokr
        obtain ⟨x, rfl⟩ := hr
        rw [hv]
        exact W.iret (v := x) (hlocks := z11) hx z9 (z13.trans hRt.1) (fun t ht _ => ⟨rfl, by rw [ht, e1]; exact hR', hz1, hz2⟩) hL2 hRt.2
      | false =>
        rw [if_neg (by simp)] at hRt
        have hr : r = none := by
          unfold okR at hokr
          split at hokr
          · rename_i hbb _; cases hbb
          · rfl
          · cases hokr
        subst hr
        rw [hv]
        exact W.vret (hlocks := z11) hx z9 (z13.trans hRt.1) (fun t ht _ => ⟨rfl, by rw [ht, e1]; exact hR', hz1, hz2⟩) hL2 hRt.2
    exact hfin U' rfl X'
end CLf
section CLm
variable {Z : ZT} {cc : ByteArray} {own : String} {nm : MethodName} {nL : Nat} {ret : Option FieldType} {h : AH} {pc : Nat} {st : List TV}
set_option maxHeartbeats 4000000 in
theorem callL_ok (C : Cx Z cc own nL ret nm) {b : Bool} {idx cnt k fr lo maxL n : Nat} {q : LSt} {o : Option Nat} {kt : Option Nat} (hq : mySites[k]? = some (q, o)) {xi : MethodName} (hif : q.if_ = xi) (hl : Cond.methodLink own idx xi ∈ lw_all) {y : MethodName} (hy : q.y = y) {bytes : ByteArray} {rt : Option FieldType} (hm : ML y bytes maxL rt) (hnp : nPar y n) (hitf : q.sh.implItf = false)
    {as : List TV} (has : as.length = q.sh.sam.parameters.length) (hal : tvLen as = as.length) (hmaxL : q.maxL = 1 + as.length) (hst : st.length ≤ 4) {rc : Rf} (hroom : fr + 2 ≤ Z.fr ∧ 8 + (q.maxL + 11) + (8 + (maxL + 11) + lo) ≤ Z.lo) (hdg : decode cc pc = .ok (.invokeinterface idx cnt, 5))
    (hdec : ∀ i ix, q.fs[i]? = some ix → decode q.code (4 * i) = .ok (.aload_n 0, 1) ∧ decode q.code (4 * i + 1) = .ok (.getfield ix, 3)) (hpar : ParsOk q.code (4 * q.fs.length) as) (hT : LamT q y (4 * q.fs.length + as.length) b kt) (hRt : LamR q (4 * q.fs.length + as.length + 3) b rt)
    {G : List Value → AH → Res} (hG : ∀ (X : XT) (l : Launch) caps hh hE r, G caps hh = some (r, hE) → ∃ F' tvs, F' hh = some (r, hE) ∧ caps = tvs.map lamV ∧ tvs.length = q.fs.length ∧ (tvs ++ as).length = (match kt with | none => n | some _ => n + 1) ∧ Ctr X l y bytes maxL rt fr lo F' (tvs ++ as) ∧ ∀ t, kt = some t → ∃ x tv' ex, tvs = vR (some x) :: tv' ∧ hget hh x = some ex ∧ ex.1 = t) :
    Call Z nL h 5 pc (as.reverse ++ vR rc :: st) st (lamF b (96 + k) rc G) := by
  intro h' r lv hF kk
  obtain ⟨i, el, rfl, hel, htl, hGr, hokr⟩ := lamF_spec hF
  obtain ⟨F', tvs, hF', hcaps, htl2, hargn, hM, hrecv⟩ := hG Z.X Z.l _ _ _ _ hGr
  intro a bb ls H locs hlv hR hf T hTH X
  have hcap := hR.2.2.2
  have hts := C.2.2.2.2.2.2.1
  have hGX := C.2.2.2.2.2.2.2.1
  have hws : ∀ w ∈ ws_ y bytes maxL rt, ∀ (a' : Array Value) (U : State), Z.s.WarmedH U.vm → w.before a' U = true := pay_in hts (lw_meth hm.1)
  obtain ⟨hx, hb, hml, hret, hlk, hown, -, -, hnm⟩ := C
  obtain ⟨cell, c1, c2, c3, c4, c5, c6⟩ := hGX.get hR hel
  rw [htl] at c5 c6
  rw [if_neg (by omega)] at c6
  have hkk : k < 1000000 := by have := (List.getElem?_eq_some_iff.mp hq).1; simp [mySites] at this; omega
  have hcc : cell.cls = Z.X.dL k := by
    rw [c5]; unfold clOf; rw [if_neg (by omega), if_neg (by omega)]; congr 1; omega
  have hLam := hGX.lam hq
  have hchk : q.chk = true := mySites_chk _ (List.mem_of_getElem? hq)
  obtain ⟨mD, kD, cf, i0, p0, b', nn, nm', ds, sg, iface, kI, r0, rI, h1, h2, h3, h4, h5, h6, h7, h8, h9, h10, h11, h12, h13, h14, h15, h16, h17, h18, h19, h20, h21⟩ := id hLam
  obtain ⟨kc, tk, file, methk, ck, t', tgt, z1, z2, z3, z4, z5, z6, z7, z8, z9, z10, z11, z12, z13, z14, z15, z16, z17, z18, z19, z20, z21⟩ := made_facts hchk h2 h3 h10 h21
  obtain ⟨D, ms, lay, fw, cd, n0, g1, g2, g3, g4, g5, g6, g7, g8, g9, g10, g11, g12, g13, g14, g15, g16, g17, g18, g19, g20, g21⟩ := LSt.chk_spec hchk
  have hnI : rI.name = q.sh.name ∧ rI.desc = q.sh.sam.toString := name_of_methodNamed h17 h18
  have hsel : selectMethod {} Z.s.vm (Z.X.dL k) r0 = .method ⟨Z.X.dL k, 1⟩ := by
    obtain ⟨_, _, _, _, _, _, _, ifc, _, _, _, _, fnd, -, -, -, -, -, e1, -, -, -, -, -, -, e2, -, -, -, -, -, -, -, -, -, -, e3⟩ := Lambda.isMade_spec h10
    cases e1.symm.trans h12
    cases h16.symm.trans e2
    exact e3
  obtain ⟨ifc, e1, hasg, hway⟩ := State.lambdaCallable_spec h11
  cases h12.symm.trans e1
  have hlenI : rI.sig.parameters.length = q.sh.sam.parameters.length := by
    rw [h20] at g17
    exact Option.some.inj g17
  have estk : (as.reverse ++ vR (some i) :: st).map (tv Z.X) = (as.map (tv Z.X)).reverse ++ .ref (ad Z.X i) :: st.map (tv Z.X) := by rw [List.map_append, List.map_reverse]; rfl
  obtain ⟨vm₁, X₁, hstep₁⟩ := X.invokeinterface hx hown (by rw [hif]; exact hts _ hl) h17 h18 h19 (by rw [h15]; exact h13) h14 g19 (a := ad Z.X i) (cell := cell) (kcell := kc) (by rw [hTH]; exact c1) (fun z hz => by rw [hz] at c2; cases c2) (by rw [hcc]; exact z1) (by rw [hcc, h15]; exact hasg)
    (m' := ⟨Z.X.dL k, 1⟩) (meth' := methk) (by rw [Launch.admits_selectMethod X.admits, hcc]; exact hsel) z7 (by rw [hnI.1, hnI.2, hcc]; exact hway) (by rw [z12]; decide) (by simp [Method.isAbstract, z12, hasFlag, Acc.abstract])
    (g := F0 Z.m pc ls ((as.reverse ++ vR (some i) :: st).map (tv Z.X))) rfl (argsL := as.map (tv Z.X)) (rest := st.map (tv Z.X)) (by rw [List.length_map, has, hlenI]) estk (by rw [hb]; exact hdg)
  have hA := X₁.warmed.alike
  have hmk : (T.setVm vm₁).vm.method? ⟨Z.X.dL k, 1⟩ = some methk := by rw [hA.method?]; exact z7
  obtain ⟨kc1, hkc1, hec1⟩ := hA.2.2 _ _ z1
  have hpk : (T.setVm vm₁).plainMethod ⟨Z.X.dL k, 1⟩ := State.plainMethod.of_name (fun k' hk' => by cases hkc1.symm.trans hk'; rw [hec1]; show plainName kc.name = true; rw [z2]; exact g18)
  have hrst := rest_ok (pc := pc) Z.X hst (ls := ls) (stk := st.map (tv Z.X)) (m := Z.m)
  have hsz1 : (F0 Z.m pc ls (st.map (tv Z.X))).locals.size = Z.c.maxLocals := hlv.1.trans hml.symm
  have hdg1 : decode Z.c.code (F0 Z.m pc ls (st.map (tv Z.X))).pc = .ok (.invokeinterface idx cnt, 5) := by rw [hb]; exact hdg
  obtain ⟨Y₀, hin⟩ := X₁.into (g := F0 Z.m pc ls (st.map (tv Z.X))) rfl hsz1 hdg1 (.ref (ad Z.X i) :: as.map (tv Z.X)).toArray (R' := ZR (fr + 1) (8 + (maxL + 11) + lo) h) hmk z8 z11 hpk
    (by show fr + 1 + 1 ≤ Z.fr; omega) (by rw [z10]; show _ + _ + (q.maxL + 11) + (8 + (maxL + 11) + lo) ≤ Z.lo; have : 2 * (F0 Z.m pc ls (st.map (tv Z.X))).monitorRoom + (((F0 Z.m pc ls (st.map (tv Z.X))).stack).map fun v => v.category).sum ≤ 8 := hrst; omega)
    (by show h.length - Z.h0.length + (CAP - h.length) ≤ CAP - Z.h0.length; omega) (by show sl h - sl Z.h0 + (CAPS - sl h) ≤ CAPS - sl Z.h0; omega)
  have hUh : ((((T.setVm vm₁).setTop (F0 Z.m pc ls (st.map (tv Z.X)))).pushFrame (.java (entryFrame ⟨Z.X.dL k, 1⟩ (.ref (ad Z.X i) :: as.map (tv Z.X)).toArray ck.maxLocals)))).heap = H := by rw [← hTH]; rfl
  generalize hUe : (((T.setVm vm₁).setTop (F0 Z.m pc ls (st.map (tv Z.X)))).pushFrame (.java (entryFrame ⟨Z.X.dL k, 1⟩ (.ref (ad Z.X i) :: as.map (tv Z.X)).toArray ck.maxLocals))) = U at Y₀ hin hUh
  have hs'vm : ((T.setVm vm₁).calling (F0 Z.m pc ls (st.map (tv Z.X))) ⟨Z.X.dL k, 1⟩ (.ref (ad Z.X i) :: as.map (tv Z.X)).toArray).vm = vm₁ := rfl
  generalize hs'e : ((T.setVm vm₁).calling (F0 Z.m pc ls (st.map (tv Z.X))) ⟨Z.X.dL k, 1⟩ (.ref (ad Z.X i) :: as.map (tv Z.X)).toArray) = s' at Y₀ hs'vm
  have hWs : Z.s.WarmedH s'.vm := by rw [hs'vm]; exact X₁.warmed
  have hLam' : lamOk s' q (Z.X.dL k) (lkOf Z.X k o) := lamOk.moved hWs hLam
  have hts' : ∀ w ∈ lw_all, w.before (.ref (ad Z.X i) :: as.map (tv Z.X)).toArray s' = true := fun w hw => hws w (List.mem_cons_of_mem _ hw) _ _ hWs
  have hGX' : GX Z.X s' := hGX.moved hWs
  have hWQ := fw_run (X := Z.X) (e := Z.e) (below := .java (F0 Z.m pc ls (st.map (tv Z.X))) :: Z.below) hx z9 z10 z11 z13 hchk hLam' c1 c3 c6 hcaps htl2 hcap hGX' hR hts' hM hm hF' hy hnp hitf hal hmaxL hdec hpar hT hRt hokr hargn hrecv
  obtain ⟨t, a1, ov, hrun, hend, ⟨hov, hRt', hz1, hz2⟩, L, ⟨⟨v, hvv⟩, hWe, hsame⟩, hLf⟩ := hWQ U hUh Y₀
  subst hov
  subst hs'e
  obtain ⟨T', X', hW', -, ht⟩ := X₁.outOf (g := F0 Z.m pc ls (st.map (tv Z.X))) rfl hdg1 hend hWe hsame
  have ec : h.length - Z.h0.length + (h'.length - h.length) = h'.length - Z.h0.length := by omega
  have es : sl h - sl Z.h0 + (sl h' - sl h) = sl h' - sl Z.h0 := by omega
  rw [ec, es] at X'
  have hTt : T'.heap = t.heap := by rw [ht]; rfl
  have kk := kk (by omega) (by omega) ls T'.heap (locs ++ L) hlv (by rw [hTt]; exact hRt') (fun q hq => by
    rcases List.mem_append.mp hq with z | z
    · exact hf q z
    · exact hLf q z)
  rw [List.map_append, show r.toList.map (tv Z.X) = (r.map (tv Z.X)).toList from by cases r <;> rfl] at kk
  obtain ⟨t2, b1, b2⟩ := kk T' rfl X'
  have st1 : Steps Z.p.tables Z.e Z.below (U.setTop (entryFrame ⟨Z.X.dL k, 1⟩ (.ref (ad Z.X i) :: as.map (tv Z.X)).toArray ck.maxLocals)) t := Steps.weaken (mid := [.java (F0 Z.m pc ls (st.map (tv Z.X)))]) a1
  refine ⟨t2, hstep₁ t2 (fun acts => ?_), b2⟩
  have st2 := st1
  rw [← hin acts, ht] at st2
  exact st2.trans b1
end CLm
theorem lamT_s {q : LSt} {y : MethodName} {n : Nat} {b : Bool} (h1 : decode q.code n = .ok (.invokestatic q.mi, 3)) (h2 : Cond.static y ∈ lw_all) (h3 : q.fs = []) : LamT q y n b none := ⟨h1, h2, h3⟩
theorem lamT_v {q : LSt} {y : MethodName} {n t : Nat} {b : Bool} {cq : vw_C} (h1 : decode q.code n = .ok (.invokevirtual q.mi, 3)) (h2 : Cond.instanceMethod y ∈ lw_all) (h3 : myCl[t]? = some cq) (h4 : Cond.selects cq.1 y y ∈ lw_all) : LamT q y n b (some t) := ⟨h1, h2, cq, h3, h4⟩
theorem lamR_i {q : LSt} {n : Nat} {rt : Option FieldType} (h1 : q.sh.sam.returnType = some .int) (h2 : decode q.code n = .ok (.ireturn, 1)) : LamR q n true rt := by
  unfold LamR
  rw [if_pos rfl]
  exact ⟨h1, h2⟩
theorem lamR_v {q : LSt} {n : Nat} {rt : Option FieldType} (h1 : q.sh.sam.returnType = none) (h2 : decode q.code n = .ok (.return_, 1)) : LamR q n false rt := by
  unfold LamR
  rw [if_neg (by simp)]
  exact ⟨h1, h2⟩
theorem room_l {Z : ZT} {a b f l q mx : Nat} (hfr : Z.fr = a) (hlo : Z.lo = b) (h1 : f + 2 ≤ a) (h2 : 8 + (q + 11) + (8 + (mx + 11) + l) ≤ b) : f + 2 ≤ Z.fr ∧ 8 + (q + 11) + (8 + (mx + 11) + l) ≤ Z.lo := by
  rw [hfr, hlo]; exact ⟨h1, h2⟩
/-- which receiver it is, by its tag -/
def ifTag (t : Nat) (r : Rf) (A B : AH → Res) (h : AH) : Res := match r.bind (hget h) with
  | none => none
  | some e => if e.1 = t then A h else B h
theorem Call.ifTag {Z : ZT} {nL : Nat} {h : AH} {len pc t : Nat} {r : Rf} {stk st : List TV} {A B : AH → Res} (hA : Call Z nL h len pc stk st A) (hB : Call Z nL h len pc stk st B) : Call Z nL h len pc stk st (ifTag t r A B) := by
  intro h' x lv hF kk
  have hF : (match r.bind (hget h) with | none => none | some e => if e.1 = t then A h else B h) = some (x, h') := hF
  split at hF
  · cases hF
  · split at hF
    · exact hA h' x lv hF kk
    · exact hB h' x lv hF kk
def noF (_ : AH) : Res := none
theorem Call.no {Z : ZT} {nL : Nat} {h : AH} {len pc : Nat} {stk st : List TV} : Call Z nL h len pc stk st noF := fun _ _ _ hF _ => by cases hF
