/-! NATIVES: System.arraycopy, clone of an array, getClass, a float's bits; arrays of arrays -/
set_option maxRecDepth 100000
/-- the list l with the values xs from place k on -/
def setRun (l : List Value) (k : Nat) : List Value → List Value
  | [] => l
  | x :: xs => setRun (l.set k x) (k + 1) xs
def strch (l : List Value) (p n : Nat) : List Value := (List.range n).map fun i => l.getD (p + i) .null
theorem setRun_len (xs : List Value) : ∀ (l : List Value) (k : Nat), (setRun l k xs).length = l.length := by
  induction xs with
  | nil => intro l k; rfl
  | cons x xs ih => intro l k; simp [setRun, ih]
theorem setRun_map (f : Value → Value) (xs : List Value) : ∀ (l : List Value) (k : Nat), (setRun l k xs).map f = setRun (l.map f) k (xs.map f) := by
  induction xs with
  | nil => intro l k; rfl
  | cons x xs ih => intro l k; simp [setRun, ih, List.map_set]
theorem run_cell (xs : List Value) : ∀ (c : Cell) (l : List Value) (a i : Nat), c.slots = l.toArray → (c.storePairs a (xs.zipIdx i)).slots = (setRun l (a + i) xs).toArray := by
  induction xs with
  | nil => intro c l a i h; exact h
  | cons x xs ih =>
    intro c l a i h
    rw [List.zipIdx_cons]
    show ((c.setSlot (a + i) x).storePairs a (xs.zipIdx (i + 1))).slots = _
    rw [ih (c.setSlot (a + i) x) (l.set (a + i) x) a (i + 1) (by simp [Cell.setSlot, h])]
    rfl
theorem strch_map (X : XT) (l : List Value) (p n : Nat) : (strch l p n).map (cv X) = strch (l.map (cv X)) p n := by
  simp only [strch, List.map_map]
  apply List.map_congr_left
  intro i _
  simp only [Function.comp, List.getD_eq_getElem?_getD, List.getElem?_map]
  cases l[p + i]? <;> rfl
theorem stretch_eq {c : Cell} {l : List Value} (h : c.slots = l.toArray) (p n : Nat) : c.stretch p n = strch l p n := by
  simp [Cell.stretch, strch, h]
/-- may this value be stored into an array with tag 64 + kt of the component type ty? -/
def okVal (h : AH) (kt : Nat) (ty : FieldType) (v : Value) : Bool := fits ty v && (match v with
  | .ref j => (match hget h j with
    | some e => okEl (64 + kt) e.1
    | none => false)
  | _ => true)
def o_copy (kt : Nat) (ty : FieldType) (r1 : Rf) (sp : Int32) (r2 : Rf) (dp n : Int32) (K : AH → Res) (h : AH) : Res := match r1, r2 with
  | some a, some b => match hget h a, hget h b with
    | some e1, some e2 =>
      if e1.1 = 64 + kt ∧ e2.1 = 64 + kt ∧ 1024 ≤ b ∧ (¬ sp < 0 ∧ ¬ dp < 0 ∧ ¬ n < 0) ∧ sp.toNatClampNeg + n.toNatClampNeg ≤ e1.2.length ∧ dp.toNatClampNeg + n.toNatClampNeg ≤ e2.2.length ∧ (strch e1.2 sp.toNatClampNeg n.toNatClampNeg).all (okVal h kt ty) = true
      then K (hset h b (64 + kt, setRun e2.2 dp.toNatClampNeg (strch e1.2 sp.toNatClampNeg n.toNatClampNeg))) else none
    | _, _ => none
  | _, _ => none
def o_clone (kt : Nat) (ty : FieldType) (r : Rf) (K : Rf → AH → Res) (h : AH) : Res := match r.bind (hget h) with
  | none => none
  | some e => if e.1 = 64 + kt ∧ e.2.all (fun v => fits ty v) = true then o_new (64 + kt) e.2 K h else none
def o_mna (kt ki : Nat) (d : Value) (n k : Int32) (K : Rf → AH → Res) (h : AH) : Res :=
  if n ≤ 0 ∨ k < 0 then none
  else if h.length + (1 + n.toNatClampNeg) ≤ CAP ∧ sl h + (n.toNatClampNeg + n.toNatClampNeg * k.toNatClampNeg) ≤ CAPS then
    K (some (1024 + h.length)) (h ++ [(64 + kt, (List.range n.toNatClampNeg).map (fun j => Value.ref (1024 + h.length + 1 + j)))] ++ List.replicate n.toNatClampNeg (64 + ki, List.replicate k.toNatClampNeg d))
  else none
/-- a new object of class Object[]'s class object: the address is old place 4 -/
def o_getC (t : Nat) (r : Rf) (K : Rf → AH → Res) (h : AH) : Res := match r.bind (hget h) with
  | none => none
  | some e => if e.1 = t then K (some 4) h else none
section NV
variable {Z : ZT} {cc : ByteArray} {own : String} {nm : MethodName} {nL : Nat} {ret : Option FieldType} {h : AH} {pc : Nat} {lv : List (Nat × TV)} {st : List TV}
theorem r_ldcM (C : Cx Z cc own nL ret nm) {idx : Nat} (hq : Cond.classLink own idx "[Ljava/lang/Object;" ∈ lw_all) (hdg : decode cc pc = .ok (.ldc idx, 2)) (k : V Z nL h (pc + 2) lv (vR (some 4) :: st)) : V Z nL h pc lv st := by
  intro a b ls H locs hl hR hf
  have k := k a b ls H locs hl hR hf
  obtain ⟨hx, hb, hml, hret, hlk, hown, hts, hG, hnm⟩ := C
  exact va_ldcM hx hb hown (hts _ hq) hG.2.2.2.2.2.2.2.2.2.1 hdg k
theorem r_f2raw (C : Cx Z cc own nL ret nm) {idx : Nat} (q1 : Cond.methodLink own idx ⟨"java/lang/Float", "floatToRawIntBits", "(F)I"⟩ ∈ lw_all) (q2 : Cond.native ⟨"java/lang/Float", "floatToRawIntBits", "(F)I"⟩ ∈ lw_all) (q3 : Cond.static ⟨"java/lang/Float", "floatToRawIntBits", "(F)I"⟩ ∈ lw_all) (q4 : Cond.initialized "java/lang/Float" ∈ lw_all) {x : UInt32} (hroom : 1 ≤ Z.fr ∧ 24 ≤ Z.lo) (hst : st.length ≤ 4) (hdg : decode cc pc = .ok (.invokestatic idx, 3)) (k : V Z nL h (pc + 3) lv (vI x.toInt32 :: st)) : V Z nL h pc lv (vF x :: st) := by
  intro a b ls H locs hl hR hf
  have k := k a b ls H locs hl hR hf
  have h8 : 2 * 0 + ((st.map (tv Z.X)).map fun v => v.category).sum ≤ 8 := rest_ok (pc := pc) Z.X hst (ls := ls) (stk := []) (m := Z.m)
  obtain ⟨hx, hb, hml, hret, hlk, hown, hts, hG, hnm⟩ := C
  refine vn_f2i hx hb (hml.trans hl.1.symm) hown (hts _ q1) (hts _ q2) (hts _ q3) (hts _ q4) hroom.1 ?_ hdg k
  show _ + 15 ≤ Z.lo
  omega
theorem r_getC (C : Cx Z cc own nL ret nm) {idx : Nat} (q1 : Cond.methodLink own idx ⟨"java/lang/Object", "getClass", "()Ljava/lang/Class;"⟩ ∈ lw_all) (q2 : Cond.declares ⟨"java/lang/Object", "getClass", "()Ljava/lang/Class;"⟩ ∈ lw_tbl) (q3 : Cond.selects "[Ljava/lang/Object;" ⟨"java/lang/Object", "getClass", "()Ljava/lang/Class;"⟩ ⟨"java/lang/Object", "getClass", "()Ljava/lang/Class;"⟩ ∈ lw_all) (q4 : Cond.instanceMethod ⟨"java/lang/Object", "getClass", "()Ljava/lang/Class;"⟩ ∈ lw_all) (q5 : Cond.native ⟨"java/lang/Object", "getClass", "()Ljava/lang/Class;"⟩ ∈ lw_all) {r : Rf} {K : Rf → AH → Res} (hroom : 1 ≤ Z.fr ∧ 24 ≤ Z.lo) (hst : st.length ≤ 4) (hdg : decode cc pc = .ok (.invokevirtual idx, 3)) (hrun : o_getC 69 r K h = Z.res) (kk : ∀ x, K x h = Z.res → V Z nL h (pc + 3) lv (vR x :: st)) : V Z nL h pc lv (vR r :: st) := by
  unfold o_getC at hrun
  split at hrun
  · cases hrun
  rename_i e hb0
  split at hrun
  case isFalse => cases hrun
  rename_i ht
  cases r with
  | none => cases hb0
  | some i =>
  simp only [Option.bind_some] at hb0
  intro a b ls H locs hl hR hf
  have k := kk _ hrun a b ls H locs hl hR hf
  have h8 : 2 * 0 + ((st.map (tv Z.X)).map fun v => v.category).sum ≤ 8 := rest_ok (pc := pc) Z.X hst (ls := ls) (stk := []) (m := Z.m)
  obtain ⟨hx, hb, hml, hret, hlk, hown, hts, hG, hnm⟩ := C
  obtain ⟨cell, g1, g2, g3, g4, g5, g6, g7⟩ := arr_of (k := 5) hG rfl ht (hG.get hR hb0)
  obtain ⟨kA, comp, m1, m2, m3, -⟩ := hG.2.2.2.1 5 _ rfl
  refine va_getC hx hb (hml.trans hl.1.symm) hown (hts _ q1) (va_Nw.use rfl (hG.2.2.2.2.2.2.1 _ q2 rfl)) (hts _ q3) (hts _ q4) (hts _ q5) hG.2.2.2.2.2.2.2.2.2.1 ⟨cell, g1, g7, by rw [g6]; exact m3 (by decide)⟩ hroom.1 ?_ hdg k
  show _ + 14 ≤ Z.lo
  omega
theorem nn32 (z : Int32) (hz : ¬ z < 0) : z.toInt = (z.toNatClampNeg : Int) := by
  have hz0 : (0 : Int) ≤ z.toInt := by
    have := Int32.not_lt.mp hz
    simpa using Int32.le_iff_toInt_le.mp this
  show z.toInt = ((z.toInt.toNat : Nat) : Int)
  omega
theorem r_copy (C : Cx Z cc own nL ret nm) {idx : Nat} (kt : Nat) {ty : FieldType} (hty : myTy[kt]? = some ty) (hkt : kt < 9) (q1 : Cond.methodLink own idx arraycopyName ∈ lw_all) (q2 : Cond.native arraycopyName ∈ lw_all) (q3 : Cond.static arraycopyName ∈ lw_all) (q4 : Cond.initialized "java/lang/System" ∈ lw_all) {r1 r2 : Rf} {sp dp n : Int32} {K : AH → Res} (hroom : 1 ≤ Z.fr ∧ 32 ≤ Z.lo) (hst : st.length ≤ 4) (hdg : decode cc pc = .ok (.invokestatic idx, 3)) (hrun : o_copy kt ty r1 sp r2 dp n K h = Z.res) (kk : ∀ h1, K h1 = Z.res → V Z nL h1 (pc + 3) lv st) : V Z nL h pc lv (vI n :: vI dp :: vR r2 :: vI sp :: vR r1 :: st) := by
  unfold o_copy at hrun
  split at hrun
  case h_2 => cases hrun
  rename_i i j
  split at hrun
  case h_2 => cases hrun
  rename_i e1 e2 he1 he2
  split at hrun
  case isFalse => cases hrun
  rename_i hcond
  obtain ⟨ht1, ht2, hj1, ⟨h1, h2, h3⟩, h4, h5, hall⟩ := hcond
  intro a b ls H locs hl hR hf
  have hlen : (hset h j (64 + kt, setRun e2.2 dp.toNatClampNeg (strch e1.2 sp.toNatClampNeg n.toNatClampNeg))).length = h.length := by simp [hset]
  have hgl : h[j - 1024]? = some e2 := by unfold hget at he2; rw [if_pos hj1] at he2; exact he2
  have hsl0 : sl (hset h j (64 + kt, setRun e2.2 dp.toNatClampNeg (strch e1.2 sp.toNatClampNeg n.toNatClampNeg))) = sl h := sl_set hgl (by simp [setRun_len])
  have kk := kk _ hrun (by rw [hlen]; exact a) (by rw [hsl0]; exact b) ls
  rw [hlen, hsl0] at kk
  have h8 : 2 * 0 + ((st.map (tv Z.X)).map fun v => v.category).sum ≤ 8 := rest_ok (pc := pc) Z.X hst (ls := ls) (stk := []) (m := Z.m)
  obtain ⟨hx, hb, hml, hret, hlk, hown, hts, hG, hnm⟩ := C
  obtain ⟨cs, f1, f2, f3, f4, f5, f6, f7⟩ := arr_of hG hty ht1 (hG.get hR he1)
  obtain ⟨cd, g1, g2, g3, g4, g5, g6, g7⟩ := arr_of hG hty ht2 (hG.get hR he2)
  obtain ⟨kA, comp, m1, m2, m3, m4⟩ := hG.2.2.2.1 kt _ hty
  have hbase : Z.X.base ≤ ad Z.X j := by rw [ad_new _ hj1]; omega
  intro T hT X
  obtain ⟨vm', X', step⟩ := X.arraycopy hx hown (hts _ q1) (hts _ q2) (hts _ q3) (hts _ q4) (src := ad Z.X i) (dst := ad Z.X j) (cs := cs) (cd := cd) (srcPos := sp) (destPos := dp) (n := n) (by rw [hT]; exact f1) (by rw [hT]; exact g1)
    (fun z hz => by rw [hz] at f7; cases f7) (fun z hz => by rw [hz] at g7; cases g7) f3 g3 (by rw [f6]; exact m1) (by rw [g6]; exact m1) m2 m2 (by simp) h1 h2 h3
    (by rw [nn32 sp h1, nn32 n h3, f4]; simp; omega)
    (by rw [nn32 dp h2, nn32 n h3, g4]; simp; omega)
    (fun vm₁ hal i0 hi0 => by
      have ev : cs.slots.getD (sp.toNatClampNeg + i0) .null = cv Z.X (e1.2.getD (sp.toNatClampNeg + i0) .null) := by
        rw [f4]
        simp only [Array.getD_eq_getD_getElem?, List.getElem?_toArray, List.getElem?_map, List.getD_eq_getElem?_getD]
        cases e1.2[sp.toNatClampNeg + i0]? <;> rfl
      have hok : okVal h kt ty (e1.2.getD (sp.toNatClampNeg + i0) .null) = true := by
        have := List.all_eq_true.mp hall (e1.2.getD (sp.toNatClampNeg + i0) .null) (by
          unfold strch
          exact List.mem_map.mpr ⟨i0, List.mem_range.mpr hi0, rfl⟩)
        exact this
      rw [ev]
      generalize e1.2.getD (sp.toNatClampNeg + i0) .null = v at hok ⊢
      unfold okVal at hok
      rw [Bool.and_eq_true] at hok
      obtain ⟨ho1, ho2⟩ := hok
      cases v with
      | ref q =>
        simp only at ho2
        cases hq : hget h q with
        | none => rw [hq] at ho2; cases ho2
        | some eq =>
          rw [hq] at ho2
          obtain ⟨y1, ⟨kv, y2⟩, ⟨kc, y3⟩, y4⟩ := asg_ok hG hty ho2 (m4 hkt)
          obtain ⟨cq, p1, p2, p3, p4, p5, p6⟩ := hG.get hR hq
          obtain ⟨kv', hkv', -⟩ := hal.2.2 _ _ y2
          obtain ⟨kc', hkc', -⟩ := hal.2.2 _ _ y3
          refine ⟨?_, cq, (show T.heap[ad Z.X q]? = some cq by rw [hT]; exact p1), (fun z hz => by rw [hz] at p2; cases p2), ⟨kv', by rw [p5]; exact hkv'⟩, ⟨kc', hkc'⟩, ?_⟩
          · show fits ty (.ref (ad Z.X q)) = true
            cases ty <;> first | rfl | (cases ho1; done)
          · show vm₁.assignable _ _ = true
            rw [hal.assignable, p5]
            exact y1
      | _ => exact ⟨ho1, trivial⟩)
    (g := F0 Z.m pc ls (.int n :: .int dp :: .ref (ad Z.X j) :: .int sp :: .ref (ad Z.X i) :: st.map (tv Z.X))) rfl (by show ls.size = _; rw [hml]; exact hl.1) (rest := st.map (tv Z.X)) rfl (by rw [hb]; exact hdg) hroom.1 (by
      show 2 * 0 + _ + (nativeFrameWords "java/lang/System" "arraycopy" 5 + 11) ≤ Z.lo
      have hw : nativeFrameWords "java/lang/System" "arraycopy" 5 = 7 := by decide
      omega)
  have hcp : (copied cs cd sp dp n).slots = ((setRun e2.2 dp.toNatClampNeg (strch e1.2 sp.toNatClampNeg n.toNatClampNeg)).map (cv Z.X)).toArray := by
    have e1' : copied cs cd sp dp n = cd.storePairs dp.toNatClampNeg ((cs.stretch sp.toNatClampNeg n.toNatClampNeg).zipIdx 0) := rfl
    rw [e1', stretch_eq f4, run_cell _ cd (e2.2.map (cv Z.X)) _ 0 g4, setRun_map, strch_map]
    rfl
  have hfc := Cell.storePairs_facts cd dp.toNatClampNeg ((cs.stretch sp.toNatClampNeg n.toNatClampNeg).zipIdx 0)
  have hc1 : (copied cs cd sp dp n).cls = cd.cls := hfc.1
  have hc2 : (copied cs cd sp dp n).vm = cd.vm := hfc.2.1
  have hlt : ad Z.X j < H.size := (Array.getElem?_eq_some_iff.mp g1).1
  have hheap : ((T.setVm vm').setCell (ad Z.X j) (copied cs cd sp dp n)).heap = H.setIfInBounds (ad Z.X j) (copied cs cd sp dp n) := by rw [← hT]; rfl
  have hk10 : kt < 10 := by omega
  have kk := kk _ (locs ++ (cs.stretch sp.toNatClampNeg n.toNatClampNeg).zipIdx.map fun q => ⟨ad Z.X j, dp.toNatClampNeg + q.2⟩) hl (hR.set (H1 := H.setIfInBounds (ad Z.X j) (copied cs cd sp dp n)) (e := (64 + kt, setRun e2.2 dp.toNatClampNeg (strch e1.2 sp.toNatClampNeg n.toNatClampNeg))) hj1 he2 (by simp [setRun_len]) (by simp) (fun q hq => by simp [Array.getElem?_setIfInBounds, Ne.symm hq])
    ⟨copied cs cd sp dp n, by simp [Array.getElem?_setIfInBounds, hlt], by rw [hc2]; exact g7, by rw [hc2]; exact g3, fun z => by rw [hc2]; exact g5 z, by
      rw [hc1, g6]; unfold clOf
      rw [if_neg (by show ¬ 64 + kt < 64; omega), if_pos (by show 64 + kt < 96; omega)]
      show _ = Z.X.dA (64 + kt - 64)
      rw [Nat.add_sub_cancel_left], by
      rw [if_neg (by show ¬ 64 + kt < 64; omega)]
      exact hcp⟩)
    (fun q hq => by
      rcases List.mem_append.mp hq with z | z
      · exact hf q z
      · obtain ⟨y, -, hy⟩ := List.mem_map.mp z
        rw [← hy]
        exact hbase)
  obtain ⟨t2, a1, b1⟩ := kk _ hheap X'
  exact ⟨t2, step t2 a1, b1⟩
theorem r_clone (C : Cx Z cc own nL ret nm) {idx : Nat} (kt : Nat) {ty : FieldType} (hty : myTy[kt]? = some ty) (hkt : kt < 9) {ac : String} (hac : "[" ++ ty.toString = ac) (q1 : Cond.methodLink own idx ⟨ac, "clone", "()Ljava/lang/Object;"⟩ ∈ lw_all) (q2 : Cond.sameMethod ac "java/lang/Object" "clone" "()Ljava/lang/Object;" ∈ lw_all) (q3 : Cond.native ⟨"java/lang/Object", "clone", "()Ljava/lang/Object;"⟩ ∈ lw_all) (q4 : Cond.instanceMethod ⟨"java/lang/Object", "clone", "()Ljava/lang/Object;"⟩ ∈ lw_all) (q5 : Cond.selects ac ⟨ac, "clone", "()Ljava/lang/Object;"⟩ ⟨"java/lang/Object", "clone", "()Ljava/lang/Object;"⟩ ∈ lw_all) (q6 : Cond.castable ac "java/lang/Cloneable" ∈ lw_tbl) {r : Rf} {K : Rf → AH → Res} (hroom : 1 ≤ Z.fr ∧ 32 ≤ Z.lo) (hst : st.length ≤ 4) (hdg : decode cc pc = .ok (.invokevirtual idx, 3)) (hrun : o_clone kt ty r K h = Z.res) (kk : ∀ x h1, K x h1 = Z.res → V Z nL h1 (pc + 3) lv (vR x :: st)) : V Z nL h pc lv (vR r :: st) := by
  unfold o_clone at hrun
  split at hrun
  · cases hrun
  rename_i e he
  split at hrun
  case isFalse => cases hrun
  rename_i hcond
  obtain ⟨ht, hfit⟩ := hcond
  unfold o_new at hrun
  split at hrun
  case isFalse => cases hrun
  rename_i hcap
  cases r with
  | none => cases he
  | some i =>
  simp only [Option.bind_some] at he
  intro a b ls H locs hl hR hf
  have kk := kk _ _ hrun
  have h8 : 2 * 0 + ((st.map (tv Z.X)).map fun v => v.category).sum ≤ 8 := rest_ok (pc := pc) Z.X hst (ls := ls) (stk := []) (m := Z.m)
  obtain ⟨hx, hb, hml, hret, hlk, hown, hts, hG, hnm⟩ := C
  obtain ⟨cs, f1, f2, f3, f4, f5, f6, f7⟩ := arr_of hG hty ht (hG.get hR he)
  obtain ⟨kA, comp, m1, m2, m3, m4⟩ := hG.2.2.2.1 kt _ hty
  have hcn : Z.s.vm.findClass ac = some cs.cls := by rw [f6, ← hac]; exact m3 hkt
  obtain ⟨c0, t0, g1, g2, g3⟩ := Cond.castable_spec (va_Nw.use (A := Z.args) rfl (hG.2.2.2.2.2.2.1 _ q6 rfl))
  cases hcn.symm.trans g1
  have hHs : H.size = Z.X.base + h.length := hR.2.1
  have hsz : cs.slots.size = e.2.length := by rw [f4]; simp
  have hadr : ad Z.X (1024 + h.length) = H.size := by rw [ad_new _ (by omega), hHs]; omega
  intro T hT X
  obtain ⟨kA', hkA', hbare⟩ := X.warmed.alike.2.2 _ _ m1
  have hkind' : kA'.kind = .array comp ty := by rw [hbare]; exact m2
  obtain ⟨vm', X', stp⟩ := X.cloneArray hx hown (hts _ q1) (hts _ q2) (hts _ q3) (hts _ q4) (hts _ q5) (a := ad Z.X i) (cell := cs) (by rw [hT]; exact f1) (fun z hz => by rw [hz] at f7; cases f7) f3 hcn g2 g3
    (fun i0 v hv => by
      have hv2 : v ∈ (e.2.map (cv Z.X)) := by
        rw [f4] at hv
        simp only [List.getElem?_toArray] at hv
        exact List.mem_of_getElem? hv
      obtain ⟨v0, hv0, rfl⟩ := List.mem_map.mp hv2
      have hfv := List.all_eq_true.mp hfit v0 hv0
      have hfv2 : fits ty (cv Z.X v0) = true := by
        cases v0 with
        | ref q =>
          show fits ty (.ref (ad Z.X q)) = true
          cases ty <;> first | rfl | (cases hfv; done)
        | _ => exact hfv
      have hk' : T.vm.classes[Z.X.dA kt]? = some kA' := hkA'
      rw [f6]
      simpa [State.fitsSlot, State.slotType?, hk', hkind'] using hfv2)
    (g := F0 Z.m pc ls (.ref (ad Z.X i) :: st.map (tv Z.X))) rfl (by show ls.size = _; rw [hml]; exact hl.1) rfl (by rw [hb]; exact hdg) hroom.1 (by show 2 * 0 + _ + 14 ≤ Z.lo; omega) (by show _ ≤ CAP - _; omega) (by rw [hsz]; show _ ≤ CAPS - _; omega) (hloader := by rw [f6]; exact Vm.clonesLoader_of_array m1 m2)
  have hR1 : Rp Z.X (h ++ [(64 + kt, e.2)]) (H.push { cls := cs.cls, slots := cs.slots }) := by
    refine hR.push (by simp) (fun q hq => by rw [Array.getElem?_push, if_neg (Nat.ne_of_lt hq)]) ⟨_, (by simp; rfl), rfl, (fun z => by cases z), fun _ => rfl, ?_, ?_⟩ hcap.1 hcap.2
    · show cs.cls = clOf Z.X (64 + kt)
      rw [f6]; unfold clOf
      rw [if_neg (by omega), if_pos (by omega), Nat.add_sub_cancel_left]
    · rw [if_neg (by show ¬ 64 + kt < 64; omega)]
      exact f4
  have hgo := V.grow a b kk hl hR1 hf
  rw [List.map_cons, show tv Z.X (vR (some (1024 + h.length))) = .ref H.size from congrArg Value.ref hadr] at hgo
  rw [hsz] at X'
  obtain ⟨t, b1, b2⟩ := hgo _ (by rw [← hT]; rfl) X'
  exact ⟨t, stp t (by rw [← hT] at b1; exact b1), b2⟩
end NV
section MN
variable {Z : ZT} {cc : ByteArray} {own : String} {nm : MethodName} {nL : Nat} {ret : Option FieldType} {h : AH} {pc : Nat} {lv : List (Nat × TV)} {st : List TV}
theorem sl_rep (h : AH) (n : Nat) (e : AE) : sl (h ++ List.replicate n e) = sl h + n * e.2.length := by
  simp [sl]
theorem Rp.many {X : XT} {h : AH} {H : Heap} {es : AH} {H1 : Heap} (hR : Rp X h H) (h1 : H1.size = H.size + es.length) (h2 : ∀ q, q < H.size → H1[q]? = H[q]?) (h3 : ∀ j e, es[j]? = some e → atA X (H.size + j) e H1) (hc : h.length + es.length ≤ CAP) (hs : sl (h ++ es) ≤ CAPS) : Rp X (h ++ es) H1 := by
  obtain ⟨a1, a2, a3, a4, a5⟩ := hR
  refine ⟨fun q hq => (h2 q (by omega)).trans (a1 q hq), by rw [h1, a2]; simp; omega, fun j x hj => ?_, by simp; omega, hs⟩
  by_cases hl : j < h.length
  · rw [List.getElem?_append_left hl] at hj
    exact (a3 j x hj).kept (h2 _ (a3 j x hj).lt)
  · rw [List.getElem?_append_right (by omega)] at hj
    have := h3 _ _ hj
    rw [a2] at this
    rw [show X.base + j = X.base + h.length + (j - h.length) by omega]
    exact this
theorem r_mna (C : Cx Z cc own nL ret nm) {idx : Nat} (kt ki : Nat) {ty : FieldType} (hkt : kt < 9) (hki : ki < 9) (hty : myTy[kt]? = some (.array ty)) (hti : myTy[ki]? = some ty) (heq : "[" ++ ty.toString = (FieldType.array ty).toString) {cn : String} (hcn : "[" ++ (FieldType.array ty).toString = cn) (q1 : Cond.classLink own idx cn ∈ lw_all) (q2 : Cond.arrayOver (.array ty) ∈ lw_tbl) (q3 : Cond.arrayClass ty ∈ lw_all) {d : Value} (hd : defaultValue ty = d) (hdf : fits ty (defaultValue ty) = true) (hdd : (defaultValue ty).isDefault = true) {n k : Int32} {K : Rf → AH → Res} (hdg : decode cc pc = .ok (.multianewarray idx 2, 4)) (hrun : o_mna kt ki d n k K h = Z.res) (kk : ∀ r h1, K r h1 = Z.res → V Z nL h1 (pc + 4) lv (vR r :: st)) : V Z nL h pc lv (vI k :: vI n :: st) := by
  unfold o_mna at hrun
  split at hrun
  · cases hrun
  rename_i hnk
  rw [not_or] at hnk
  split at hrun
  case isFalse => cases hrun
  rename_i hcap
  intro a b ls H locs hl hR hf
  have kk := kk _ _ hrun
  obtain ⟨hx, hb, hml, hret, hlk, hown, hts, hG, hnm⟩ := C
  have hHs : H.size = Z.X.base + h.length := hR.2.1
  have hadr : ad Z.X (1024 + h.length) = H.size := by rw [ad_new _ (by omega), hHs]; omega
  have hcs : n.toNatClampNeg ≤ 5501098 := by have := hcap.2; unfold CAPS at this; omega
  have hb1 : n.toNatClampNeg * 4 ≤ 536870912 := Nat.le_trans (Nat.mul_le_mul hcs (Nat.le_refl 4)) (Nat.le_of_ble_eq_true rfl)
  have hn0 : 0 < n.toNatClampNeg := by
    have h1 := hnk.1
    rw [Int32.le_iff_toInt_le] at h1
    have h2 : (0 : Int32).toInt = 0 := by decide
    have h3 : n.toNatClampNeg = n.toInt.toNat := rfl
    omega
  have hnn : ¬ n < 0 := fun z => hnk.1 (Int32.le_of_lt z)
  have hks : k.toNatClampNeg ≤ 5501098 := by
    have h1 := hcap.2
    unfold CAPS at h1
    have : 1 * k.toNatClampNeg ≤ n.toNatClampNeg * k.toNatClampNeg := Nat.mul_le_mul_right _ (by omega)
    omega
  have hb2 : k.toNatClampNeg * componentBytes ty ≤ 536870912 := Nat.le_trans (Nat.mul_le_mul hks (bytes_le ty)) (Nat.le_of_ble_eq_true rfl)
  intro T hT X
  obtain ⟨vm₁, cA, comp, hW, hfA, hfC, hO, hI, X1, step⟩ := X.multianewarray2F hx hown (by rw [hcn]; exact hts _ q1) (over_moved (Vm.Alike.refl Z.s.vm) (hG.2.2.2.2.2.2.1 _ q2 rfl)) (hts _ q3) (g := F0 Z.m pc ls (.int k :: .int n :: st.map (tv Z.X))) rfl (by rw [hb]; exact hdg) rfl hnn hnk.2 hb1 hb2 (Nat.le_trans hks (Nat.le_of_ble_eq_true rfl)) hdf hdd (by show _ ≤ CAP - _; omega) (by show _ ≤ CAPS - _; omega)
  obtain ⟨kA, cmp, m1, m2, m3, m4⟩ := hG.2.2.2.1 kt _ hty
  obtain ⟨kB, cmp2, n1, n2, n3, n4⟩ := hG.2.2.2.1 ki _ hti
  have hcA : cA = Z.X.dA kt := Option.some.inj (hfA.symm.trans (m3 hkt))
  have hcC : comp = Z.X.dA ki := Option.some.inj (hfC.symm.trans (by rw [← heq]; exact n3 hki))
  have hff := Jvm.Free.Multi.fill_facts (T.setVm vm₁) cA comp n.toNatClampNeg k.toNatClampNeg (defaultValue ty) n.toNatClampNeg
  have hfo := fun (a : Addr) (ha : a < (T.setVm vm₁).heap.size) => Jvm.Free.Multi.fill_old (T.setVm vm₁) cA comp n.toNatClampNeg k.toNatClampNeg (defaultValue ty) ha n.toNatClampNeg
  have hfi := Jvm.Free.Multi.fill_inner (T.setVm vm₁) cA comp n.toNatClampNeg k.toNatClampNeg (defaultValue ty) n.toNatClampNeg
  generalize Jvm.Free.Multi.fill (T.setVm vm₁) cA comp n.toNatClampNeg k.toNatClampNeg (defaultValue ty) n.toNatClampNeg = T2 at X1 step hff hfo hfi
  have hTs : (T.setVm vm₁).heap = H := hT
  rw [hTs] at hff hfo hfi
  have hslot := Jvm.Free.Multi.outerC_slot cA n.toNatClampNeg H.size n.toNatClampNeg
  obtain ⟨of1, of2, of3⟩ := Jvm.Free.Multi.outerC_facts cA n.toNatClampNeg H.size n.toNatClampNeg
  generalize Jvm.Free.Multi.outerC cA n.toNatClampNeg H.size n.toNatClampNeg = OC at hff hslot of1 of2 of3
  have hR1 : Rp Z.X (h ++ ([(64 + kt, (List.range n.toNatClampNeg).map (fun j => Value.ref (1024 + h.length + 1 + j)))] ++ List.replicate n.toNatClampNeg (64 + ki, List.replicate k.toNatClampNeg d))) T2.heap := by
    refine hR.many (by rw [hff.1]; simp; omega) (fun q hq => hfo q hq) (fun j e hj => ?_) (by simp; omega) ?_
    · cases j with
      | zero =>
        simp only [List.singleton_append, List.getElem?_cons_zero, Option.some.injEq] at hj
        subst hj
        refine ⟨OC, by rw [Nat.add_zero]; exact hff.2.1, by rw [of2]; rfl, (by rw [of2]; exact (fun z => by cases z)), fun _ => of2, ?_, ?_⟩
        · rw [of1, hcA]; unfold clOf
          rw [if_neg (by show ¬ 64 + kt < 64; omega), if_pos (by show 64 + kt < 96; omega)]
          show _ = Z.X.dA (64 + kt - 64)
          rw [Nat.add_sub_cancel_left]
        · rw [if_neg (by show ¬ 64 + kt < 64; omega)]
          apply Array.ext_getElem?
          intro i
          by_cases hi : i < n.toNatClampNeg
          · rw [hslot i hi, if_pos hi]
            simp only [List.getElem?_toArray, List.getElem?_map, List.getElem?_range hi, Option.map_some]
            show some (Value.ref _) = some (Value.ref (ad Z.X _))
            rw [ad_new Z.X (show 1024 ≤ 1024 + List.length h + 1 + i by omega)]
            refine congrArg (fun z : Nat => some (Value.ref z)) ?_
            have e3 : Array.size H = Z.X.base + List.length h := hHs
            rw [e3]
            omega
          · rw [Array.getElem?_eq_none (by omega)]
            simp only [List.getElem?_toArray]
            rw [List.getElem?_eq_none (by simp; omega)]
      | succ j =>
        simp only [List.singleton_append, List.getElem?_cons_succ] at hj
        have hjn : j < n.toNatClampNeg := by
          have := (List.getElem?_eq_some_iff.mp hj).1
          simpa using this
        rw [List.getElem?_replicate, if_pos hjn] at hj
        cases hj
        have hin := hfi j hjn
        refine ⟨Jvm.Free.Multi.innerC comp k.toNatClampNeg (defaultValue ty), by rw [show H.size + (j + 1) = H.size + 1 + j by omega]; exact hin, rfl, (fun z => by cases z), fun _ => rfl, ?_, ?_⟩
        · show comp = _
          rw [hcC]; unfold clOf
          rw [if_neg (by show ¬ 64 + ki < 64; omega), if_pos (by show 64 + ki < 96; omega)]
          show _ = Z.X.dA (64 + ki - 64)
          rw [Nat.add_sub_cancel_left]
        · rw [if_neg (by show ¬ 64 + ki < 64; omega)]
          show Array.replicate _ _ = _
          subst hd
          simp [cv_default]
    · rw [← List.append_assoc, sl_rep, sl_append]
      simp
      omega
  rw [← List.append_assoc] at hR1
  have kk := kk (by simp; omega) (by rw [sl_rep, sl_append]; simp; omega) ls T2.heap locs hl hR1 hf
  have ec : (h ++ [(64 + kt, (List.range n.toNatClampNeg).map (fun j => Value.ref (1024 + h.length + 1 + j)))] ++ List.replicate n.toNatClampNeg (64 + ki, List.replicate k.toNatClampNeg d)).length - Z.h0.length = h.length - Z.h0.length + 1 + n.toNatClampNeg := by simp; omega
  have es : sl (h ++ [(64 + kt, (List.range n.toNatClampNeg).map (fun j => Value.ref (1024 + h.length + 1 + j)))] ++ List.replicate n.toNatClampNeg (64 + ki, List.replicate k.toNatClampNeg d)) - sl Z.h0 = sl h - sl Z.h0 + n.toNatClampNeg + n.toNatClampNeg * k.toNatClampNeg := by
    rw [sl_rep, sl_append]
    simp
    omega
  rw [ec, es, List.map_cons, show tv Z.X (vR (some (1024 + h.length))) = .ref H.size from congrArg Value.ref hadr] at kk
  obtain ⟨t, b1, b2⟩ := kk T2 rfl X1
  exact ⟨t, step t (by rw [hT]; exact b1), b2⟩
end MN
