/-! BASE: the abstract heap, its picture in the machine's heap, the judgement V, a row an instruction -/
set_option maxRecDepth 100000
abbrev AE : Type := Nat × List Value
abbrev AH : Type := List AE
abbrev Rf : Type := Option Nat
/-- typed values of locals and of the operand stack: int, long, float, reference -/
abbrev TV : Type := Int32 ⊕ (Int64 ⊕ (UInt32 ⊕ Rf))
abbrev vI (x : Int32) : TV := Sum.inl x
abbrev vJ (x : Int64) : TV := Sum.inr (Sum.inl x)
abbrev vF (x : UInt32) : TV := Sum.inr (Sum.inr (Sum.inl x))
abbrev vR (x : Rf) : TV := Sum.inr (Sum.inr (Sum.inr x))
abbrev Res : Type := Option (Option TV × AH)
def CAP : Nat := 1200128
def CAPS : Nat := 5501098
def sl (h : AH) : Nat := (h.map (fun e => e.2.length)).sum
/-- base address, the heap at the law's entry, addresses of the old objects, classes, array classes, lambda classes, the script -/
abbrev XT : Type := Nat × Heap × (Nat → Nat) × va_G × (Nat → ClassId) × (Nat → ClassId) × List Int32
abbrev XT.base (X : XT) : Nat := X.1
abbrev XT.H0 (X : XT) : Heap := X.2.1
abbrev XT.pre (X : XT) : Nat → Nat := X.2.2.1
abbrev XT.D (X : XT) : va_G := X.2.2.2.1
abbrev XT.dA (X : XT) : Nat → ClassId := X.2.2.2.2.1
abbrev XT.dL (X : XT) : Nat → ClassId := X.2.2.2.2.2.1
abbrev XT.xs (X : XT) : List Int32 := X.2.2.2.2.2.2
def ad (X : XT) (i : Nat) : Nat := if 1024 ≤ i then X.base + (i - 1024) else X.pre i
/-- an abstract value (references are ids) as the machine's -/
def cv (X : XT) (v : Value) : Value := match v with
  | .ref i => .ref (ad X i)
  | v => v
def tv (X : XT) (v : TV) : Value := match v with
  | .inl x => .int x
  | .inr (.inl x) => .long x
  | .inr (.inr (.inl x)) => .float x
  | .inr (.inr (.inr none)) => .null
  | .inr (.inr (.inr (some i))) => .ref (ad X i)
def isJ (v : TV) : Bool := match v with
  | .inr (.inl _) => true
  | _ => false
theorem tv_cat (X : XT) (v : TV) : (tv X v).category = if isJ v then 2 else 1 := by
  rcases v with x | x | x | _ | x <;> rfl
theorem tv_cat2 (X : XT) (v : TV) : ((tv X v).category == 2) = isJ v := by
  rcases v with x | x | x | _ | x <;> rfl
/-- the classes, by tag -/
def myCl : List vw_C := [(RX0, TX0, 5), (RX1, TX1, 2), (RX2, TX2, 1), (RX3, TX3, 6), (RX4, TX4, 22), (RX5, TX5, 3), (RX6, TX6, 3), (RX7, TX7, 6), (RJ2, TJ2, 3), (RJ4, TJ4, 8), (RJ11, TJ11, 4), (RJ6, TJ6, 1), (RJ23, TJ23, 3), (RJ24, TJ24, 3), (RJ27, TJ27, 4), (RJ19, TJ19, 3), (RJ31, TJ31, 5), (RJ21, TJ21, 4)]
/-- the component types of arrays, by tag less 64 -/
def myTy : List FieldType := [.int, .boolean, .long, .byte, .char, .object "java/lang/Object", .object "java/util/HashMap$Node", .array .boolean, .array .int, .object "java/lang/Integer", .int, .int]
def clOf (X : XT) (t : Nat) : ClassId := if t < 64 then X.D.1 t else if t < 96 then X.dA (t - 64) else X.dL (t - 96)
def clN (t : Nat) : Nat := match myCl[t]? with
  | some r => r.2.2
  | none => 0
/-- one abstract cell at the address q -/
def atA (X : XT) (q : Nat) (e : AE) (H : Heap) : Prop :=
  ∃ cell : Cell, H[q]? = some cell ∧ cell.vm.isStatics = false ∧ cell.vm ≠ .unknown ∧ (X.base ≤ q → cell.vm = .none) ∧ cell.cls = clOf X e.1 ∧
    (if e.1 < 64 then ∀ k, k < clN e.1 → cell.slots[X.D.2 e.1 k]? = some (cv X (e.2.getD k .null)) else cell.slots = (e.2.map (cv X)).toArray)
theorem atA.kept {X : XT} {q : Nat} {e : AE} {H H1 : Heap} (h : atA X q e H) (hq : H1[q]? = H[q]?) : atA X q e H1 := by
  obtain ⟨cell, h1, h2⟩ := h
  exact ⟨cell, hq.trans h1, h2⟩
theorem atA.lt {X : XT} {q : Nat} {e : AE} {H : Heap} (h : atA X q e H) : q < H.size := by
  obtain ⟨cell, h1, h2⟩ := h
  exact (Array.getElem?_eq_some_iff.mp h1).1
def ints (l : List Int32) : List Value := l.map Value.int
/-- the old objects that are read: 0, 1: ROW_STEPS, COLUMN_STEPS; 2: ArrayList's empty array; 3: the Integer cache; 5, 6, 7: the lambdas that capture nothing; 256..: the cached Integers -/
def preobj (i : Nat) : Option AE :=
  if i = 0 then some (74, ints [-1, -1, 0, 1, 1, 1, 0, -1])
  else if i = 1 then some (75, ints [0, 1, 1, 1, 0, -1, -1, -1])
  else if i = 2 then some (69, [])
  else if i = 3 then some (73, (List.range 256).map (fun k => Value.ref (256 + k)))
  else if i = 5 then some (97, [])
  else if i = 6 then some (105, [])
  else if i = 7 then some (106, [])
  else if 256 ≤ i ∧ i < 512 then some (11, [.int (Int32.ofNat (i - 256) - 128)])
  else none
def hget (h : AH) (i : Nat) : Option AE := if 1024 ≤ i then h[i - 1024]? else preobj i
def hset (h : AH) (i : Nat) (e : AE) : AH := h.set (i - 1024) e
/-- the picture of an abstract heap -/
def Rp (X : XT) (h : AH) (H : Heap) : Prop :=
  (∀ q, q < X.base → H[q]? = X.H0[q]?) ∧ H.size = X.base + h.length ∧ (∀ j e, h[j]? = some e → atA X (X.base + j) e H) ∧ h.length ≤ CAP ∧ sl h ≤ CAPS
/-- statics that are read, by place: class, name, descriptor, value -/
def myStat : List (String × String × String × Value) := [("CoastTiles", "ROW_STEPS", "[I", .ref 0), ("CoastTiles", "COLUMN_STEPS", "[I", .ref 1), ("java/util/ArrayList", "DEFAULTCAPACITY_EMPTY_ELEMENTDATA", "[Ljava/lang/Object;", .ref 2), ("java/lang/Integer$IntegerCache", "cache", "[Ljava/lang/Integer;", .ref 3), ("java/lang/Integer$IntegerCache", "high", "I", .int 127), ("java/lang/String", "COMPACT_STRINGS", "Z", .int 1), ("java/util/BitSet", "$assertionsDisabled", "Z", .int 1)]
/-- words that a method's own list does not carry: they ride in the global context -/
def rides : Cond → Bool
  | .fieldLinkNest .. => true
  | .methodLinkNest .. => true
  | .castable .. => true
  | .declares .. => true
  | .arrayOver (.array _) => true
  | _ => false
def compOk (U : State) (ty : FieldType) (comp : ClassId) : Prop := match ty with
  | .object C => U.vm.findClass C = some comp
  | .array t => U.vm.findClass (FieldType.array t).toString = some comp
  | _ => True
def arrOk (X : XT) (U : State) (k : Nat) (ty : FieldType) : Prop :=
  ∃ (kA : Class) (comp : ClassId), U.vm.classes[X.dA k]? = some kA ∧ kA.kind = .array comp ty ∧ (k < 9 → U.vm.findClass ("[" ++ ty.toString) = some (X.dA k)) ∧ (k < 9 → compOk U ty comp)
theorem arrOk.moved {X : XT} {u U : State} {k : Nat} {ty : FieldType} (hvm : u.vm.Alike U.vm) (h : arrOk X u k ty) : arrOk X U k ty := by
  obtain ⟨kA, comp, h1, h2, h3, h4⟩ := h
  obtain ⟨k', hk', he⟩ := hvm.2.2 _ _ h1
  refine ⟨k', comp, hk', by rw [he]; exact h2, fun q => by rw [hvm.findClass]; exact h3 q, fun q => ?_⟩
  have h4 := h4 q
  cases ty with
  | object C => show U.vm.findClass C = some comp; rw [hvm.findClass]; exact h4
  | array t => show U.vm.findClass _ = some comp; rw [hvm.findClass]; exact h4
  | _ => exact trivial
theorem aoA_moved {t : FieldType} {u U : State} (hvm : u.vm.Alike U.vm) (h : va_Nw (.arrayOver (.array t)) u) : va_Nw (.arrayOver (.array t)) U := over_moved hvm h
/-- private methods of StringBuilder's superclass, as StringBuilder selects them -/
def extraSel : List Cond := [.selects "java/lang/StringBuilder" ⟨"java/lang/AbstractStringBuilder", "ensureCapacityInternal", "(I)V"⟩ ⟨"java/lang/AbstractStringBuilder", "ensureCapacityInternal", "(I)V"⟩, .selects "java/lang/StringBuilder" ⟨"java/lang/AbstractStringBuilder", "newCapacity", "(I)I"⟩ ⟨"java/lang/AbstractStringBuilder", "newCapacity", "(I)I"⟩]
theorem extra_good : ∀ w ∈ extraSel, goodWord w = true := by decide +kernel
theorem rides_moved {w : Cond} (hr : rides w = true) {u U : State} (hW : u.WarmedH U.vm) (h : va_Nw w u) : va_Nw w U := by
  cases w with
  | fieldLinkNest => exact va_Nw.warmF hW h
  | methodLinkNest => exact va_Nw.warmM hW h
  | castable => exact va_Nw.warmC hW h
  | declares => exact va_Nw.warmD hW h
  | arrayOver t =>
    cases t with
    | array t => exact aoA_moved hW.alike h
    | _ => cases hr
  | _ => cases hr
def lkOf (X : XT) (k : Nat) (o : Option Nat) : Linked := match o with
  | some i => .constant (X.pre i)
  | none => .makes (X.dL k)
/-- the global context: what holds of the VM's tables and of the old heap all through the run -/
def GX (X : XT) (U : State) : Prop :=
  X.H0.size = X.base ∧ (∀ i, i < 1024 → i ≠ 4 → i ≠ 10 → X.pre i < X.base) ∧
  (∀ t r, myCl[t]? = some r → u_Kn U r.1 r.2.1 r.2.2 (X.D.1 t) (X.D.2 t)) ∧
  (∀ k ty, myTy[k]? = some ty → arrOk X U k ty) ∧
  (∀ i e, preobj i = some e → atA X (X.pre i) e X.H0) ∧
  (∀ (k : Nat) (q : String × String × String × Value), myStat[k]? = some q → va_Z q.1 q.2.1 q.2.2.1 (cv X q.2.2.2) (fun a => X.base ≤ a) U X.H0) ∧
  (∀ w, w ∈ lw_tbl → rides w = true → va_Nw w U) ∧
  va_Nc "java/util/HashMap$Node" "java/util/HashMap$TreeNode" U ∧
  va_X (X.pre 8) X.xs.length (fun j => X.xs.getD j 0) U X.H0 ∧
  va_Mi "[Ljava/lang/Object;" (X.pre 4) U ∧
  (∀ C, Cond.arrayOver (.object C) ∈ lw_tbl → va_AO C U) ∧
  (∀ C (x y : MethodName), Cond.declares x ∈ lw_tbl → Cond.interfaceMethod x.cls x.cls x.name x.desc ∈ lw_tbl → Cond.publicMethod y ∈ lw_tbl → Cond.unhidden C x.name x.desc ∈ lw_tbl → Cond.castable C x.cls ∈ lw_tbl → (x.cls ≠ "java/lang/invoke/MethodHandle" ∧ x.cls ≠ "java/lang/invoke/VarHandle") → va_Fw C x y U) ∧
  (∀ w ∈ extraSel, va_Nw w U) ∧
  (∀ (k : Nat) (q : LSt × Option Nat), mySites[k]? = some q → lamOk U q.1 (X.dL k) (lkOf X k q.2)) ∧
  (va_Z "jdk/internal/util/Preconditions" "SIOOBE_FORMATTER" "Ljava/util/function/BiFunction;" .null (fun a => X.base ≤ a) U X.H0 ∨ va_Z "jdk/internal/util/Preconditions" "SIOOBE_FORMATTER" "Ljava/util/function/BiFunction;" (.ref (X.pre 10)) (fun a => X.base ≤ a) U X.H0)
theorem GX.moved {X : XT} {u U : State} (hW : u.WarmedH U.vm) (h : GX X u) : GX X U := by
  obtain ⟨h1, h2, h3, h4, h5, h6, h7, h8, h9, h10, h11, h12, h13, h14, h15⟩ := h
  have hA := hW.alike
  exact ⟨h1, h2, fun t r q => u_Kn_moved hA (h3 t r q), fun k ty q => (h4 k ty q).moved hA, h5, fun k q a => va_Z.moved hA (h6 k q a), fun w a b => rides_moved b hW (h7 w a b), va_Nc.moved hA h8, va_X.moved hA h9, va_Mi.moved hA h10, fun C q => va_AO.moved hA (h11 C q), fun C x y a1 a2 a3 a4 a5 a6 => va_Fw.moved a6 hA (h12 C x y a1 a2 a3 a4 a5 a6), fun w q => word_at hW (good_of_word (extra_good w q)) (h13 w q), fun k q a => (h14 k q a).moved hW, h15.imp (va_Z.moved hA) (va_Z.moved hA)⟩
theorem GX.same {X : XT} {u U : State} (hv : u.vm = U.vm) (h : GX X u) : GX X U := h.moved (by rw [← hv]; exact State.WarmedH.refl u)
theorem GX.ad_lt {X : XT} {U : State} (h : GX X U) {i : Nat} (hi : i < 1024) (h4 : i ≠ 4) (h10 : i ≠ 10) : ad X i < X.base := by
  unfold ad
  rw [if_neg (by omega)]
  exact h.2.1 i hi h4 h10
theorem ad_new (X : XT) {i : Nat} (hi : 1024 ≤ i) : ad X i = X.base + (i - 1024) := by
  unfold ad
  rw [if_pos hi]
theorem GX.get {X : XT} {U : State} {h : AH} {H : Heap} (g : GX X U) (hR : Rp X h H) {i : Nat} {e : AE} (hi : hget h i = some e) : atA X (ad X i) e H := by
  unfold hget at hi
  unfold ad
  split at hi
  · rw [if_pos (by assumption)]
    exact hR.2.2.1 _ _ hi
  · rw [if_neg (by assumption)]
    exact (g.2.2.2.2.1 i e hi).kept (hR.1 _ (g.2.1 i (by omega) (fun z => by subst z; cases hi) (fun z => by subst z; cases hi)))
theorem sl_append (h : AH) (e : AE) : sl (h ++ [e]) = sl h + e.2.length := by
  simp [sl]
theorem sl_set {h : AH} {j : Nat} {e e0 : AE} (he : h[j]? = some e0) (hl : e.2.length = e0.2.length) : sl (h.set j e) = sl h := by
  induction h generalizing j with
  | nil => simp
  | cons a t ih =>
    cases j with
    | zero =>
      simp only [List.getElem?_cons_zero, Option.some.injEq] at he
      subst he
      simp [sl, hl]
    | succ j =>
      simp only [List.getElem?_cons_succ] at he
      have := ih he
      simp only [sl, List.set_cons_succ, List.map_cons, List.sum_cons] at this ⊢
      omega
theorem Rp.push {X : XT} {h : AH} {H H1 : Heap} {e : AE} (hR : Rp X h H) (h1 : H1.size = H.size + 1) (h2 : ∀ q, q < H.size → H1[q]? = H[q]?) (h3 : atA X H.size e H1) (hc : h.length < CAP) (hs : sl h + e.2.length ≤ CAPS) : Rp X (h ++ [e]) H1 := by
  obtain ⟨a1, a2, a3, a4, a5⟩ := hR
  refine ⟨fun q hq => (h2 q (by omega)).trans (a1 q hq), by rw [h1, a2]; simp; omega, fun j x hj => ?_, by simp; omega, by rw [sl_append]; exact hs⟩
  by_cases hl : j < h.length
  · rw [List.getElem?_append_left hl] at hj
    exact (a3 j x hj).kept (h2 _ (a3 j x hj).lt)
  · rw [List.getElem?_append_right (by omega)] at hj
    have hz : j - h.length < 1 := (List.getElem?_eq_some_iff.mp hj).1
    have : j = h.length := by omega
    subst this
    rw [Nat.sub_self] at hj
    cases hj
    rw [← a2]
    exact h3
theorem Rp.set {X : XT} {h : AH} {H H1 : Heap} {i : Nat} {e e0 : AE} (hR : Rp X h H) (hi : 1024 ≤ i) (hg : hget h i = some e0) (hl : e.2.length = e0.2.length) (h1 : H1.size = H.size) (h2 : ∀ q, q ≠ ad X i → H1[q]? = H[q]?) (h3 : atA X (ad X i) e H1) : Rp X (hset h i e) H1 := by
  obtain ⟨a1, a2, a3, a4, a5⟩ := hR
  rw [ad_new X hi] at h2 h3
  unfold hget at hg
  rw [if_pos hi] at hg
  unfold hset
  refine ⟨fun q hq => (h2 q (by omega)).trans (a1 q hq), by rw [h1, a2]; simp, fun j x hj => ?_, by simp; exact a4, by rw [sl_set hg hl]; exact a5⟩
  by_cases hji : j = i - 1024
  · subst hji
    rw [List.getElem?_set_self (List.getElem?_eq_some_iff.mp hg).1] at hj
    cases hj
    exact h3
  · rw [List.getElem?_set_ne (Ne.symm hji)] at hj
    exact (a3 j x hj).kept (h2 _ (by omega))
/-- one invocation: global, launch, program, environment, state at entry, method, arguments, frames below, method, code, abstract heap at entry, frames and words of room, its answer, its abstract heap at the end -/
abbrev ZT : Type := XT × Launch × Program × Env × State × MethodId × Array Value × List Frame × Method × Code × AH × Nat × Nat × Option TV × AH
abbrev ZT.X (Z : ZT) : XT := Z.1
abbrev ZT.l (Z : ZT) : Launch := Z.2.1
abbrev ZT.p (Z : ZT) : Program := Z.2.2.1
abbrev ZT.e (Z : ZT) : Env := Z.2.2.2.1
abbrev ZT.s (Z : ZT) : State := Z.2.2.2.2.1
abbrev ZT.m (Z : ZT) : MethodId := Z.2.2.2.2.2.1
abbrev ZT.args (Z : ZT) : Array Value := Z.2.2.2.2.2.2.1
abbrev ZT.below (Z : ZT) : List Frame := Z.2.2.2.2.2.2.2.1
abbrev ZT.meth (Z : ZT) : Method := Z.2.2.2.2.2.2.2.2.1
abbrev ZT.c (Z : ZT) : Code := Z.2.2.2.2.2.2.2.2.2.1
abbrev ZT.h0 (Z : ZT) : AH := Z.2.2.2.2.2.2.2.2.2.2.1
abbrev ZT.fr (Z : ZT) : Nat := Z.2.2.2.2.2.2.2.2.2.2.2.1
abbrev ZT.lo (Z : ZT) : Nat := Z.2.2.2.2.2.2.2.2.2.2.2.2.1
abbrev ZT.r (Z : ZT) : Option TV := Z.2.2.2.2.2.2.2.2.2.2.2.2.2.1
abbrev ZT.hE (Z : ZT) : AH := Z.2.2.2.2.2.2.2.2.2.2.2.2.2.2
abbrev ZT.res (Z : ZT) : Res := some Z.2.2.2.2.2.2.2.2.2.2.2.2.2
def ZR (fr lo : Nat) (h0 : AH) : Room := { frames := fr, cells := CAP - h0.length, slots := CAPS - sl h0, locals := lo }
def CQ (X : XT) (h0 : AH) (r : Option TV) (hE : AH) : Array Value → State → Outcome → State → Prop := fun _ _ o t =>
  o = .returned (r.map (tv X)) ∧ Rp X hE t.heap ∧ h0.length ≤ hE.length ∧ sl h0 ≤ sl hE
abbrev ZT.Q (Z : ZT) : State → Prop := MQ Z.below (CQ Z.X Z.h0 Z.r Z.hE) Z.args Z.s (Z.hE.length - Z.h0.length) (sl Z.hE - sl Z.h0) (fun q => Z.X.base ≤ q)
/-- what is fixed of an invocation: code, class, locals, answer's type, name -/
def Cx (Z : ZT) (cc : ByteArray) (own : String) (nL : Nat) (ret : Option FieldType) (nm : MethodName) : Prop :=
  Z.p.tables.exec = Jvm.exec ∧ Z.c.code = cc ∧ Z.c.maxLocals = nL ∧ Z.meth.sig.returnType = ret ∧ Z.meth.locks = false ∧ Z.s.vm.findClass own = some Z.m.cls ∧ (∀ w ∈ lw_all, w.before Z.args Z.s = true) ∧ GX Z.X Z.s ∧ Z.meth.name = nm.name ∧ Z.s.methodNamed? nm = some Z.m
def lvm (X : XT) (lv : List (Nat × TV)) : List (Nat × Value) := lv.map (fun q => (q.1, tv X q.2))
/-- THE JUDGEMENT: from pc with these locals and this stack, over the abstract heap h, the invocation comes to its end as Z says -/
def V (Z : ZT) (nL : Nat) (h : AH) (pc : Nat) (lv : List (Nat × TV)) (st : List TV) : Prop :=
  Z.h0.length ≤ h.length → sl Z.h0 ≤ sl h → ∀ (ls : Array Slot) (H : Heap) (locs : List Loc), lv_has ls nL (lvm Z.X lv) → Rp Z.X h H → (∀ q ∈ locs, Z.X.base ≤ q.base) →
    W Z.p Z.l Z.e (ZR Z.fr Z.lo Z.h0) Z.s Z.m Z.args Z.below Z.meth Z.c H locs (h.length - Z.h0.length) (sl h - sl Z.h0) Z.Q (F0 Z.m pc ls (st.map (tv Z.X)))
theorem lvm_get (X : XT) {lv : List (Nat × TV)} {k i : Nat} {v : TV} (h : lv[k]? = some (i, v)) : (lvm X lv)[k]? = some (i, tv X v) := by
  simp [lvm, h]
/-- locals after a store -/
def st1 (lv : List (Nat × TV)) (i : Nat) (v : TV) : List (Nat × TV) := (i, v) :: lv.filter (fun q => !(q.1 == i) && !(q.1 + 1 == i && isJ q.2))
def st2 (lv : List (Nat × TV)) (i : Nat) (v : TV) : List (Nat × TV) := (i, v) :: lv.filter (fun q => !(q.1 == i) && (!(q.1 == i + 1) && !(q.1 + 1 == i && isJ q.2)))
theorem st1_m (X : XT) (lv : List (Nat × TV)) (i : Nat) (v : TV) : (i, tv X v) :: (lvm X lv).filter (fun q => !(q.1 == i) && !(q.1 + 1 == i && q.2.category == 2)) = lvm X (st1 lv i v) := by
  simp only [lvm, st1, List.map_cons, List.filter_map]
  congr 2
  apply List.filter_congr
  intro q _
  simp only [Function.comp, tv_cat2]
theorem st2_m (X : XT) (lv : List (Nat × TV)) (i : Nat) (v : TV) : (i, tv X v) :: (lvm X lv).filter (fun q => !(q.1 == i) && (!(q.1 == i + 1) && !(q.1 + 1 == i && q.2.category == 2))) = lvm X (st2 lv i v) := by
  simp only [lvm, st2, List.map_cons, List.filter_map]
  congr 2
  apply List.filter_congr
  intro q _
  simp only [Function.comp, tv_cat2]
/-- fewer locals, in any order -/
theorem V.sub {Z : ZT} {nL : Nat} {h : AH} {pc : Nat} {lv lv' : List (Nat × TV)} {st : List TV} (ks : List Nat) (hl : ks.filterMap (fun k => lv[k]?) = lv') (k : V Z nL h pc lv' st) : V Z nL h pc lv st := by
  intro a b ls H locs hl2 hR hf
  refine k a b ls H locs (lv_sub hl2 ks ?_) hR hf
  subst hl
  simp only [lv_pick, lvm, List.map_filterMap, List.getElem?_map]

section ROWS
variable {Z : ZT} {cc : ByteArray} {own : String} {nm : MethodName} {nL : Nat} {ret : Option FieldType} {h : AH} {pc : Nat} {lv : List (Nat × TV)} {st : List TV}
theorem r_iconst (C : Cx Z cc own nL ret nm) {n : Int} {v : Int32} (hdg : decode cc pc = .ok (.iconst n, 1)) (hv : Int32.ofInt n = v) (k : V Z nL h (pc + 1) lv (vI v :: st)) : V Z nL h pc lv (st) :=
  fun a b ls H locs hl hR hf => lv_iconst C.1 C.2.1 hdg hv (k a b ls H locs hl hR hf)
theorem r_bipush (C : Cx Z cc own nL ret nm) {n : Int} {v : Int32} (hdg : decode cc pc = .ok (.bipush n, 2)) (hv : (Int8.ofInt n).toInt32 = v) (k : V Z nL h (pc + 2) lv (vI v :: st)) : V Z nL h pc lv (st) :=
  fun a b ls H locs hl hR hf => lv_bipush C.1 C.2.1 hdg hv (k a b ls H locs hl hR hf)
theorem r_sipush (C : Cx Z cc own nL ret nm) {n : Int} {v : Int32} (hdg : decode cc pc = .ok (.sipush n, 3)) (hv : (Int16.ofInt n).toInt32 = v) (k : V Z nL h (pc + 3) lv (vI v :: st)) : V Z nL h pc lv (st) :=
  fun a b ls H locs hl hR hf => lv_sipush C.1 C.2.1 hdg hv (k a b ls H locs hl hR hf)
theorem r_lconst (C : Cx Z cc own nL ret nm) {n : Fin 2} {v : Int64} (hdg : decode cc pc = .ok (.lconst n, 1)) (hv : Int64.ofNat (n : Nat) = v) (k : V Z nL h (pc + 1) lv (vJ v :: st)) : V Z nL h pc lv (st) :=
  fun a b ls H locs hl hR hf => lv_lconst C.1 C.2.1 hdg hv (k a b ls H locs hl hR hf)
theorem r_fconst0 (C : Cx Z cc own nL ret nm)  (hdg : decode cc pc = .ok (.fconst 0, 1)) (k : V Z nL h (pc + 1) lv (vF FP.fconst0 :: st)) : V Z nL h pc lv (st) :=
  fun a b ls H locs hl hR hf => lv_fconst0 C.1 C.2.1 hdg (k a b ls H locs hl hR hf)
theorem r_fconst1 (C : Cx Z cc own nL ret nm)  (hdg : decode cc pc = .ok (.fconst 1, 1)) (k : V Z nL h (pc + 1) lv (vF FP.fconst1 :: st)) : V Z nL h pc lv (st) :=
  fun a b ls H locs hl hR hf => lv_fconst1 C.1 C.2.1 hdg (k a b ls H locs hl hR hf)
theorem r_fconst2 (C : Cx Z cc own nL ret nm)  (hdg : decode cc pc = .ok (.fconst 2, 1)) (k : V Z nL h (pc + 1) lv (vF FP.fconst2 :: st)) : V Z nL h pc lv (st) :=
  fun a b ls H locs hl hR hf => lv_fconst2 C.1 C.2.1 hdg (k a b ls H locs hl hR hf)
theorem r_null (C : Cx Z cc own nL ret nm)  (hdg : decode cc pc = .ok (.aconst_null, 1)) (k : V Z nL h (pc + 1) lv (vR none :: st)) : V Z nL h pc lv (st) :=
  fun a b ls H locs hl hR hf => lv_null C.1 C.2.1 hdg (k a b ls H locs hl hR hf)
theorem r_ldc (C : Cx Z cc own nL ret nm) {i : Nat} {v : Int32} (hq : Cond.constant own i v ∈ lw_all) (hdg : decode cc pc = .ok (.ldc i, 2)) (k : V Z nL h (pc + 2) lv (vI v :: st)) : V Z nL h pc lv (st) :=
  fun a b ls H locs hl hR hf => lv_ldc C.1 C.2.1 C.2.2.2.2.2.1 (C.2.2.2.2.2.2.1 _ hq) hdg (k a b ls H locs hl hR hf)
theorem r_ldcw (C : Cx Z cc own nL ret nm) {i : Nat} {v : Int32} (hq : Cond.constant own i v ∈ lw_all) (hdg : decode cc pc = .ok (.ldc_w i, 3)) (k : V Z nL h (pc + 3) lv (vI v :: st)) : V Z nL h pc lv (st) :=
  fun a b ls H locs hl hR hf => lv_ldcw C.1 C.2.1 C.2.2.2.2.2.1 (C.2.2.2.2.2.2.1 _ hq) hdg (k a b ls H locs hl hR hf)
theorem r_ldcf (C : Cx Z cc own nL ret nm) {i : Nat} {v : UInt32} (hq : Cond.constantFloat own i v ∈ lw_all) (hdg : decode cc pc = .ok (.ldc i, 2)) (k : V Z nL h (pc + 2) lv (vF v :: st)) : V Z nL h pc lv (st) :=
  fun a b ls H locs hl hR hf => lv_ldcf C.1 C.2.1 C.2.2.2.2.2.1 (C.2.2.2.2.2.2.1 _ hq) hdg (k a b ls H locs hl hR hf)
theorem r_ldc2 (C : Cx Z cc own nL ret nm) {i : Nat} {v : Int64} (hq : Cond.constantLong own i v ∈ lw_all) (hdg : decode cc pc = .ok (.ldc2_w i, 3)) (k : V Z nL h (pc + 3) lv (vJ v :: st)) : V Z nL h pc lv (st) :=
  fun a b ls H locs hl hR hf => lv_ldc2 C.1 C.2.1 C.2.2.2.2.2.1 (C.2.2.2.2.2.2.1 _ hq) hdg (k a b ls H locs hl hR hf)
theorem r_iload_n (C : Cx Z cc own nL ret nm) {k4 : Fin 4} {x : Int32} (hdg : decode cc pc = .ok (.iload_n k4, 1)) (j : Nat) (hv : lv[j]? = some ((k4 : Nat), vI x)) (k : V Z nL h (pc + 1) lv (vI x :: st)) : V Z nL h pc lv (st) :=
  fun a b ls H locs hl hR hf => lv_iload_n C.1 C.2.1 hdg rfl (lv_at hl j (lvm_get Z.X hv)) (k a b ls H locs hl hR hf)
theorem r_iload (C : Cx Z cc own nL ret nm) {i : Nat} {x : Int32} (hdg : decode cc pc = .ok (.iload i, 2)) (j : Nat) (hv : lv[j]? = some (i, vI x)) (k : V Z nL h (pc + 2) lv (vI x :: st)) : V Z nL h pc lv (st) :=
  fun a b ls H locs hl hR hf => lv_iload C.1 C.2.1 hdg (lv_at hl j (lvm_get Z.X hv)) (k a b ls H locs hl hR hf)
theorem r_lload_n (C : Cx Z cc own nL ret nm) {k4 : Fin 4} {x : Int64} (hdg : decode cc pc = .ok (.lload_n k4, 1)) (j : Nat) (hv : lv[j]? = some ((k4 : Nat), vJ x)) (k : V Z nL h (pc + 1) lv (vJ x :: st)) : V Z nL h pc lv (st) :=
  fun a b ls H locs hl hR hf => lv_lload_n C.1 C.2.1 hdg rfl (lv_at hl j (lvm_get Z.X hv)) (k a b ls H locs hl hR hf)
theorem r_lload (C : Cx Z cc own nL ret nm) {i : Nat} {x : Int64} (hdg : decode cc pc = .ok (.lload i, 2)) (j : Nat) (hv : lv[j]? = some (i, vJ x)) (k : V Z nL h (pc + 2) lv (vJ x :: st)) : V Z nL h pc lv (st) :=
  fun a b ls H locs hl hR hf => lv_lload C.1 C.2.1 hdg (lv_at hl j (lvm_get Z.X hv)) (k a b ls H locs hl hR hf)
theorem r_fload_n (C : Cx Z cc own nL ret nm) {k4 : Fin 4} {x : UInt32} (hdg : decode cc pc = .ok (.fload_n k4, 1)) (j : Nat) (hv : lv[j]? = some ((k4 : Nat), vF x)) (k : V Z nL h (pc + 1) lv (vF x :: st)) : V Z nL h pc lv (st) :=
  fun a b ls H locs hl hR hf => lv_fload_n C.1 C.2.1 hdg rfl (lv_at hl j (lvm_get Z.X hv)) (k a b ls H locs hl hR hf)
theorem r_fload (C : Cx Z cc own nL ret nm) {i : Nat} {x : UInt32} (hdg : decode cc pc = .ok (.fload i, 2)) (j : Nat) (hv : lv[j]? = some (i, vF x)) (k : V Z nL h (pc + 2) lv (vF x :: st)) : V Z nL h pc lv (st) :=
  fun a b ls H locs hl hR hf => lv_fload C.1 C.2.1 hdg (lv_at hl j (lvm_get Z.X hv)) (k a b ls H locs hl hR hf)
theorem r_aload_n (C : Cx Z cc own nL ret nm) {k4 : Fin 4} {x : Rf} (hdg : decode cc pc = .ok (.aload_n k4, 1)) (j : Nat) (hv : lv[j]? = some ((k4 : Nat), vR x)) (k : V Z nL h (pc + 1) lv (vR x :: st)) : V Z nL h pc lv (st) := by
  intro a b ls H locs hl hR hf
  cases x with
  | none => exact lv_aload_nN C.1 C.2.1 hdg rfl (lv_at hl j (lvm_get Z.X hv)) (k a b ls H locs hl hR hf)
  | some x => exact lv_aload_n C.1 C.2.1 hdg rfl (lv_at hl j (lvm_get Z.X hv)) (k a b ls H locs hl hR hf)
theorem r_aload (C : Cx Z cc own nL ret nm) {i : Nat} {x : Rf} (hdg : decode cc pc = .ok (.aload i, 2)) (j : Nat) (hv : lv[j]? = some (i, vR x)) (k : V Z nL h (pc + 2) lv (vR x :: st)) : V Z nL h pc lv (st) := by
  intro a b ls H locs hl hR hf
  cases x with
  | none => exact lv_aloadN C.1 C.2.1 hdg (lv_at hl j (lvm_get Z.X hv)) (k a b ls H locs hl hR hf)
  | some x => exact lv_aload C.1 C.2.1 hdg (lv_at hl j (lvm_get Z.X hv)) (k a b ls H locs hl hR hf)
theorem r_istore_n (C : Cx Z cc own nL ret nm) {k4 : Fin 4} {x : Int32} {lv' : List (Nat × TV)} (hdg : decode cc pc = .ok (.istore_n k4, 1)) (hn : (k4 : Nat) < nL) (hs : st1 lv (k4 : Nat) (vI x) = lv') (k : V Z nL h (pc + 1) lv' (st)) : V Z nL h pc lv (vI x :: st) :=
  fun a b ls H locs hl hR hf => lv_istore_n C.1 C.2.1 hdg rfl hl hn (st1_m Z.X lv _ (vI x)) (fun ls' hl' => k a b ls' H locs (by rw [← hs]; exact hl') hR hf)
theorem r_istore (C : Cx Z cc own nL ret nm) {i : Nat} {x : Int32} {lv' : List (Nat × TV)} (hdg : decode cc pc = .ok (.istore i, 2)) (hn : i < nL) (hs : st1 lv i (vI x) = lv') (k : V Z nL h (pc + 2) lv' (st)) : V Z nL h pc lv (vI x :: st) :=
  fun a b ls H locs hl hR hf => lv_istore C.1 C.2.1 hdg hl hn (st1_m Z.X lv _ (vI x)) (fun ls' hl' => k a b ls' H locs (by rw [← hs]; exact hl') hR hf)
theorem r_fstore_n (C : Cx Z cc own nL ret nm) {k4 : Fin 4} {x : UInt32} {lv' : List (Nat × TV)} (hdg : decode cc pc = .ok (.fstore_n k4, 1)) (hn : (k4 : Nat) < nL) (hs : st1 lv (k4 : Nat) (vF x) = lv') (k : V Z nL h (pc + 1) lv' (st)) : V Z nL h pc lv (vF x :: st) :=
  fun a b ls H locs hl hR hf => lv_fstore_n C.1 C.2.1 hdg rfl hl hn (st1_m Z.X lv _ (vF x)) (fun ls' hl' => k a b ls' H locs (by rw [← hs]; exact hl') hR hf)
theorem r_fstore (C : Cx Z cc own nL ret nm) {i : Nat} {x : UInt32} {lv' : List (Nat × TV)} (hdg : decode cc pc = .ok (.fstore i, 2)) (hn : i < nL) (hs : st1 lv i (vF x) = lv') (k : V Z nL h (pc + 2) lv' (st)) : V Z nL h pc lv (vF x :: st) :=
  fun a b ls H locs hl hR hf => lv_fstore C.1 C.2.1 hdg hl hn (st1_m Z.X lv _ (vF x)) (fun ls' hl' => k a b ls' H locs (by rw [← hs]; exact hl') hR hf)
theorem r_lstore_n (C : Cx Z cc own nL ret nm) {k4 : Fin 4} {x : Int64} {lv' : List (Nat × TV)} (hdg : decode cc pc = .ok (.lstore_n k4, 1)) (hn : (k4 : Nat) + 1 < nL) (hs : st2 lv (k4 : Nat) (vJ x) = lv') (k : V Z nL h (pc + 1) lv' (st)) : V Z nL h pc lv (vJ x :: st) :=
  fun a b ls H locs hl hR hf => lv_lstore_n C.1 C.2.1 hdg rfl hl hn (st2_m Z.X lv _ (vJ x)) (fun ls' hl' => k a b ls' H locs (by rw [← hs]; exact hl') hR hf)
theorem r_lstore (C : Cx Z cc own nL ret nm) {i : Nat} {x : Int64} {lv' : List (Nat × TV)} (hdg : decode cc pc = .ok (.lstore i, 2)) (hn : i + 1 < nL) (hs : st2 lv i (vJ x) = lv') (k : V Z nL h (pc + 2) lv' (st)) : V Z nL h pc lv (vJ x :: st) :=
  fun a b ls H locs hl hR hf => lv_lstore C.1 C.2.1 hdg hl hn (st2_m Z.X lv _ (vJ x)) (fun ls' hl' => k a b ls' H locs (by rw [← hs]; exact hl') hR hf)
theorem r_astore_n (C : Cx Z cc own nL ret nm) {k4 : Fin 4} {x : Rf} {lv' : List (Nat × TV)} (hdg : decode cc pc = .ok (.astore_n k4, 1)) (hn : (k4 : Nat) < nL) (hs : st1 lv (k4 : Nat) (vR x) = lv') (k : V Z nL h (pc + 1) lv' (st)) : V Z nL h pc lv (vR x :: st) := by
  intro a b ls H locs hl hR hf
  cases x with
  | none => exact lv_astore_nN C.1 C.2.1 hdg rfl hl hn (st1_m Z.X lv _ (vR none)) (fun ls' hl' => k a b ls' H locs (by rw [← hs]; exact hl') hR hf)
  | some x => exact lv_astore_n C.1 C.2.1 hdg rfl hl hn (st1_m Z.X lv _ (vR (some x))) (fun ls' hl' => k a b ls' H locs (by rw [← hs]; exact hl') hR hf)
theorem r_astore (C : Cx Z cc own nL ret nm) {i : Nat} {x : Rf} {lv' : List (Nat × TV)} (hdg : decode cc pc = .ok (.astore i, 2)) (hn : i < nL) (hs : st1 lv i (vR x) = lv') (k : V Z nL h (pc + 2) lv' (st)) : V Z nL h pc lv (vR x :: st) := by
  intro a b ls H locs hl hR hf
  cases x with
  | none => exact lv_astoreN C.1 C.2.1 hdg hl hn (st1_m Z.X lv _ (vR none)) (fun ls' hl' => k a b ls' H locs (by rw [← hs]; exact hl') hR hf)
  | some x => exact lv_astore C.1 C.2.1 hdg hl hn (st1_m Z.X lv _ (vR (some x))) (fun ls' hl' => k a b ls' H locs (by rw [← hs]; exact hl') hR hf)
theorem r_iinc (C : Cx Z cc own nL ret nm) {i j : Nat} {n : Int} {x v : Int32} {lv' : List (Nat × TV)} (hdg : decode cc pc = .ok (.iinc i n, 3)) (hk : lv[j]? = some (i, vI x)) (hv : x + Int32.ofInt n = v) (hn : i < nL) (hs : st1 lv i (vI v) = lv') (k : V Z nL h (pc + 3) lv' (st)) : V Z nL h pc lv (st) :=
  fun a b ls H locs hl hR hf => lv_iinc C.1 C.2.1 hdg hl (lvm_get Z.X hk) hv hn (st1_m Z.X lv _ (vI v)) (fun ls' hl' => k a b ls' H locs (by rw [← hs]; exact hl') hR hf)
theorem r_iadd (C : Cx Z cc own nL ret nm) {x y : Int32} (hdg : decode cc pc = .ok (.iadd, 1)) (k : V Z nL h (pc + 1) lv (vI (x + y) :: st)) : V Z nL h pc lv (vI y :: vI x :: st) :=
  fun a b ls H locs hl hR hf => lv_iadd C.1 C.2.1 hdg (k a b ls H locs hl hR hf)
theorem r_isub (C : Cx Z cc own nL ret nm) {x y : Int32} (hdg : decode cc pc = .ok (.isub, 1)) (k : V Z nL h (pc + 1) lv (vI (x - y) :: st)) : V Z nL h pc lv (vI y :: vI x :: st) :=
  fun a b ls H locs hl hR hf => lv_isub C.1 C.2.1 hdg (k a b ls H locs hl hR hf)
theorem r_imul (C : Cx Z cc own nL ret nm) {x y : Int32} (hdg : decode cc pc = .ok (.imul, 1)) (k : V Z nL h (pc + 1) lv (vI (x * y) :: st)) : V Z nL h pc lv (vI y :: vI x :: st) :=
  fun a b ls H locs hl hR hf => lv_imul C.1 C.2.1 hdg (k a b ls H locs hl hR hf)
theorem r_iand (C : Cx Z cc own nL ret nm) {x y : Int32} (hdg : decode cc pc = .ok (.iand, 1)) (k : V Z nL h (pc + 1) lv (vI (x &&& y) :: st)) : V Z nL h pc lv (vI y :: vI x :: st) :=
  fun a b ls H locs hl hR hf => lv_iand C.1 C.2.1 hdg (k a b ls H locs hl hR hf)
theorem r_ior (C : Cx Z cc own nL ret nm) {x y : Int32} (hdg : decode cc pc = .ok (.ior, 1)) (k : V Z nL h (pc + 1) lv (vI (x ||| y) :: st)) : V Z nL h pc lv (vI y :: vI x :: st) :=
  fun a b ls H locs hl hR hf => lv_ior C.1 C.2.1 hdg (k a b ls H locs hl hR hf)
theorem r_ixor (C : Cx Z cc own nL ret nm) {x y : Int32} (hdg : decode cc pc = .ok (.ixor, 1)) (k : V Z nL h (pc + 1) lv (vI (x ^^^ y) :: st)) : V Z nL h pc lv (vI y :: vI x :: st) :=
  fun a b ls H locs hl hR hf => lv_ixor C.1 C.2.1 hdg (k a b ls H locs hl hR hf)
theorem r_ishl (C : Cx Z cc own nL ret nm) {x y : Int32} (hdg : decode cc pc = .ok (.ishl, 1)) (k : V Z nL h (pc + 1) lv (vI (x <<< (y &&& 31)) :: st)) : V Z nL h pc lv (vI y :: vI x :: st) :=
  fun a b ls H locs hl hR hf => lv_ishl C.1 C.2.1 hdg (k a b ls H locs hl hR hf)
theorem r_ishr (C : Cx Z cc own nL ret nm) {x y : Int32} (hdg : decode cc pc = .ok (.ishr, 1)) (k : V Z nL h (pc + 1) lv (vI (x >>> (y &&& 31)) :: st)) : V Z nL h pc lv (vI y :: vI x :: st) :=
  fun a b ls H locs hl hR hf => lv_ishr C.1 C.2.1 hdg (k a b ls H locs hl hR hf)
theorem r_iushr (C : Cx Z cc own nL ret nm) {x y : Int32} (hdg : decode cc pc = .ok (.iushr, 1)) (k : V Z nL h (pc + 1) lv (vI ((x.toUInt32 >>> (y.toUInt32 &&& Int32.toUInt32 31)).toInt32) :: st)) : V Z nL h pc lv (vI y :: vI x :: st) :=
  fun a b ls H locs hl hR hf => lv_iushr C.1 C.2.1 hdg rfl (k a b ls H locs hl hR hf)
theorem r_ladd (C : Cx Z cc own nL ret nm) {x y : Int64} (hdg : decode cc pc = .ok (.ladd, 1)) (k : V Z nL h (pc + 1) lv (vJ (x + y) :: st)) : V Z nL h pc lv (vJ y :: vJ x :: st) :=
  fun a b ls H locs hl hR hf => lv_ladd C.1 C.2.1 hdg (k a b ls H locs hl hR hf)
theorem r_lsub (C : Cx Z cc own nL ret nm) {x y : Int64} (hdg : decode cc pc = .ok (.lsub, 1)) (k : V Z nL h (pc + 1) lv (vJ (x - y) :: st)) : V Z nL h pc lv (vJ y :: vJ x :: st) :=
  fun a b ls H locs hl hR hf => lv_lsub C.1 C.2.1 hdg (k a b ls H locs hl hR hf)
theorem r_lmul (C : Cx Z cc own nL ret nm) {x y : Int64} (hdg : decode cc pc = .ok (.lmul, 1)) (k : V Z nL h (pc + 1) lv (vJ (x * y) :: st)) : V Z nL h pc lv (vJ y :: vJ x :: st) :=
  fun a b ls H locs hl hR hf => lv_lmul C.1 C.2.1 hdg (k a b ls H locs hl hR hf)
theorem r_land (C : Cx Z cc own nL ret nm) {x y : Int64} (hdg : decode cc pc = .ok (.land, 1)) (k : V Z nL h (pc + 1) lv (vJ (x &&& y) :: st)) : V Z nL h pc lv (vJ y :: vJ x :: st) :=
  fun a b ls H locs hl hR hf => lv_land C.1 C.2.1 hdg (k a b ls H locs hl hR hf)
theorem r_lor (C : Cx Z cc own nL ret nm) {x y : Int64} (hdg : decode cc pc = .ok (.lor, 1)) (k : V Z nL h (pc + 1) lv (vJ (x ||| y) :: st)) : V Z nL h pc lv (vJ y :: vJ x :: st) :=
  fun a b ls H locs hl hR hf => lv_lor C.1 C.2.1 hdg (k a b ls H locs hl hR hf)
theorem r_lxor (C : Cx Z cc own nL ret nm) {x y : Int64} (hdg : decode cc pc = .ok (.lxor, 1)) (k : V Z nL h (pc + 1) lv (vJ (x ^^^ y) :: st)) : V Z nL h pc lv (vJ y :: vJ x :: st) :=
  fun a b ls H locs hl hR hf => lv_lxor C.1 C.2.1 hdg (k a b ls H locs hl hR hf)
theorem r_lushr (C : Cx Z cc own nL ret nm) {x : Int64} {y : Int32} (hdg : decode cc pc = .ok (.lushr, 1)) (k : V Z nL h (pc + 1) lv (vJ ((x.toUInt64 >>> (y.toInt64.toUInt64 &&& Int64.toUInt64 63)).toInt64) :: st)) : V Z nL h pc lv (vI y :: vJ x :: st) :=
  fun a b ls H locs hl hR hf => lv_lushr C.1 C.2.1 hdg rfl (k a b ls H locs hl hR hf)
theorem r_lshl (C : Cx Z cc own nL ret nm) {x : Int64} {y : Int32} (hdg : decode cc pc = .ok (.lshl, 1)) (k : V Z nL h (pc + 1) lv (vJ (x <<< (y.toInt64 &&& 63)) :: st)) : V Z nL h pc lv (vI y :: vJ x :: st) :=
  fun a b ls H locs hl hR hf => lv_lshl C.1 C.2.1 hdg rfl (k a b ls H locs hl hR hf)
theorem r_lshr (C : Cx Z cc own nL ret nm) {x : Int64} {y : Int32} (hdg : decode cc pc = .ok (.lshr, 1)) (k : V Z nL h (pc + 1) lv (vJ (x >>> (y.toInt64 &&& 63)) :: st)) : V Z nL h pc lv (vI y :: vJ x :: st) :=
  fun a b ls H locs hl hR hf => lv_lshr C.1 C.2.1 hdg rfl (k a b ls H locs hl hR hf)
theorem r_lcmp (C : Cx Z cc own nL ret nm) {x y : Int64} (hdg : decode cc pc = .ok (.lcmp, 1)) (k : V Z nL h (pc + 1) lv (vI (lg_cmp x y) :: st)) : V Z nL h pc lv (vJ y :: vJ x :: st) :=
  fun a b ls H locs hl hR hf => W.lcmp C.1 C.2.1 hdg (k a b ls H locs hl hR hf)
theorem r_ineg (C : Cx Z cc own nL ret nm) {x : Int32} (hdg : decode cc pc = .ok (.ineg, 1)) (k : V Z nL h (pc + 1) lv (vI (-x) :: st)) : V Z nL h pc lv (vI x :: st) :=
  fun a b ls H locs hl hR hf => lv_ineg C.1 C.2.1 hdg (k a b ls H locs hl hR hf)
theorem r_lneg (C : Cx Z cc own nL ret nm) {x : Int64} (hdg : decode cc pc = .ok (.lneg, 1)) (k : V Z nL h (pc + 1) lv (vJ (-x) :: st)) : V Z nL h pc lv (vJ x :: st) :=
  fun a b ls H locs hl hR hf => lv_lneg C.1 C.2.1 hdg (k a b ls H locs hl hR hf)
theorem r_i2l (C : Cx Z cc own nL ret nm) {x : Int32} (hdg : decode cc pc = .ok (.i2l, 1)) (k : V Z nL h (pc + 1) lv (vJ (x.toInt64) :: st)) : V Z nL h pc lv (vI x :: st) :=
  fun a b ls H locs hl hR hf => lv_i2l C.1 C.2.1 hdg rfl (k a b ls H locs hl hR hf)
theorem r_l2i (C : Cx Z cc own nL ret nm) {x : Int64} (hdg : decode cc pc = .ok (.l2i, 1)) (k : V Z nL h (pc + 1) lv (vI (x.toInt32) :: st)) : V Z nL h pc lv (vJ x :: st) :=
  fun a b ls H locs hl hR hf => lv_l2i C.1 C.2.1 hdg rfl (k a b ls H locs hl hR hf)
theorem r_i2b (C : Cx Z cc own nL ret nm) {x : Int32} (hdg : decode cc pc = .ok (.i2b, 1)) (k : V Z nL h (pc + 1) lv (vI (x.toInt8.toInt32) :: st)) : V Z nL h pc lv (vI x :: st) :=
  fun a b ls H locs hl hR hf => lv_i2b C.1 C.2.1 hdg rfl (k a b ls H locs hl hR hf)
theorem r_i2s (C : Cx Z cc own nL ret nm) {x : Int32} (hdg : decode cc pc = .ok (.i2s, 1)) (k : V Z nL h (pc + 1) lv (vI (x.toInt16.toInt32) :: st)) : V Z nL h pc lv (vI x :: st) :=
  fun a b ls H locs hl hR hf => lv_i2s C.1 C.2.1 hdg rfl (k a b ls H locs hl hR hf)
theorem r_i2c (C : Cx Z cc own nL ret nm) {x : Int32} (hdg : decode cc pc = .ok (.i2c, 1)) (k : V Z nL h (pc + 1) lv (vI ((x.toUInt32 % 65536).toInt32) :: st)) : V Z nL h pc lv (vI x :: st) :=
  fun a b ls H locs hl hR hf => lv_i2c C.1 C.2.1 hdg rfl (k a b ls H locs hl hR hf)
theorem r_i2f (C : Cx Z cc own nL ret nm) {x : Int32} (hdg : decode cc pc = .ok (.i2f, 1)) (k : V Z nL h (pc + 1) lv (vF (FP.i2f x) :: st)) : V Z nL h pc lv (vI x :: st) :=
  fun a b ls H locs hl hR hf => lv_i2f C.1 C.2.1 hdg (k a b ls H locs hl hR hf)
theorem r_f2i (C : Cx Z cc own nL ret nm) {x : UInt32} (hdg : decode cc pc = .ok (.f2i, 1)) (k : V Z nL h (pc + 1) lv (vI (FP.f2i x) :: st)) : V Z nL h pc lv (vF x :: st) :=
  fun a b ls H locs hl hR hf => lv_f2i C.1 C.2.1 hdg (k a b ls H locs hl hR hf)
theorem r_fcmp (C : Cx Z cc own nL ret nm) {x y : UInt32} {op : CmpOp} (hdg : decode cc pc = .ok (.fcmp op, 1)) (k : V Z nL h (pc + 1) lv (vI (Op.cmpValue (FP.fcmp x y) op) :: st)) : V Z nL h pc lv (vF y :: vF x :: st) :=
  fun a b ls H locs hl hR hf => lv_fcmp C.1 C.2.1 hdg (k a b ls H locs hl hR hf)
end ROWS
def o_idiv (x y : Int32) (K : Int32 → AH → Res) (h : AH) : Res := if y = 0 then none else K (x / y) h
def o_irem (x y : Int32) (K : Int32 → AH → Res) (h : AH) : Res := if y = 0 then none else K (x - x / y * y) h
def o_fmul (x y : UInt32) (K : UInt32 → AH → Res) (h : AH) : Res := if FP.fmul x y &&& 0x7fffffff ≤ 0x7f800000 then K (FP.fmul x y) h else none
def o_fdiv (x y : UInt32) (K : UInt32 → AH → Res) (h : AH) : Res := if FP.fdiv x y &&& 0x7fffffff ≤ 0x7f800000 then K (FP.fdiv x y) h else none
def o_let {α : Type} (x : α) (K : α → AH → Res) (h : AH) : Res := K x h
section ROWS2
variable {Z : ZT} {cc : ByteArray} {own : String} {nm : MethodName} {nL : Nat} {ret : Option FieldType} {h : AH} {pc : Nat} {lv : List (Nat × TV)} {st : List TV}
theorem r_idiv (C : Cx Z cc own nL ret nm) {x y : Int32} {K : Int32 → AH → Res} (hdg : decode cc pc = .ok (.idiv, 1)) (hrun : o_idiv x y K h = Z.res) (k : ∀ v, K v h = Z.res → V Z nL h (pc + 1) lv (vI v :: st)) : V Z nL h pc lv (vI y :: vI x :: st) := by
  unfold o_idiv at hrun
  split at hrun
  · cases hrun
  · exact fun a b ls H locs hl hR hf => lv_idiv C.1 C.2.1 hdg (by assumption) (k _ hrun a b ls H locs hl hR hf)
theorem r_irem (C : Cx Z cc own nL ret nm) {x y : Int32} {K : Int32 → AH → Res} (hdg : decode cc pc = .ok (.irem, 1)) (hrun : o_irem x y K h = Z.res) (k : ∀ v, K v h = Z.res → V Z nL h (pc + 1) lv (vI v :: st)) : V Z nL h pc lv (vI y :: vI x :: st) := by
  unfold o_irem at hrun
  split at hrun
  · cases hrun
  · exact fun a b ls H locs hl hR hf => lv_irem C.1 C.2.1 hdg (by assumption) (k _ hrun a b ls H locs hl hR hf)
theorem r_fmul (C : Cx Z cc own nL ret nm) {x y : UInt32} {K : UInt32 → AH → Res} (hdg : decode cc pc = .ok (.fmul, 1)) (hrun : o_fmul x y K h = Z.res) (k : ∀ v, K v h = Z.res → V Z nL h (pc + 1) lv (vF v :: st)) : V Z nL h pc lv (vF y :: vF x :: st) := by
  unfold o_fmul at hrun
  split at hrun
  · exact fun a b ls H locs hl hR hf => lv_fmul C.1 C.2.1 hdg (by assumption) (k _ hrun a b ls H locs hl hR hf)
  · cases hrun
theorem r_fdiv (C : Cx Z cc own nL ret nm) {x y : UInt32} {K : UInt32 → AH → Res} (hdg : decode cc pc = .ok (.fdiv, 1)) (hrun : o_fdiv x y K h = Z.res) (k : ∀ v, K v h = Z.res → V Z nL h (pc + 1) lv (vF v :: st)) : V Z nL h pc lv (vF y :: vF x :: st) := by
  unfold o_fdiv at hrun
  split at hrun
  · exact fun a b ls H locs hl hR hf => lv_fdiv C.1 C.2.1 hdg (by assumption) (k _ hrun a b ls H locs hl hR hf)
  · cases hrun
theorem r_let {α : Type} {x : α} {K : α → AH → Res} {f : α → List (Nat × TV)} {g : α → List TV} (hrun : o_let x K h = Z.res) (k : ∀ v, K v h = Z.res → V Z nL h pc (f v) (g v)) : V Z nL h pc (f x) (g x) := k x hrun
theorem r_dupI (C : Cx Z cc own nL ret nm) {x : Int32} (hdg : decode cc pc = .ok (.dup, 1)) (k : V Z nL h (pc + 1) lv (vI x :: vI x :: st)) : V Z nL h pc lv (vI x :: st) :=
  fun a b ls H locs hl hR hf => lv_dup (va := tv Z.X (vI x)) C.1 C.2.1 hdg rfl (k a b ls H locs hl hR hf)
theorem r_popI (C : Cx Z cc own nL ret nm) {x : Int32} (hdg : decode cc pc = .ok (.pop, 1)) (k : V Z nL h (pc + 1) lv (st)) : V Z nL h pc lv (vI x :: st) :=
  fun a b ls H locs hl hR hf => lv_pop (va := tv Z.X (vI x)) C.1 C.2.1 hdg rfl (k a b ls H locs hl hR hf)
theorem r_dupR (C : Cx Z cc own nL ret nm) {x : Rf} (hdg : decode cc pc = .ok (.dup, 1)) (k : V Z nL h (pc + 1) lv (vR x :: vR x :: st)) : V Z nL h pc lv (vR x :: st) :=
  fun a b ls H locs hl hR hf => lv_dup (va := tv Z.X (vR x)) C.1 C.2.1 hdg (tv_cat Z.X (vR x)) (k a b ls H locs hl hR hf)
theorem r_popR (C : Cx Z cc own nL ret nm) {x : Rf} (hdg : decode cc pc = .ok (.pop, 1)) (k : V Z nL h (pc + 1) lv (st)) : V Z nL h pc lv (vR x :: st) :=
  fun a b ls H locs hl hR hf => lv_pop (va := tv Z.X (vR x)) C.1 C.2.1 hdg (tv_cat Z.X (vR x)) (k a b ls H locs hl hR hf)
theorem r_dupF (C : Cx Z cc own nL ret nm) {x : UInt32} (hdg : decode cc pc = .ok (.dup, 1)) (k : V Z nL h (pc + 1) lv (vF x :: vF x :: st)) : V Z nL h pc lv (vF x :: st) :=
  fun a b ls H locs hl hR hf => lv_dup (va := tv Z.X (vF x)) C.1 C.2.1 hdg rfl (k a b ls H locs hl hR hf)
theorem r_popF (C : Cx Z cc own nL ret nm) {x : UInt32} (hdg : decode cc pc = .ok (.pop, 1)) (k : V Z nL h (pc + 1) lv (st)) : V Z nL h pc lv (vF x :: st) :=
  fun a b ls H locs hl hR hf => lv_pop (va := tv Z.X (vF x)) C.1 C.2.1 hdg rfl (k a b ls H locs hl hR hf)
theorem r_dup_x1 (C : Cx Z cc own nL ret nm) {x y : TV} (hdg : decode cc pc = .ok (.dup_x1, 1)) (hx : isJ x = false) (hy : isJ y = false) (k : V Z nL h (pc + 1) lv (x :: y :: x :: st)) : V Z nL h pc lv (x :: y :: st) :=
  fun a b ls H locs hl hR hf => lv_dup_x1 (va := tv Z.X x) (vb := tv Z.X y) C.1 C.2.1 hdg (by rw [tv_cat, hx]; rfl) (by rw [tv_cat, hy]; rfl) (k a b ls H locs hl hR hf)
theorem r_dup_x2 (C : Cx Z cc own nL ret nm) {x y z : TV} (hdg : decode cc pc = .ok (.dup_x2, 1)) (hx : isJ x = false) (hy : isJ y = false) (hz : isJ z = false) (k : V Z nL h (pc + 1) lv (x :: y :: z :: x :: st)) : V Z nL h pc lv (x :: y :: z :: st) :=
  fun a b ls H locs hl hR hf => lv_dup_x2 (va := tv Z.X x) (vb := tv Z.X y) (vd := tv Z.X z) C.1 C.2.1 hdg (by rw [tv_cat, hx]; rfl) (by rw [tv_cat, hy]; rfl) (by rw [tv_cat, hz]; rfl) (k a b ls H locs hl hR hf)
theorem r_dup2 (C : Cx Z cc own nL ret nm) {x y : TV} (hdg : decode cc pc = .ok (.dup2, 1)) (hx : isJ x = false) (hy : isJ y = false) (k : V Z nL h (pc + 1) lv (x :: y :: x :: y :: st)) : V Z nL h pc lv (x :: y :: st) :=
  fun a b ls H locs hl hR hf => lv_dup2_11 (va := tv Z.X x) (vb := tv Z.X y) C.1 C.2.1 hdg (by rw [tv_cat, hx]; rfl) (by rw [tv_cat, hy]; rfl) (k a b ls H locs hl hR hf)
theorem r_dup2J (C : Cx Z cc own nL ret nm) {x : Int64} (hdg : decode cc pc = .ok (.dup2, 1)) (k : V Z nL h (pc + 1) lv (vJ x :: vJ x :: st)) : V Z nL h pc lv (vJ x :: st) :=
  fun a b ls H locs hl hR hf => lv_dup2_2 (va := tv Z.X (vJ x)) C.1 C.2.1 hdg rfl (k a b ls H locs hl hR hf)
theorem r_popT (C : Cx Z cc own nL ret nm) {x : TV} (hdg : decode cc pc = .ok (.pop, 1)) (hx : isJ x = false) (k : V Z nL h (pc + 1) lv (st)) : V Z nL h pc lv (x :: st) :=
  fun a b ls H locs hl hR hf => lv_pop (va := tv Z.X x) C.1 C.2.1 hdg (by rw [tv_cat, hx]; rfl) (k a b ls H locs hl hR hf)
theorem r_goto (C : Cx Z cc own nL ret nm) {off : Int} (tgt : Nat) (hdg : decode cc pc = .ok (.goto off, 3)) (ht : (pc : Int) + off = (tgt : Int)) (k : V Z nL h tgt lv st) : V Z nL h pc lv st :=
  fun a b ls H locs hl hR hf => lv_goto C.1 C.2.1 hdg ht (k a b ls H locs hl hR hf)
theorem r_if_eq (C : Cx Z cc own nL ret nm) {x : Int32} {off : Int} (tgt : Nat) {A B : Res} (hdg : decode cc pc = .ok (.ifCond .eq off, 3)) (ht : (pc : Int) + off = (tgt : Int)) (hrun : (if x = 0 then A else B) = Z.res) (kt : x = 0 → A = Z.res → V Z nL h tgt lv st) (kf : ¬ (x = 0) → B = Z.res → V Z nL h (pc + 3) lv st) : V Z nL h pc lv (vI x :: st) :=
  fun a b ls H locs hl hR hf => lv_if_eq C.1 C.2.1 hdg ht (fun q => kt q (by rw [if_pos q] at hrun; exact hrun) a b ls H locs hl hR hf) (fun q => kf q (by rw [if_neg q] at hrun; exact hrun) a b ls H locs hl hR hf)
theorem r_icmp_eq (C : Cx Z cc own nL ret nm) {x y : Int32} {off : Int} (tgt : Nat) {A B : Res} (hdg : decode cc pc = .ok (.if_icmp .eq off, 3)) (ht : (pc : Int) + off = (tgt : Int)) (hrun : (if x = y then A else B) = Z.res) (kt : x = y → A = Z.res → V Z nL h tgt lv st) (kf : ¬ (x = y) → B = Z.res → V Z nL h (pc + 3) lv st) : V Z nL h pc lv (vI y :: vI x :: st) :=
  fun a b ls H locs hl hR hf => lv_icmp_eq C.1 C.2.1 hdg ht (fun q => kt q (by rw [if_pos q] at hrun; exact hrun) a b ls H locs hl hR hf) (fun q => kf q (by rw [if_neg q] at hrun; exact hrun) a b ls H locs hl hR hf)
theorem r_if_ne (C : Cx Z cc own nL ret nm) {x : Int32} {off : Int} (tgt : Nat) {A B : Res} (hdg : decode cc pc = .ok (.ifCond .ne off, 3)) (ht : (pc : Int) + off = (tgt : Int)) (hrun : (if x = 0 then A else B) = Z.res) (kt : ¬ (x = 0) → B = Z.res → V Z nL h tgt lv st) (kf : x = 0 → A = Z.res → V Z nL h (pc + 3) lv st) : V Z nL h pc lv (vI x :: st) :=
  fun a b ls H locs hl hR hf => lv_if_ne C.1 C.2.1 hdg ht (fun q => kt q (by rw [if_neg q] at hrun; exact hrun) a b ls H locs hl hR hf) (fun q => kf q (by rw [if_pos q] at hrun; exact hrun) a b ls H locs hl hR hf)
theorem r_icmp_ne (C : Cx Z cc own nL ret nm) {x y : Int32} {off : Int} (tgt : Nat) {A B : Res} (hdg : decode cc pc = .ok (.if_icmp .ne off, 3)) (ht : (pc : Int) + off = (tgt : Int)) (hrun : (if x = y then A else B) = Z.res) (kt : ¬ (x = y) → B = Z.res → V Z nL h tgt lv st) (kf : x = y → A = Z.res → V Z nL h (pc + 3) lv st) : V Z nL h pc lv (vI y :: vI x :: st) :=
  fun a b ls H locs hl hR hf => lv_icmp_ne C.1 C.2.1 hdg ht (fun q => kt q (by rw [if_neg q] at hrun; exact hrun) a b ls H locs hl hR hf) (fun q => kf q (by rw [if_pos q] at hrun; exact hrun) a b ls H locs hl hR hf)
theorem r_if_lt (C : Cx Z cc own nL ret nm) {x : Int32} {off : Int} (tgt : Nat) {A B : Res} (hdg : decode cc pc = .ok (.ifCond .lt off, 3)) (ht : (pc : Int) + off = (tgt : Int)) (hrun : (if x < 0 then A else B) = Z.res) (kt : x < 0 → A = Z.res → V Z nL h tgt lv st) (kf : ¬ (x < 0) → B = Z.res → V Z nL h (pc + 3) lv st) : V Z nL h pc lv (vI x :: st) :=
  fun a b ls H locs hl hR hf => lv_if_lt C.1 C.2.1 hdg ht (fun q => kt q (by rw [if_pos q] at hrun; exact hrun) a b ls H locs hl hR hf) (fun q => kf q (by rw [if_neg q] at hrun; exact hrun) a b ls H locs hl hR hf)
theorem r_icmp_lt (C : Cx Z cc own nL ret nm) {x y : Int32} {off : Int} (tgt : Nat) {A B : Res} (hdg : decode cc pc = .ok (.if_icmp .lt off, 3)) (ht : (pc : Int) + off = (tgt : Int)) (hrun : (if x < y then A else B) = Z.res) (kt : x < y → A = Z.res → V Z nL h tgt lv st) (kf : ¬ (x < y) → B = Z.res → V Z nL h (pc + 3) lv st) : V Z nL h pc lv (vI y :: vI x :: st) :=
  fun a b ls H locs hl hR hf => lv_icmp_lt C.1 C.2.1 hdg ht (fun q => kt q (by rw [if_pos q] at hrun; exact hrun) a b ls H locs hl hR hf) (fun q => kf q (by rw [if_neg q] at hrun; exact hrun) a b ls H locs hl hR hf)
theorem r_if_ge (C : Cx Z cc own nL ret nm) {x : Int32} {off : Int} (tgt : Nat) {A B : Res} (hdg : decode cc pc = .ok (.ifCond .ge off, 3)) (ht : (pc : Int) + off = (tgt : Int)) (hrun : (if 0 ≤ x then A else B) = Z.res) (kt : 0 ≤ x → A = Z.res → V Z nL h tgt lv st) (kf : ¬ (0 ≤ x) → B = Z.res → V Z nL h (pc + 3) lv st) : V Z nL h pc lv (vI x :: st) :=
  fun a b ls H locs hl hR hf => lv_if_ge C.1 C.2.1 hdg ht (fun q => kt q (by rw [if_pos q] at hrun; exact hrun) a b ls H locs hl hR hf) (fun q => kf q (by rw [if_neg q] at hrun; exact hrun) a b ls H locs hl hR hf)
theorem r_icmp_ge (C : Cx Z cc own nL ret nm) {x y : Int32} {off : Int} (tgt : Nat) {A B : Res} (hdg : decode cc pc = .ok (.if_icmp .ge off, 3)) (ht : (pc : Int) + off = (tgt : Int)) (hrun : (if y ≤ x then A else B) = Z.res) (kt : y ≤ x → A = Z.res → V Z nL h tgt lv st) (kf : ¬ (y ≤ x) → B = Z.res → V Z nL h (pc + 3) lv st) : V Z nL h pc lv (vI y :: vI x :: st) :=
  fun a b ls H locs hl hR hf => lv_icmp_ge C.1 C.2.1 hdg ht (fun q => kt q (by rw [if_pos q] at hrun; exact hrun) a b ls H locs hl hR hf) (fun q => kf q (by rw [if_neg q] at hrun; exact hrun) a b ls H locs hl hR hf)
theorem r_if_gt (C : Cx Z cc own nL ret nm) {x : Int32} {off : Int} (tgt : Nat) {A B : Res} (hdg : decode cc pc = .ok (.ifCond .gt off, 3)) (ht : (pc : Int) + off = (tgt : Int)) (hrun : (if 0 < x then A else B) = Z.res) (kt : 0 < x → A = Z.res → V Z nL h tgt lv st) (kf : ¬ (0 < x) → B = Z.res → V Z nL h (pc + 3) lv st) : V Z nL h pc lv (vI x :: st) :=
  fun a b ls H locs hl hR hf => lv_if_gt C.1 C.2.1 hdg ht (fun q => kt q (by rw [if_pos q] at hrun; exact hrun) a b ls H locs hl hR hf) (fun q => kf q (by rw [if_neg q] at hrun; exact hrun) a b ls H locs hl hR hf)
theorem r_icmp_gt (C : Cx Z cc own nL ret nm) {x y : Int32} {off : Int} (tgt : Nat) {A B : Res} (hdg : decode cc pc = .ok (.if_icmp .gt off, 3)) (ht : (pc : Int) + off = (tgt : Int)) (hrun : (if y < x then A else B) = Z.res) (kt : y < x → A = Z.res → V Z nL h tgt lv st) (kf : ¬ (y < x) → B = Z.res → V Z nL h (pc + 3) lv st) : V Z nL h pc lv (vI y :: vI x :: st) :=
  fun a b ls H locs hl hR hf => lv_icmp_gt C.1 C.2.1 hdg ht (fun q => kt q (by rw [if_pos q] at hrun; exact hrun) a b ls H locs hl hR hf) (fun q => kf q (by rw [if_neg q] at hrun; exact hrun) a b ls H locs hl hR hf)
theorem r_if_le (C : Cx Z cc own nL ret nm) {x : Int32} {off : Int} (tgt : Nat) {A B : Res} (hdg : decode cc pc = .ok (.ifCond .le off, 3)) (ht : (pc : Int) + off = (tgt : Int)) (hrun : (if x ≤ 0 then A else B) = Z.res) (kt : x ≤ 0 → A = Z.res → V Z nL h tgt lv st) (kf : ¬ (x ≤ 0) → B = Z.res → V Z nL h (pc + 3) lv st) : V Z nL h pc lv (vI x :: st) :=
  fun a b ls H locs hl hR hf => lv_if_le C.1 C.2.1 hdg ht (fun q => kt q (by rw [if_pos q] at hrun; exact hrun) a b ls H locs hl hR hf) (fun q => kf q (by rw [if_neg q] at hrun; exact hrun) a b ls H locs hl hR hf)
theorem r_icmp_le (C : Cx Z cc own nL ret nm) {x y : Int32} {off : Int} (tgt : Nat) {A B : Res} (hdg : decode cc pc = .ok (.if_icmp .le off, 3)) (ht : (pc : Int) + off = (tgt : Int)) (hrun : (if x ≤ y then A else B) = Z.res) (kt : x ≤ y → A = Z.res → V Z nL h tgt lv st) (kf : ¬ (x ≤ y) → B = Z.res → V Z nL h (pc + 3) lv st) : V Z nL h pc lv (vI y :: vI x :: st) :=
  fun a b ls H locs hl hR hf => lv_icmp_le C.1 C.2.1 hdg ht (fun q => kt q (by rw [if_pos q] at hrun; exact hrun) a b ls H locs hl hR hf) (fun q => kf q (by rw [if_neg q] at hrun; exact hrun) a b ls H locs hl hR hf)
end ROWS2
