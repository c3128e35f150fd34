/-! LAMBDAS: the sites, their classes, what holds of them all through the run. Printed by gen/mklam.py out of gen/lam.head.lean.txt -/
set_option maxRecDepth 100000
/-- a site: method, pc, entry, shape; of the class made for it: entries of the target, its class, its name-and-type, of the fields; the forwarder's code and locals -/
abbrev LSt : Type := MethodName × Nat × Nat × Lambda.Shape × Nat × Nat × Nat × List Nat × ByteArray × Nat
abbrev LSt.x (q : LSt) : MethodName := q.1
abbrev LSt.pc (q : LSt) : Nat := q.2.1
abbrev LSt.idx (q : LSt) : Nat := q.2.2.1
abbrev LSt.sh (q : LSt) : Lambda.Shape := q.2.2.2.1
abbrev LSt.mi (q : LSt) : Nat := q.2.2.2.2.1
abbrev LSt.ci (q : LSt) : Nat := q.2.2.2.2.2.1
abbrev LSt.nt (q : LSt) : Nat := q.2.2.2.2.2.2.1
abbrev LSt.fs (q : LSt) : List Nat := q.2.2.2.2.2.2.2.1
abbrev LSt.code (q : LSt) : ByteArray := q.2.2.2.2.2.2.2.2.1
abbrev LSt.maxL (q : LSt) : Nat := q.2.2.2.2.2.2.2.2.2
def LSt.if_ (q : LSt) : MethodName := ⟨q.sh.iface, q.sh.name, q.sh.sam.toString⟩
def LSt.y (q : LSt) : MethodName := ⟨q.sh.implClass, q.sh.implName, q.sh.implDesc.toString⟩
def LSt.chk (q : LSt) : Bool := match q.sh.file q.x.cls with
  | none => false
  | some D => match layoutMethods D, layoutFields D 0 with
    | some ms, some lay => (match ms[1]? with
        | some fw => decide (fw.code.map (fun c => (c.code.data, c.maxLocals)) = some (q.code.data, q.maxL) ∧ fw.accessFlags = 1 ∧ fw.sig.returnType = q.sh.sam.returnType)
        | none => false) &&
      (decide (D.constantPool[q.mi]? = some (.methodref q.ci q.nt) ∧ D.constantPool.className? q.ci = some q.sh.implClass ∧ D.constantPool.nameAndType? q.nt = some (q.sh.implName, q.sh.implDesc.toString)) &&
      ((match D.constantPool[q.ci]? with
        | some (.class_ n) => decide (D.constantPool.string? n = some q.sh.implClass ∧ q.ci ≠ D.thisClass)
        | _ => false) &&
      (decide (lay.2.1.toList = q.sh.captured) &&
      (decide ((parseMethodDescriptor q.if_.desc).map (fun d => d.parameters.length) = some q.sh.sam.parameters.length ∧ plainName (q.x.cls ++ "$$Lambda") = true ∧ q.if_.cls ≠ "java/lang/invoke/MethodHandle" ∧ q.if_.cls ≠ "java/lang/invoke/VarHandle" ∧ q.y.cls ≠ "java/lang/invoke/MethodHandle" ∧ q.y.cls ≠ "java/lang/invoke/VarHandle") &&
      (List.range q.fs.length).all (fun i => match q.fs[i]? with
        | some ix => (match D.constantPool[ix]? with
          | some (.fieldref _ nti) => (match D.constantPool.nameAndType? nti with
            | some (nm, _) => decide (lay.1.findIdx? (fun f => f.name == nm) = some i ∧ (lay.1[i]?).map (fun f => (f.isStatic, f.slot)) = some (false, i))
            | none => false)
          | _ => false)
        | none => false)))))
    | _, _ => false
theorem LSt.chk_spec {q : LSt} (h : q.chk = true) : ∃ (D : ClassFile) (ms : Array Method) (lay : Array Field × Array FieldType × Array FieldType) (fw : Method) (cd : Code) (n : Nat),
    q.sh.file q.x.cls = some D ∧ layoutMethods D = some ms ∧ layoutFields D 0 = some lay ∧ ms[1]? = some fw ∧ fw.code = some cd ∧ cd.code = q.code ∧ cd.maxLocals = q.maxL ∧ fw.accessFlags = 1 ∧ fw.sig.returnType = q.sh.sam.returnType ∧
    D.constantPool[q.mi]? = some (.methodref q.ci q.nt) ∧ D.constantPool.className? q.ci = some q.sh.implClass ∧ D.constantPool.nameAndType? q.nt = some (q.sh.implName, q.sh.implDesc.toString) ∧
    D.constantPool[q.ci]? = some (.class_ n) ∧ D.constantPool.string? n = some q.sh.implClass ∧ q.ci ≠ D.thisClass ∧ lay.2.1.toList = q.sh.captured ∧
    (parseMethodDescriptor q.if_.desc).map (fun d => d.parameters.length) = some q.sh.sam.parameters.length ∧ plainName (q.x.cls ++ "$$Lambda") = true ∧ (q.if_.cls ≠ "java/lang/invoke/MethodHandle" ∧ q.if_.cls ≠ "java/lang/invoke/VarHandle") ∧ (q.y.cls ≠ "java/lang/invoke/MethodHandle" ∧ q.y.cls ≠ "java/lang/invoke/VarHandle") ∧
    ∀ i ix, q.fs[i]? = some ix → ∃ c nti nm ds f, D.constantPool[ix]? = some (.fieldref c nti) ∧ D.constantPool.nameAndType? nti = some (nm, ds) ∧ lay.1.findIdx? (fun f => f.name == nm) = some i ∧ lay.1[i]? = some f ∧ f.isStatic = false ∧ f.slot = i := by
  unfold LSt.chk at h
  cases hD : q.sh.file q.x.cls with
  | none => simp [hD] at h
  | some D =>
    cases hm : layoutMethods D with
    | none => simp [hD, hm] at h
    | some ms =>
      cases hl : layoutFields D 0 with
      | none => simp [hD, hm, hl] at h
      | some lay =>
        cases hw : ms[1]? with
        | none => simp only [hD, hm, hl, hw, Bool.false_and] at h; cases h
        | some fw =>
          simp only [hD, hm, hl, hw, Bool.and_eq_true, decide_eq_true_eq, List.all_eq_true] at h
          obtain ⟨⟨a1, a2, a3⟩, ⟨b1, b2, b3⟩, c1, d1, ⟨e1, e2, e3, e4, e5, e6⟩, f1⟩ := h
          obtain ⟨cd, hcd, hp⟩ := Option.map_eq_some_iff.mp a1
          simp only [Prod.mk.injEq] at hp
          split at c1
          · rename_i n hn
            simp only [decide_eq_true_eq] at c1
            refine ⟨D, ms, lay, fw, cd, n, rfl, hm, hl, hw, hcd, ByteArray.ext hp.1, hp.2, a2, a3, b1, b2, b3, hn, c1.1, c1.2, d1, e1, e2, ⟨e3, e4⟩, ⟨e5, e6⟩, fun i ix hi => ?_⟩
            have := f1 i (List.mem_range.mpr (List.getElem?_eq_some_iff.mp hi).1)
            simp only [hi] at this
            split at this
            · rename_i c nti hc
              split at this
              · rename_i nm ds hnt
                simp only [decide_eq_true_eq] at this
                obtain ⟨f, hf, hfp⟩ := Option.map_eq_some_iff.mp this.2
                simp only [Prod.mk.injEq] at hfp
                exact ⟨c, nti, nm, ds, f, hc, hnt, this.1, hf, hfp.1, hfp.2⟩
              · cases this
            · cases this
          · cases c1
def sh0 : Lambda.Shape := ({ iface := "CoastTiles$Edit", name := "run", sam := ({ parameters := [], returnType := (Option.some Jvm.ClassFile.FieldType.int) } : Jvm.ClassFile.MethodDescriptor), captured := [(Jvm.ClassFile.FieldType.object "CoastTiles"), Jvm.ClassFile.FieldType.int, Jvm.ClassFile.FieldType.int, Jvm.ClassFile.FieldType.boolean], kind := 5, implClass := "CoastTiles", implName := "lambda$fill$1", implDesc := ({ parameters := [Jvm.ClassFile.FieldType.int, Jvm.ClassFile.FieldType.int, Jvm.ClassFile.FieldType.boolean], returnType := (Option.some Jvm.ClassFile.FieldType.int) } : Jvm.ClassFile.MethodDescriptor), implItf := false, inst := ({ parameters := [], returnType := (Option.some Jvm.ClassFile.FieldType.int) } : Jvm.ClassFile.MethodDescriptor) } : Jvm.Lambda.Shape)
def ls0 : LSt := ⟨⟨"CoastTiles", "fill", "(IIZ)I"⟩, 19, 90, sh0, 34, 30, 33, [20, 22, 24, 26], ⟨#[0x2a, 0xb4, 0x00, 0x14, 0x2a, 0xb4, 0x00, 0x16, 0x2a, 0xb4, 0x00, 0x18, 0x2a, 0xb4, 0x00, 0x1a, 0xb6, 0x00, 0x22, 0xac]⟩, 1⟩
theorem word0 : siteWord_1_1 = .lambdaSite ls0.x ls0.pc ls0.idx ls0.sh := rfl
theorem chk0 : ls0.chk = true := by decide +kernel
def sh1 : Lambda.Shape := ({ iface := "CoastTiles$Visitor", name := "visit", sam := ({ parameters := [(Jvm.ClassFile.FieldType.object "CoastTiles$Step")], returnType := (Option.none : Option Jvm.ClassFile.FieldType) } : Jvm.ClassFile.MethodDescriptor), captured := [], kind := 6, implClass := "CoastTiles", implName := "lambda$fill$0", implDesc := ({ parameters := [(Jvm.ClassFile.FieldType.object "CoastTiles$Step")], returnType := (Option.none : Option Jvm.ClassFile.FieldType) } : Jvm.ClassFile.MethodDescriptor), implItf := false, inst := ({ parameters := [(Jvm.ClassFile.FieldType.object "CoastTiles$Step")], returnType := (Option.none : Option Jvm.ClassFile.FieldType) } : Jvm.ClassFile.MethodDescriptor) } : Jvm.Lambda.Shape)
def ls1 : LSt := ⟨⟨"CoastTiles", "lambda$fill$1", "(IIZ)I"⟩, 7, 309, sh1, 17, 14, 16, [], ⟨#[0x2b, 0xb8, 0x00, 0x11, 0xb1]⟩, 2⟩
theorem word1 : siteWord_1_2 = .lambdaSite ls1.x ls1.pc ls1.idx ls1.sh := rfl
theorem chk1 : ls1.chk = true := by decide +kernel
def sh2 : Lambda.Shape := ({ iface := "CoastTiles$Edit", name := "run", sam := ({ parameters := [], returnType := (Option.some Jvm.ClassFile.FieldType.int) } : Jvm.ClassFile.MethodDescriptor), captured := [(Jvm.ClassFile.FieldType.object "CoastTiles"), Jvm.ClassFile.FieldType.int, Jvm.ClassFile.FieldType.int, Jvm.ClassFile.FieldType.int, Jvm.ClassFile.FieldType.boolean], kind := 5, implClass := "CoastTiles", implName := "lambda$brush$2", implDesc := ({ parameters := [Jvm.ClassFile.FieldType.int, Jvm.ClassFile.FieldType.int, Jvm.ClassFile.FieldType.int, Jvm.ClassFile.FieldType.boolean], returnType := (Option.some Jvm.ClassFile.FieldType.int) } : Jvm.ClassFile.MethodDescriptor), implItf := false, inst := ({ parameters := [], returnType := (Option.some Jvm.ClassFile.FieldType.int) } : Jvm.ClassFile.MethodDescriptor) } : Jvm.Lambda.Shape)
def ls2 : LSt := ⟨⟨"CoastTiles", "brush", "(IIIZ)I"⟩, 33, 97, sh2, 37, 33, 36, [21, 23, 25, 27, 29], ⟨#[0x2a, 0xb4, 0x00, 0x15, 0x2a, 0xb4, 0x00, 0x17, 0x2a, 0xb4, 0x00, 0x19, 0x2a, 0xb4, 0x00, 0x1b, 0x2a, 0xb4, 0x00, 0x1d, 0xb6, 0x00, 0x25, 0xac]⟩, 1⟩
theorem word2 : siteWord_1_3 = .lambdaSite ls2.x ls2.pc ls2.idx ls2.sh := rfl
theorem chk2 : ls2.chk = true := by decide +kernel
def sh3 : Lambda.Shape := ({ iface := "CoastTiles$Edit", name := "run", sam := ({ parameters := [], returnType := (Option.some Jvm.ClassFile.FieldType.int) } : Jvm.ClassFile.MethodDescriptor), captured := [(Jvm.ClassFile.FieldType.object "CoastTiles"), Jvm.ClassFile.FieldType.int], kind := 5, implClass := "CoastTiles", implName := "lambda$smooth$3", implDesc := ({ parameters := [Jvm.ClassFile.FieldType.int], returnType := (Option.some Jvm.ClassFile.FieldType.int) } : Jvm.ClassFile.MethodDescriptor), implItf := false, inst := ({ parameters := [], returnType := (Option.some Jvm.ClassFile.FieldType.int) } : Jvm.ClassFile.MethodDescriptor) } : Jvm.Lambda.Shape)
def ls3 : LSt := ⟨⟨"CoastTiles", "smooth", "(I)I"⟩, 16, 100, sh3, 27, 23, 26, [17, 19], ⟨#[0x2a, 0xb4, 0x00, 0x11, 0x2a, 0xb4, 0x00, 0x13, 0xb6, 0x00, 0x1b, 0xac]⟩, 1⟩
theorem word3 : siteWord_1_4 = .lambdaSite ls3.x ls3.pc ls3.idx ls3.sh := rfl
theorem chk3 : ls3.chk = true := by decide +kernel
def sh4 : Lambda.Shape := ({ iface := "CoastTiles$Edit", name := "run", sam := ({ parameters := [], returnType := (Option.some Jvm.ClassFile.FieldType.int) } : Jvm.ClassFile.MethodDescriptor), captured := [(Jvm.ClassFile.FieldType.object "CoastTiles"), Jvm.ClassFile.FieldType.int, Jvm.ClassFile.FieldType.int, Jvm.ClassFile.FieldType.int], kind := 5, implClass := "CoastTiles", implName := "lambda$pin$4", implDesc := ({ parameters := [Jvm.ClassFile.FieldType.int, Jvm.ClassFile.FieldType.int, Jvm.ClassFile.FieldType.int], returnType := (Option.some Jvm.ClassFile.FieldType.int) } : Jvm.ClassFile.MethodDescriptor), implItf := false, inst := ({ parameters := [], returnType := (Option.some Jvm.ClassFile.FieldType.int) } : Jvm.ClassFile.MethodDescriptor) } : Jvm.Lambda.Shape)
def ls4 : LSt := ⟨⟨"CoastTiles", "pin", "(III)I"⟩, 43, 145, sh4, 33, 29, 32, [19, 21, 23, 25], ⟨#[0x2a, 0xb4, 0x00, 0x13, 0x2a, 0xb4, 0x00, 0x15, 0x2a, 0xb4, 0x00, 0x17, 0x2a, 0xb4, 0x00, 0x19, 0xb6, 0x00, 0x21, 0xac]⟩, 1⟩
theorem word4 : siteWord_1_5 = .lambdaSite ls4.x ls4.pc ls4.idx ls4.sh := rfl
theorem chk4 : ls4.chk = true := by decide +kernel
def sh5 : Lambda.Shape := ({ iface := "CoastTiles$Edit", name := "run", sam := ({ parameters := [], returnType := (Option.some Jvm.ClassFile.FieldType.int) } : Jvm.ClassFile.MethodDescriptor), captured := [(Jvm.ClassFile.FieldType.object "CoastTiles"), Jvm.ClassFile.FieldType.int, Jvm.ClassFile.FieldType.int, Jvm.ClassFile.FieldType.int], kind := 5, implClass := "CoastTiles", implName := "lambda$unpin$5", implDesc := ({ parameters := [Jvm.ClassFile.FieldType.int, Jvm.ClassFile.FieldType.int, Jvm.ClassFile.FieldType.int], returnType := (Option.some Jvm.ClassFile.FieldType.int) } : Jvm.ClassFile.MethodDescriptor), implItf := false, inst := ({ parameters := [], returnType := (Option.some Jvm.ClassFile.FieldType.int) } : Jvm.ClassFile.MethodDescriptor) } : Jvm.Lambda.Shape)
def ls5 : LSt := ⟨⟨"CoastTiles", "unpin", "(II)I"⟩, 40, 148, sh5, 33, 29, 32, [19, 21, 23, 25], ⟨#[0x2a, 0xb4, 0x00, 0x13, 0x2a, 0xb4, 0x00, 0x15, 0x2a, 0xb4, 0x00, 0x17, 0x2a, 0xb4, 0x00, 0x19, 0xb6, 0x00, 0x21, 0xac]⟩, 1⟩
theorem word5 : siteWord_1_6 = .lambdaSite ls5.x ls5.pc ls5.idx ls5.sh := rfl
theorem chk5 : ls5.chk = true := by decide +kernel
def sh6 : Lambda.Shape := ({ iface := "CoastTiles$Question", name := "ask", sam := ({ parameters := [Jvm.ClassFile.FieldType.int, Jvm.ClassFile.FieldType.int], returnType := (Option.some Jvm.ClassFile.FieldType.int) } : Jvm.ClassFile.MethodDescriptor), captured := [(Jvm.ClassFile.FieldType.object "CoastTiles")], kind := 5, implClass := "CoastTiles", implName := "lambda$faults$6", implDesc := ({ parameters := [Jvm.ClassFile.FieldType.int, Jvm.ClassFile.FieldType.int], returnType := (Option.some Jvm.ClassFile.FieldType.int) } : Jvm.ClassFile.MethodDescriptor), implItf := false, inst := ({ parameters := [Jvm.ClassFile.FieldType.int, Jvm.ClassFile.FieldType.int], returnType := (Option.some Jvm.ClassFile.FieldType.int) } : Jvm.ClassFile.MethodDescriptor) } : Jvm.Lambda.Shape)
def ls6 : LSt := ⟨⟨"CoastTiles", "faults", "()I"⟩, 2, 154, sh6, 22, 19, 21, [15], ⟨#[0x2a, 0xb4, 0x00, 0x0f, 0x1b, 0x1c, 0xb6, 0x00, 0x16, 0xac]⟩, 3⟩
theorem word6 : siteWord_1_7 = .lambdaSite ls6.x ls6.pc ls6.idx ls6.sh := rfl
theorem chk6 : ls6.chk = true := by decide +kernel
def sh7 : Lambda.Shape := ({ iface := "CoastTiles$Question", name := "ask", sam := ({ parameters := [Jvm.ClassFile.FieldType.int, Jvm.ClassFile.FieldType.int], returnType := (Option.some Jvm.ClassFile.FieldType.int) } : Jvm.ClassFile.MethodDescriptor), captured := [(Jvm.ClassFile.FieldType.object "CoastTiles"), Jvm.ClassFile.FieldType.int], kind := 5, implClass := "CoastTiles", implName := "lambda$count$7", implDesc := ({ parameters := [Jvm.ClassFile.FieldType.int, Jvm.ClassFile.FieldType.int, Jvm.ClassFile.FieldType.int], returnType := (Option.some Jvm.ClassFile.FieldType.int) } : Jvm.ClassFile.MethodDescriptor), implItf := false, inst := ({ parameters := [Jvm.ClassFile.FieldType.int, Jvm.ClassFile.FieldType.int], returnType := (Option.some Jvm.ClassFile.FieldType.int) } : Jvm.ClassFile.MethodDescriptor) } : Jvm.Lambda.Shape)
def ls7 : LSt := ⟨⟨"CoastTiles", "count", "(I)I"⟩, 10, 177, sh7, 27, 23, 26, [17, 19], ⟨#[0x2a, 0xb4, 0x00, 0x11, 0x2a, 0xb4, 0x00, 0x13, 0x1b, 0x1c, 0xb6, 0x00, 0x1b, 0xac]⟩, 3⟩
theorem word7 : siteWord_1_8 = .lambdaSite ls7.x ls7.pc ls7.idx ls7.sh := rfl
theorem chk7 : ls7.chk = true := by decide +kernel
def sh8 : Lambda.Shape := ({ iface := "CoastTiles$Question", name := "ask", sam := ({ parameters := [Jvm.ClassFile.FieldType.int, Jvm.ClassFile.FieldType.int], returnType := (Option.some Jvm.ClassFile.FieldType.int) } : Jvm.ClassFile.MethodDescriptor), captured := [(Jvm.ClassFile.FieldType.object "CoastTiles"), (Jvm.ClassFile.FieldType.object "java/util/BitSet")], kind := 5, implClass := "CoastTiles", implName := "lambda$shapes$8", implDesc := ({ parameters := [(Jvm.ClassFile.FieldType.object "java/util/BitSet"), Jvm.ClassFile.FieldType.int, Jvm.ClassFile.FieldType.int], returnType := (Option.some Jvm.ClassFile.FieldType.int) } : Jvm.ClassFile.MethodDescriptor), implItf := false, inst := ({ parameters := [Jvm.ClassFile.FieldType.int, Jvm.ClassFile.FieldType.int], returnType := (Option.some Jvm.ClassFile.FieldType.int) } : Jvm.ClassFile.MethodDescriptor) } : Jvm.Lambda.Shape)
def ls8 : LSt := ⟨⟨"CoastTiles", "shapes", "()I"⟩, 11, 183, sh8, 27, 23, 26, [17, 19], ⟨#[0x2a, 0xb4, 0x00, 0x11, 0x2a, 0xb4, 0x00, 0x13, 0x1b, 0x1c, 0xb6, 0x00, 0x1b, 0xac]⟩, 3⟩
theorem word8 : siteWord_1_9 = .lambdaSite ls8.x ls8.pc ls8.idx ls8.sh := rfl
theorem chk8 : ls8.chk = true := by decide +kernel
def sh9 : Lambda.Shape := ({ iface := "CoastTiles$Visitor", name := "visit", sam := ({ parameters := [(Jvm.ClassFile.FieldType.object "CoastTiles$Step")], returnType := (Option.none : Option Jvm.ClassFile.FieldType) } : Jvm.ClassFile.MethodDescriptor), captured := [], kind := 6, implClass := "CoastTiles$Coast", implName := "lambda$regions$0", implDesc := ({ parameters := [(Jvm.ClassFile.FieldType.object "CoastTiles$Step")], returnType := (Option.none : Option Jvm.ClassFile.FieldType) } : Jvm.ClassFile.MethodDescriptor), implItf := false, inst := ({ parameters := [(Jvm.ClassFile.FieldType.object "CoastTiles$Step")], returnType := (Option.none : Option Jvm.ClassFile.FieldType) } : Jvm.ClassFile.MethodDescriptor) } : Jvm.Lambda.Shape)
def ls9 : LSt := ⟨⟨"CoastTiles$Coast", "regions", "(ZZ)Ljava/util/LinkedList;"⟩, 77, 148, sh9, 17, 14, 16, [], ⟨#[0x2b, 0xb8, 0x00, 0x11, 0xb1]⟩, 2⟩
theorem word9 : siteWord_1_10 = .lambdaSite ls9.x ls9.pc ls9.idx ls9.sh := rfl
theorem chk9 : ls9.chk = true := by decide +kernel
def sh10 : Lambda.Shape := ({ iface := "CoastTiles$Visitor", name := "visit", sam := ({ parameters := [(Jvm.ClassFile.FieldType.object "CoastTiles$Step")], returnType := (Option.none : Option Jvm.ClassFile.FieldType) } : Jvm.ClassFile.MethodDescriptor), captured := [], kind := 6, implClass := "CoastTiles", implName := "lambda$region$9", implDesc := ({ parameters := [(Jvm.ClassFile.FieldType.object "CoastTiles$Step")], returnType := (Option.none : Option Jvm.ClassFile.FieldType) } : Jvm.ClassFile.MethodDescriptor), implItf := false, inst := ({ parameters := [(Jvm.ClassFile.FieldType.object "CoastTiles$Step")], returnType := (Option.none : Option Jvm.ClassFile.FieldType) } : Jvm.ClassFile.MethodDescriptor) } : Jvm.Lambda.Shape)
def ls10 : LSt := ⟨⟨"CoastTiles", "region", "(IIZ)I"⟩, 19, 219, sh10, 17, 14, 16, [], ⟨#[0x2b, 0xb8, 0x00, 0x11, 0xb1]⟩, 2⟩
theorem word10 : siteWord_1_11 = .lambdaSite ls10.x ls10.pc ls10.idx ls10.sh := rfl
theorem chk10 : ls10.chk = true := by decide +kernel
def mySites : List (LSt × Option Nat) := [(ls0, none), (ls1, some 5), (ls2, none), (ls3, none), (ls4, none), (ls5, none), (ls6, none), (ls7, none), (ls8, none), (ls9, some 6), (ls10, some 7)]
theorem mySites_chk : ∀ q ∈ mySites, q.1.chk = true := by
  intro q hq
  simp only [mySites, List.mem_cons, List.not_mem_nil, or_false] at hq
  rcases hq with rfl | rfl | rfl | rfl | rfl | rfl | rfl | rfl | rfl | rfl | rfl
  · exact chk0
  · exact chk1
  · exact chk2
  · exact chk3
  · exact chk4
  · exact chk5
  · exact chk6
  · exact chk7
  · exact chk8
  · exact chk9
  · exact chk10
/-- what holds of a site all through the run: its record in the caller's class, its made class, its interface's method -/
def lamOk (U : State) (q : LSt) (c : ClassId) (lk : Linked) : Prop :=
  ∃ (m : MethodId) (kD : Class) (cf : ClassFile) (i0 p0 b n : Nat) (nm ds : String) (sg : MethodDescriptor) (iface : ClassId) (kI : Class) (r0 : MethodId) (r : Method),
    U.methodNamed? q.x = some m ∧ U.vm.classes[m.cls]? = some kD ∧ kD.name = q.x.cls ∧ kD.cf = some cf ∧ cf.constantPool[q.idx]? = some (.invokeDynamic b n) ∧ cf.constantPool.nameAndType? n = some (nm, ds) ∧ parseLongMethodDescriptor ds = some sg ∧ sg.parameters = q.sh.captured ∧
    (kD.callSites.find? fun y => y.1 == m.idx && y.2.1 == q.pc) = some (i0, p0, lk) ∧
    Lambda.isMade { classPath := fun _ => none } U.vm m.cls q.sh c = true ∧ U.lambdaCallable q.sh c = true ∧
    U.vm.findClass q.sh.iface = some iface ∧ U.vm.classes[iface]? = some kI ∧ kI.isInterface = true ∧ r0.cls = iface ∧
    ((methodIn iface q.sh.name q.sh.sam.toString true none).ask { classPath := fun _ => none } U.vm).1 = .ok r0 ∧
    U.methodNamed? q.if_ = some r0 ∧ U.vm.method? r0 = some r ∧ r.isStatic = false ∧ parseMethodDescriptor q.if_.desc = some r.sig ∧
    ∀ o ok, U.vm.findClass "java/lang/Object" = some o → U.vm.classes[o]? = some ok → ok.instanceTypes.size = 0
theorem lamOk.moved {u U : State} (hW : u.WarmedH U.vm) {q : LSt} {c : ClassId} {lk : Linked} (h : lamOk u q c lk) : lamOk U q c lk := by
  obtain ⟨m, kD, cf, i0, p0, b, n, nm, ds, sg, iface, kI, r0, r, h1, h2, h3, h4, h5, h6, h7, h8, h9, h10, h11, h12, h13, h14, h15, h16, h17, h18, h19, h20, h21⟩ := h
  have hA := hW.alike
  obtain ⟨kD', hk', he⟩ := hA.2.2 _ _ h2
  obtain ⟨kI', hkI', heI⟩ := hA.2.2 _ _ h13
  have hn : ∀ x, U.methodNamed? x = u.methodNamed? x := fun x => State.methodNamed?_setVm (s := u) hA x
  refine ⟨m, kD', cf, i0, p0, b, n, nm, ds, sg, iface, kI', r0, r, by rw [hn]; exact h1, hk', by rw [he]; exact h3, by rw [he]; exact h4, h5, h6, h7, h8, by rw [he]; exact h9, Lambda.isMade_warmer hW h10, ?_, by rw [hA.findClass]; exact h12, hkI', by rw [heI]; exact h14, h15, ?_, by rw [hn]; exact h17, by rw [hA.method?]; exact h18, h19, h20, ?_⟩
  · simp only [State.lambdaCallable, hA.findClass, hA.assignable, hA.superclasses, hA.declaredIn] at h11 ⊢
    exact h11
  · rw [Lambda.methodIn_ask_alike hA]; exact h16
  · intro o ok ho hok
    rw [hA.findClass] at ho
    cases hu : u.vm.classes[o]? with
    | none => rw [hA.none hu] at hok; cases hok
    | some k0 =>
      obtain ⟨k', a1, a2⟩ := hA.2.2 _ _ hu
      cases hok.symm.trans a1
      rw [a2]
      exact h21 o k0 ho hu
theorem arr3_inv {α : Type} {x : Array Nat} {f : Nat → Nat → Nat → Option α} {r : α} (h : Lambda.shapeOf?.match_15 (fun _ => Option α) x f (fun _ => none) = some r) : ∃ a b c, f a b c = some r := by
  rcases x with ⟨L⟩
  rcases L with _ | ⟨a, _ | ⟨b, _ | ⟨c, _ | ⟨d, L⟩⟩⟩⟩
  · cases h
  · cases h
  · cases h
  · exact ⟨a, b, c, h⟩
  · cases h
theorem shinv19 {α : Type} {x : Option CpInfo} {f : Nat → Nat → Option α} {r : α} (h : Lambda.shapeOf?.match_19 (fun _ => Option α) x f (fun _ => none) = some r) : ∃ b n, x = some (.invokeDynamic b n) ∧ f b n = some r := by
  split at h
  · exact ⟨_, _, rfl, h⟩
  · cases h
theorem shinv17 {α : Type} {x : Option CpInfo} {f : Nat → Option α} {r : α} (h : Lambda.shapeOf?.match_17 (fun _ => Option α) x f (fun _ => none) = some r) : ∃ y, f y = some r := by
  split at h
  · exact ⟨_, h⟩
  · cases h
theorem shinv9 {α : Type} {x : Option CpInfo} {f : Nat → Option α} {r : α} (h : Lambda.shapeOf?.match_9 (fun _ => Option α) x f (fun _ => none) = some r) : ∃ y, f y = some r := by
  split at h
  · exact ⟨_, h⟩
  · cases h
theorem shinv12 {α : Type} {x : Option CpInfo} {f : Nat → Nat → Option α} {r : α} (h : Lambda.shapeOf?.match_12 (fun _ => Option α) x f (fun _ => none) = some r) : ∃ y z, f y z = some r := by
  split at h
  · exact ⟨_, _, h⟩
  · cases h
theorem shinv6 {α : Type} {x : Option FieldType} {f : String → Option α} {r : α} (h : Lambda.shapeOf?.match_6 (fun _ => Option α) x f (fun _ => none) = some r) : ∃ y, f y = some r := by
  split at h
  · exact ⟨_, h⟩
  · cases h
/-- at the law's entry -/
theorem lamOk.start {args : Array Value} {s : State} {q : LSt} (hsite : (Cond.lambdaSite q.x q.pc q.idx q.sh).before args s = true) (hdecl : (Cond.declares q.if_).before args s = true) (hif : (Cond.interfaceMethod q.sh.iface q.sh.iface q.sh.name q.sh.sam.toString).before args s = true) (hob : (Cond.instantiable "java/lang/Object" 0).before args s = true) :
    ∃ c lk, lamOk s q c lk ∧ ((∃ a cell, lk = .constant a ∧ q.sh.captured = [] ∧ s.heap[a]? = some cell ∧ cell.cls = c ∧ cell.vm = .none ∧ cell.slots = #[]) ∨ (lk = .makes c ∧ q.sh.captured ≠ [])) := by
  obtain ⟨c, one, hat⟩ := Cond.lambdaSite_spec hsite
  obtain ⟨m, kD, cf, i0, p0, l, hm, hk, hcf, hsh, -, hfind, hmade, hcall, hl⟩ := State.lambdaAt?_spec hat
  obtain ⟨kD', hk', hname⟩ := className_of_methodNamed hm
  cases hk.symm.trans hk'
  obtain ⟨r0, r, hn, hrm, hst, hsig⟩ := Cond.declares_spec hdecl
  obtain ⟨iface, kI, r1, a1, a2, a3, a4, a5⟩ := Cond.interfaceMethod_spec hif
  have hn' : s.methodNamed? ⟨q.sh.iface, q.sh.name, q.sh.sam.toString⟩ = some r0 := hn
  cases hn'.symm.trans a5
  obtain ⟨o, ko, b1, b2, -, -, -, b3⟩ := Cond.instantiable_spec hob
  have hr0 : r0.cls = iface := Option.some.inj ((findClass_of_methodNamed hn).symm.trans a1)
  have hfound : ((methodIn iface q.sh.name q.sh.sam.toString true none).ask { classPath := fun _ => none } s.vm).1 = .ok r0 := by
    simp only [State.methodFound?, a1, a2, a3, Option.bind_eq_bind, Option.bind_some] at a4
    cases hh : ((methodIn iface q.sh.name q.sh.sam.toString true none).ask { classPath := fun _ => none } s.vm).1 with
    | error x => rw [hh] at a4; cases a4
    | ok z => rw [hh] at a4; cases a4; rfl
  have hshp : ∃ b n nm ds sg, cf.constantPool[q.idx]? = some (.invokeDynamic b n) ∧ cf.constantPool.nameAndType? n = some (nm, ds) ∧ parseMethodDescriptor ds = some sg ∧ sg.parameters = q.sh.captured := by
    unfold Lambda.shapeOf? at hsh
    obtain ⟨b, n, hc, hsh⟩ := shinv19 hsh
    obtain ⟨_, -, hsh⟩ := Option.bind_eq_some_iff.mp hsh
    obtain ⟨_, -, hsh⟩ := Option.bind_eq_some_iff.mp hsh
    obtain ⟨_, hsh⟩ := shinv17 hsh
    obtain ⟨_, -, hsh⟩ := Option.bind_eq_some_iff.mp hsh
    obtain ⟨_, _, _, hsh⟩ := arr3_inv hsh
    obtain ⟨_, hsh⟩ := shinv9 hsh
    obtain ⟨_, _, hsh⟩ := shinv12 hsh
    obtain ⟨_, hsh⟩ := shinv9 hsh
    obtain ⟨⟨nm, ds⟩, hnt, hsh⟩ := Option.bind_eq_some_iff.mp hsh
    obtain ⟨sg, hsg, hsh⟩ := Option.bind_eq_some_iff.mp hsh
    obtain ⟨_, hsh⟩ := shinv6 hsh
    obtain ⟨⟨_, _, _, _⟩, -, hsh⟩ := Option.bind_eq_some_iff.mp hsh
    obtain ⟨_, -, hsh⟩ := Option.bind_eq_some_iff.mp hsh
    obtain ⟨_, -, hsh⟩ := Option.bind_eq_some_iff.mp hsh
    obtain ⟨_, -, hsh⟩ := Option.bind_eq_some_iff.mp hsh
    obtain ⟨_, -, hsh⟩ := Option.bind_eq_some_iff.mp hsh
    obtain ⟨_, -, hsh⟩ := Option.bind_eq_some_iff.mp hsh
    exact ⟨b, n, nm, ds, sg, hc, hnt, hsg, by rw [← Option.some.inj hsh]⟩
  obtain ⟨b, n, nm, ds, sg, s1, s2, s3, s4⟩ := hshp
  refine ⟨c, l, ⟨m, kD, cf, i0, p0, b, n, nm, ds, sg, iface, kI, r0, r, hm, hk, hname, hcf, s1, s2, parseLong_of_parse s3, s4, hfind, hmade, hcall, a1, a2, a3, hr0, hfound, hn, hrm, hst, hsig, ?_⟩, ?_⟩
  · intro o' ok' e1 e2
    cases b1.symm.trans e1
    cases b2.symm.trans e2
    exact b3
  · rcases hl with ⟨a, cell, z1, z2, z3, z4, z5, z6, z7⟩ | ⟨z1, z2, z3⟩
    · exact Or.inl ⟨a, cell, z1, z3, z4, z5, z6, z7⟩
    · exact Or.inr ⟨z1, z3⟩
/-- what the made class holds -/
theorem made_facts {vm : Vm} {d c : ClassId} {dk : Class} {q : LSt} (hq : q.chk = true) (hd : vm.classes[d]? = some dk) (hname : dk.name = q.x.cls) (h : Lambda.isMade { classPath := fun _ => none } vm d q.sh c = true)
    (hO : ∀ o ok, vm.findClass "java/lang/Object" = some o → vm.classes[o]? = some ok → ok.instanceTypes.size = 0) :
    ∃ (k tk : Class) (file : ClassFile) (methk : Method) (ck : Code) (t : ClassId) (tgt : MethodId),
      vm.classes[c]? = some k ∧ k.name = q.x.cls ++ "$$Lambda" ∧ k.kind = .ordinary ∧ k.cf = some file ∧ file.constantPool[q.mi]? = some (.methodref q.ci q.nt) ∧ file.constantPool.nameAndType? q.nt = some (q.sh.implName, q.sh.implDesc.toString) ∧
      vm.method? ⟨c, 1⟩ = some methk ∧ methk.code = some ck ∧ ck.code = q.code ∧ ck.maxLocals = q.maxL ∧ methk.locks = false ∧ methk.accessFlags = 0x0001 ∧ methk.sig.returnType = q.sh.sam.returnType ∧
      vm.findClass q.sh.implClass = some t ∧ vm.classes[t]? = some tk ∧ tk.isInterface = q.sh.implItf ∧ ((methodIn t q.sh.implName q.sh.implDesc.toString tk.isInterface none).ask { classPath := fun _ => none } vm).1 = .ok tgt ∧
      vm.methodReady c q.mi tgt ∧ vm.classReady c q.ci t ∧ (∀ i ix, q.fs[i]? = some ix → ∃ f, vm.fieldReady c ix c f ∧ f.isStatic = false ∧ f.slot = i) ∧ k.instanceTypes.toList = q.sh.captured := by
  obtain ⟨D, ms, lay, fw, cd, n, g1, g2, g3, g4, g5, g6, g7, g8, g9, g10, g11, g12, g13, g14, g15, g16, g17, g18, g19, g20, g21⟩ := LSt.chk_spec hq
  obtain ⟨dk', k, ok, tk, file, cf, object, iface, t, lay', methods, target, found, hd', hk, hfile, hcf, hobj, -, hok, hlay, hms, ht, htk, hg, -, hrec, -, -, -, hitf, hpool, hmeth, hfields, hinst, hres, -⟩ := Lambda.isMade_spec h
  cases hd.symm.trans hd'
  rw [hname, g1] at hcf
  cases hcf
  have hsz := hO object ok hobj hok
  rw [hsz, g3] at hlay
  cases hlay
  cases g2.symm.trans hms
  obtain ⟨b, hb, hsame⟩ := hmeth 1 fw g4
  obtain ⟨s1, s2, s3, s4, x, y, s5, s6, s7, s8, s9, s10⟩ := Lambda.sameMethod_spec hsame
  cases g5.symm.trans s5
  refine ⟨k, tk, file, b, y, t, target, hk, by rw [hrec.1, hname], hrec.2.1, hfile, by rw [hpool.2.1]; exact g10, by rw [hpool.2.1]; exact g12, by simp [Vm.method?, hk, hb], s6, by rw [s9]; exact g6, by rw [s8]; exact g7, ?_, by rw [s4]; exact g8, by rw [s3]; exact g9, ht, htk, hitf, hg,
    ⟨k, hk, hres q.mi _ (Lambda.resolvedOf_method g10 g11 ht htk g12 hg)⟩, ⟨k, hk, hres q.ci _ (Lambda.resolvedOf_class g13 g15 g14 ht)⟩, ?_, ?_⟩
  · simp [Method.locks, Method.isSynchronized, s4, g8, hasFlag, Acc.synchronized]
  · intro i ix hi
    obtain ⟨c', nti, nm, ds, f, z1, z2, z3, z4, z5, z6⟩ := g21 i ix hi
    exact ⟨f, ⟨k, i, k, hk, hres ix _ (Lambda.resolvedOf_field z1 z2 z3), hk, hfields i _ z4⟩, z5, z6⟩
  · rw [hinst.1, Array.toList_append, Array.eq_empty_of_size_eq_zero hsz]
    exact g16
