/-! GX at the start -/
set_option maxRecDepth 100000
theorem sel_priv {C : String} {y y' : MethodName} {args : Array Value} {s : State} (h1 : (Cond.selects C y' y').before args s = true) (hc : y'.cls = y.cls) (hy : y.cls ≠ "java/lang/invoke/MethodHandle" ∧ y.cls ≠ "java/lang/invoke/VarHandle") (hpriv : (Cond.privateMethod y).before args s = true) (hinst : (Cond.instanceMethod y).before args s = true) : (Cond.selects C y y).before args s = true := by
  obtain ⟨c, r, m, e1, e2, e3, e4, mk, e5, e6⟩ := Cond.selects_spec h1
  obtain ⟨my, methM, hnamed, hmethM, -, -⟩ := Cond.instanceMethod_spec hinst
  have hfound : s.methodFound? y.cls y.name y.desc = some my := State.methodFound?_of_named hnamed hy
  have hsel : selectMethod {} s.vm c my = .method my := selectMethod_private hmethM (Cond.privateMethod_at hpriv my methM hnamed hmethM)
  have hcls : my.cls = m.cls := by
    have a1 := findClass_of_methodNamed hnamed
    have a2 := findClass_of_methodNamed e3
    rw [hc] at a2
    exact Option.some.inj (a1.symm.trans a2)
  simp only [Cond.before, Cond.holds, Cond.value, e1, hfound, hnamed, hsel, hcls, e5]
  simp; exact e6
set_option maxHeartbeats 8000000 in
theorem start_GX {s : State} {b L : Nat} {xs : Nat → Int32} (hts : ∀ w ∈ lw_tbl, w.before #[Value.ref b] s = true) (hX : va_X b L xs s s.heap) (hbl : b < s.heap.size) (hgv : (Jvm.Cond.and given_1 narrow_1).before #[Value.ref b] s = true) :
    ∃ X : XT, X.base = s.heap.size ∧ X.H0 = s.heap ∧ X.pre 8 = b ∧ X.xs = (List.range L).map xs ∧ GX X s := by
  have hs := flat_of_before _ hgv
  have hall := lw_allT hts
  obtain ⟨D, hD⟩ := Classical.axiomOfChoice (myCl_known hall)
  obtain ⟨c0, k0, m0, n0, e0, f0⟩ := Cond.arrayClass_spec (hall _ q898)
  obtain ⟨c1, k1, m1, n1, e1, f1⟩ := Cond.arrayClass_spec (hall _ q897)
  obtain ⟨c2, k2, m2, n2, e2, f2⟩ := Cond.arrayClass_spec (hall _ q1130)
  obtain ⟨c3, k3, m3, n3, e3, f3⟩ := Cond.arrayClass_spec (hall _ q930)
  obtain ⟨c4, k4, m4, n4, e4, f4⟩ := Cond.arrayClass_spec (hall _ q2203)
  obtain ⟨m5, c5, k5, g5, -, e5, f5, n5⟩ := Cond.arrayOver_spec (hts _ q818)
  obtain ⟨m6, c6, k6, g6, -, e6, f6, n6⟩ := Cond.arrayOver_spec (hts _ q365)
  obtain ⟨m7, c7, k7, g7, e7, f7, n7⟩ := arrOverA (hts _ q870)
  obtain ⟨m8, c8, k8, g8, e8, f8, n8⟩ := arrOverA (hts _ q872)
  obtain ⟨a0, r0, u0, v0, w0, x0, y0, z0⟩ := st_ints (s := s) (args := #[Value.ref b]) (st := (.static "CoastTiles" "ROW_STEPS" "[I")) (xs := [-1, -1, 0, 1, 1, 1, 0, -1]) (by decide) (hs _ (by decide +kernel)) (hs _ (by decide +kernel)) (fun j hj => hs _ (by
    match j, hj with
    | 0, _ => decide +kernel
    | 1, _ => decide +kernel
    | 2, _ => decide +kernel
    | 3, _ => decide +kernel
    | 4, _ => decide +kernel
    | 5, _ => decide +kernel
    | 6, _ => decide +kernel
    | 7, _ => decide +kernel
    | j + 8, hj => exact absurd hj (by simp)))
  obtain ⟨-, q0, p0, o0, t0⟩ := y0
  obtain ⟨a1, r1, u1, v1, w1, x1, y1, z1⟩ := st_ints (s := s) (args := #[Value.ref b]) (st := (.static "CoastTiles" "COLUMN_STEPS" "[I")) (xs := [0, 1, 1, 1, 0, -1, -1, -1]) (by decide) (hs _ (by decide +kernel)) (hs _ (by decide +kernel)) (fun j hj => hs _ (by
    match j, hj with
    | 0, _ => decide +kernel
    | 1, _ => decide +kernel
    | 2, _ => decide +kernel
    | 3, _ => decide +kernel
    | 4, _ => decide +kernel
    | 5, _ => decide +kernel
    | 6, _ => decide +kernel
    | 7, _ => decide +kernel
    | j + 8, hj => exact absurd hj (by simp)))
  obtain ⟨-, q1, p1, o1, t1⟩ := y1
  obtain ⟨a2, r2, u2, v2, w2⟩ := st_arr (s := s) (args := #[Value.ref b]) (st := (.static "java/util/ArrayList" "DEFAULTCAPACITY_EMPTY_ELEMENTDATA" "[Ljava/lang/Object;")) (n := 0) (by decide) (hs _ (by decide +kernel))
  obtain ⟨v2a, v2b, v2c, -⟩ := State.arrayAt?_spec v2
  obtain ⟨a2e, c2e, r2e, k2e, x21, x22, x23, x24, x25, x26, -⟩ := Cond.exactly_spec (hs (.exactly (.static "java/util/ArrayList" "DEFAULTCAPACITY_EMPTY_ELEMENTDATA" "[Ljava/lang/Object;") "[Ljava/lang/Object;") (by decide +kernel))
  cases u2.symm.trans x21
  cases v2a.symm.trans x23
  have n5' : s.vm.findClass "[Ljava/lang/Object;" = some c5 := n5
  cases n5'.symm.trans x22
  obtain ⟨a3, r3, u3, v3, w3⟩ := st_arr (s := s) (args := #[Value.ref b]) (st := (.static "java/lang/Integer$IntegerCache" "cache" "[Ljava/lang/Integer;")) (n := 256) (by decide) (hs _ (by decide +kernel))
  obtain ⟨v3a, v3b, v3c, -⟩ := State.arrayAt?_spec v3
  have x3 := (Cond.arrayOf_spec (hs (.arrayOf (.static "java/lang/Integer$IntegerCache" "cache" "[Ljava/lang/Integer;") (.object "java/lang/Integer")) (by decide +kernel)) u3 v3a).1
  obtain ⟨-, q3, p3, o3, t3⟩ := x3
  obtain ⟨adr, hC, hE⟩ := vb_Cof (s := s) (args := #[Value.ref b]) (A := fun q => s.heap.size ≤ q) (st := (.static "java/lang/Integer$IntegerCache" "cache" "[Ljava/lang/Integer;")) rfl (va_eqI (by simpa [Cond.before, Cond.holds] using hs (.eq (.length (.static "java/lang/Integer$IntegerCache" "cache" "[Ljava/lang/Integer;")) (.int 256)) (by decide +kernel)) rfl) (hs _ (by decide +kernel)) (fun a h => Nat.not_le_of_lt h)
  obtain ⟨mi, hmi⟩ := va_Mi.of (hs (.isRef (.mirror "[Ljava/lang/Object;")) (by decide +kernel))
  have hsi := va_Zqof (A := fun q => s.heap.size ≤ q) (hts _ q653) (hall _ q84) (hs (.isRef (.static "jdk/internal/util/Preconditions" "SIOOBE_FORMATTER" "Ljava/util/function/BiFunction;")) (by decide +kernel)) (fun a h => Nat.not_le_of_lt h)
  obtain ⟨t10, ht10⟩ : ∃ t10 : Nat, va_Z "jdk/internal/util/Preconditions" "SIOOBE_FORMATTER" "Ljava/util/function/BiFunction;" .null (fun q => s.heap.size ≤ q) s s.heap ∨ va_Z "jdk/internal/util/Preconditions" "SIOOBE_FORMATTER" "Ljava/util/function/BiFunction;" (.ref t10) (fun q => s.heap.size ≤ q) s s.heap := hsi.elim (fun h => ⟨0, Or.inl h⟩) (fun ⟨t, h⟩ => ⟨t, Or.inr h⟩)
  obtain ⟨l0, j0, h0, i0⟩ := lamOk.start (s := s) (args := #[Value.ref b]) (q := ls0) (by rw [← word0]; exact hs _ (by decide +kernel)) (by rw [lif0]; exact hts _ q1266) (by show (Cond.interfaceMethod ls0.if_.cls ls0.if_.cls ls0.if_.name ls0.if_.desc).before _ _ = true; rw [lif0]; exact hts _ q1265) (hall _ q2542)
  have i0 : j0 = .makes l0 := i0.elim (fun ⟨_, _, _, h, _⟩ => by cases h) (fun h => h.1)
  subst i0
  obtain ⟨l1, j1, h1, i1⟩ := lamOk.start (s := s) (args := #[Value.ref b]) (q := ls1) (by rw [← word1]; exact hs _ (by decide +kernel)) (by rw [lif1]; exact hts _ q1242) (by show (Cond.interfaceMethod ls1.if_.cls ls1.if_.cls ls1.if_.name ls1.if_.desc).before _ _ = true; rw [lif1]; exact hts _ q1241) (hall _ q2542)
  obtain ⟨b1, d1, i1, z1a, z1b, z1c, z1d⟩ : ∃ a cell, j1 = .constant a ∧ s.heap[a]? = some cell ∧ cell.cls = l1 ∧ cell.vm = .none ∧ cell.slots = #[] := i1.elim (fun ⟨a, c, h1, _, h2, h3, h4, h5⟩ => ⟨a, c, h1, h2, h3, h4, h5⟩) (fun h => absurd rfl h.2)
  subst i1
  obtain ⟨l2, j2, h2, i2⟩ := lamOk.start (s := s) (args := #[Value.ref b]) (q := ls2) (by rw [← word2]; exact hs _ (by decide +kernel)) (by rw [lif2]; exact hts _ q1266) (by show (Cond.interfaceMethod ls2.if_.cls ls2.if_.cls ls2.if_.name ls2.if_.desc).before _ _ = true; rw [lif2]; exact hts _ q1265) (hall _ q2542)
  have i2 : j2 = .makes l2 := i2.elim (fun ⟨_, _, _, h, _⟩ => by cases h) (fun h => h.1)
  subst i2
  obtain ⟨l3, j3, h3, i3⟩ := lamOk.start (s := s) (args := #[Value.ref b]) (q := ls3) (by rw [← word3]; exact hs _ (by decide +kernel)) (by rw [lif3]; exact hts _ q1266) (by show (Cond.interfaceMethod ls3.if_.cls ls3.if_.cls ls3.if_.name ls3.if_.desc).before _ _ = true; rw [lif3]; exact hts _ q1265) (hall _ q2542)
  have i3 : j3 = .makes l3 := i3.elim (fun ⟨_, _, _, h, _⟩ => by cases h) (fun h => h.1)
  subst i3
  obtain ⟨l4, j4, h4, i4⟩ := lamOk.start (s := s) (args := #[Value.ref b]) (q := ls4) (by rw [← word4]; exact hs _ (by decide +kernel)) (by rw [lif4]; exact hts _ q1266) (by show (Cond.interfaceMethod ls4.if_.cls ls4.if_.cls ls4.if_.name ls4.if_.desc).before _ _ = true; rw [lif4]; exact hts _ q1265) (hall _ q2542)
  have i4 : j4 = .makes l4 := i4.elim (fun ⟨_, _, _, h, _⟩ => by cases h) (fun h => h.1)
  subst i4
  obtain ⟨l5, j5, h5, i5⟩ := lamOk.start (s := s) (args := #[Value.ref b]) (q := ls5) (by rw [← word5]; exact hs _ (by decide +kernel)) (by rw [lif5]; exact hts _ q1266) (by show (Cond.interfaceMethod ls5.if_.cls ls5.if_.cls ls5.if_.name ls5.if_.desc).before _ _ = true; rw [lif5]; exact hts _ q1265) (hall _ q2542)
  have i5 : j5 = .makes l5 := i5.elim (fun ⟨_, _, _, h, _⟩ => by cases h) (fun h => h.1)
  subst i5
  obtain ⟨l6, j6, h6, i6⟩ := lamOk.start (s := s) (args := #[Value.ref b]) (q := ls6) (by rw [← word6]; exact hs _ (by decide +kernel)) (by rw [lif6]; exact hts _ q1376) (by show (Cond.interfaceMethod ls6.if_.cls ls6.if_.cls ls6.if_.name ls6.if_.desc).before _ _ = true; rw [lif6]; exact hts _ q1375) (hall _ q2542)
  have i6 : j6 = .makes l6 := i6.elim (fun ⟨_, _, _, h, _⟩ => by cases h) (fun h => h.1)
  subst i6
  obtain ⟨l7, j7, h7, i7⟩ := lamOk.start (s := s) (args := #[Value.ref b]) (q := ls7) (by rw [← word7]; exact hs _ (by decide +kernel)) (by rw [lif7]; exact hts _ q1376) (by show (Cond.interfaceMethod ls7.if_.cls ls7.if_.cls ls7.if_.name ls7.if_.desc).before _ _ = true; rw [lif7]; exact hts _ q1375) (hall _ q2542)
  have i7 : j7 = .makes l7 := i7.elim (fun ⟨_, _, _, h, _⟩ => by cases h) (fun h => h.1)
  subst i7
  obtain ⟨l8, j8, h8, i8⟩ := lamOk.start (s := s) (args := #[Value.ref b]) (q := ls8) (by rw [← word8]; exact hs _ (by decide +kernel)) (by rw [lif8]; exact hts _ q1376) (by show (Cond.interfaceMethod ls8.if_.cls ls8.if_.cls ls8.if_.name ls8.if_.desc).before _ _ = true; rw [lif8]; exact hts _ q1375) (hall _ q2542)
  have i8 : j8 = .makes l8 := i8.elim (fun ⟨_, _, _, h, _⟩ => by cases h) (fun h => h.1)
  subst i8
  obtain ⟨l9, j9, h9, i9⟩ := lamOk.start (s := s) (args := #[Value.ref b]) (q := ls9) (by rw [← word9]; exact hs _ (by decide +kernel)) (by rw [lif9]; exact hts _ q1242) (by show (Cond.interfaceMethod ls9.if_.cls ls9.if_.cls ls9.if_.name ls9.if_.desc).before _ _ = true; rw [lif9]; exact hts _ q1241) (hall _ q2542)
  obtain ⟨b9, d9, i9, z9a, z9b, z9c, z9d⟩ : ∃ a cell, j9 = .constant a ∧ s.heap[a]? = some cell ∧ cell.cls = l9 ∧ cell.vm = .none ∧ cell.slots = #[] := i9.elim (fun ⟨a, c, h1, _, h2, h3, h4, h5⟩ => ⟨a, c, h1, h2, h3, h4, h5⟩) (fun h => absurd rfl h.2)
  subst i9
  obtain ⟨l10, j10, h10, i10⟩ := lamOk.start (s := s) (args := #[Value.ref b]) (q := ls10) (by rw [← word10]; exact hs _ (by decide +kernel)) (by rw [lif10]; exact hts _ q1242) (by show (Cond.interfaceMethod ls10.if_.cls ls10.if_.cls ls10.if_.name ls10.if_.desc).before _ _ = true; rw [lif10]; exact hts _ q1241) (hall _ q2542)
  obtain ⟨b10, d10, i10, z10a, z10b, z10c, z10d⟩ : ∃ a cell, j10 = .constant a ∧ s.heap[a]? = some cell ∧ cell.cls = l10 ∧ cell.vm = .none ∧ cell.slots = #[] := i10.elim (fun ⟨a, c, h1, _, h2, h3, h4, h5⟩ => ⟨a, c, h1, h2, h3, h4, h5⟩) (fun h => absurd rfl h.2)
  subst i10
  have hlt : ∀ {a : Nat} {cell : Cell}, s.heap[a]? = some cell → a < s.heap.size := fun h => (Array.getElem?_eq_some_iff.mp h).1
  refine ⟨(s.heap.size, s.heap, fun i => match i with | 0 => a0 | 1 => a1 | 2 => a2 | 3 => a3 | 4 => mi | 5 => b1 | 6 => b9 | 7 => b10 | 8 => b | 10 => t10 | i => if 256 ≤ i ∧ i < 512 then adr (i - 256) else b,
    (fun t => (D t).1, fun t => (D t).2), fun k => match k with | 0 => c0 | 1 => c1 | 2 => c2 | 3 => c3 | 4 => c4 | 5 => c5 | 6 => c6 | 7 => c7 | 8 => c8 | 9 => r3.cls | 10 => r0.cls | _ => r1.cls, fun k => match k with | 0 => l0 | 1 => l1 | 2 => l2 | 3 => l3 | 4 => l4 | 5 => l5 | 6 => l6 | 7 => l7 | 8 => l8 | 9 => l9 | _ => l10, (List.range L).map xs), rfl, rfl, rfl, rfl, ?_⟩
  refine ⟨rfl, ?_, hD, ?_, ?_, ?_, ?_, ?_, ?_, hmi, ?_, ?_, ?_, ?_, ht10⟩
  · intro i hi h4 h10
    match i, hi, h4, h10 with
    | 0, _, _, _ => exact hlt v0
    | 1, _, _, _ => exact hlt v1
    | 2, _, _, _ => exact hlt v2a
    | 3, _, _, _ => exact hlt v3a
    | 4, _, h, _ => exact absurd rfl h
    | 5, _, _, _ => exact hlt z1a
    | 6, _, _, _ => exact hlt z9a
    | 7, _, _, _ => exact hlt z10a
    | 8, _, _, _ => exact hbl
    | 9, _, _, _ => exact hbl
    | 10, _, _, h => exact absurd rfl h
    | i + 11, hi, _, _ =>
      show (if 256 ≤ i + 11 ∧ i + 11 < 512 then adr (i + 11 - 256) else b) < s.heap.size
      split
      · obtain ⟨cell, hc, _⟩ := hC.1 (i + 11 - 256) (by omega)
        exact hlt hc
      · exact hbl
  · intro k ty hk
    match k, hk with
    | 0, hk => cases hk; exact ⟨k0, m0, e0, f0, fun _ => n0, fun _ => trivial⟩
    | 1, hk => cases hk; exact ⟨k1, m1, e1, f1, fun _ => n1, fun _ => trivial⟩
    | 2, hk => cases hk; exact ⟨k2, m2, e2, f2, fun _ => n2, fun _ => trivial⟩
    | 3, hk => cases hk; exact ⟨k3, m3, e3, f3, fun _ => n3, fun _ => trivial⟩
    | 4, hk => cases hk; exact ⟨k4, m4, e4, f4, fun _ => n4, fun _ => trivial⟩
    | 5, hk => cases hk; exact ⟨k5, m5, e5, f5, fun _ => n5, fun _ => g5⟩
    | 6, hk => cases hk; exact ⟨k6, m6, e6, f6, fun _ => n6, fun _ => g6⟩
    | 7, hk => cases hk; exact ⟨k7, m7, e7, f7, fun _ => n7, fun _ => g7⟩
    | 8, hk => cases hk; exact ⟨k8, m8, e8, f8, fun _ => n8, fun _ => g8⟩
    | 9, hk => cases hk; exact ⟨q3, o3, p3, t3, fun h => absurd h (by decide), fun h => absurd h (by decide)⟩
    | 10, hk => cases hk; exact ⟨q0, o0, p0, t0, fun h => absurd h (by decide), fun h => absurd h (by decide)⟩
    | 11, hk => cases hk; exact ⟨q1, o1, p1, t1, fun h => absurd h (by decide), fun h => absurd h (by decide)⟩
    | k + 12, hk => cases hk
  · intro i e he
    match i, he with
    | 0, he => cases he; exact ⟨r0, v0, w0, x0, fun h => absurd h (Nat.not_le_of_lt (hlt v0)), rfl, z0⟩
    | 1, he => cases he; exact ⟨r1, v1, w1, x1, fun h => absurd h (Nat.not_le_of_lt (hlt v1)), rfl, z1⟩
    | 2, he => cases he; exact ⟨r2, v2a, v2c, v2b, fun h => absurd h (Nat.not_le_of_lt (hlt v2a)), x26, Array.eq_empty_of_size_eq_zero w2⟩
    | 3, he =>
      cases he
      refine ⟨r3, v3a, v3c, v3b, fun h => absurd h (Nat.not_le_of_lt (hlt v3a)), rfl, slots_of (w3.trans (by simp)) fun j hj => ?_⟩
      have hj : j < 256 := by simpa using hj
      rw [st_elem (by omega) (hE j hj) u3 v3]
      simp only [List.getElem?_map, List.getElem?_range hj, Option.map_some]
      show some (Value.ref (adr j)) = some (Value.ref (ad _ (256 + j)))
      unfold ad
      rw [if_neg (by omega)]
      have e11 : ∃ i, 256 + j = i + 11 := ⟨245 + j, by omega⟩
      obtain ⟨i, hi⟩ := e11
      rw [hi]
      show some (Value.ref (adr j)) = some (Value.ref (if 256 ≤ i + 11 ∧ i + 11 < 512 then adr (i + 11 - 256) else b))
      rw [if_pos (by omega), ← hi, Nat.add_sub_cancel_left]
    | 4, he => cases he
    | 5, he => cases he; exact ⟨d1, z1a, by rw [z1c]; rfl, by rw [z1c]; exact (fun h => by cases h), fun _ => z1c, z1b, z1d⟩
    | 6, he => cases he; exact ⟨d9, z9a, by rw [z9c]; rfl, by rw [z9c]; exact (fun h => by cases h), fun _ => z9c, z9b, z9d⟩
    | 7, he => cases he; exact ⟨d10, z10a, by rw [z10c]; rfl, by rw [z10c]; exact (fun h => by cases h), fun _ => z10c, z10b, z10d⟩
    | 8, he => cases he
    | 9, he => cases he
    | 10, he => cases he
    | i + 11, he =>
      unfold preobj at he
      rw [if_neg (by omega), if_neg (by omega), if_neg (by omega), if_neg (by omega), if_neg (by omega), if_neg (by omega), if_neg (by omega)] at he
      split at he
      case isFalse => cases he
      rename_i hr
      cases he
      obtain ⟨cell, g1', g2', g3', g4'⟩ := hC.1 (i + 11 - 256) (by omega)
      obtain ⟨cf, kf, fi, f, cell2, y1', y2', y3', y4', y5', y6'⟩ := hC.2 (i + 11 - 256) (by omega)
      cases g1'.symm.trans y3'
      have hp : (if 256 ≤ i + 11 ∧ i + 11 < 512 then adr (i + 11 - 256) else b) = adr (i + 11 - 256) := if_pos hr
      have hkn := hD 11 _ rfl
      have hcl : (D 11).1 = cell.cls := Option.some.inj (hkn.2.1.symm.trans g3')
      refine ⟨cell, ?_, g2', y4', fun h => absurd h (Nat.not_le_of_lt ?_), hcl.symm, fun k hk => ?_⟩
      · show s.heap[(if 256 ≤ i + 11 ∧ i + 11 < 512 then adr (i + 11 - 256) else b)]? = some cell
        rw [hp]; exact g1'
      · show (if 256 ≤ i + 11 ∧ i + 11 < 512 then adr (i + 11 - 256) else b) < s.heap.size
        rw [hp]; exact hlt g1'
      · have hk0 : k = 0 := by
          have : k < 1 := hk
          omega
        subst hk0
        obtain ⟨cf', kf', fi', fd, q1', q2'⟩ := hkn.1 0 (by decide)
        cases y1'.symm.trans q1'
        show cell.slots[(D 11).2 0]? = _
        rw [← q2']
        exact y5'
  · intro k q hk
    have hA : ∀ a : Nat, a < s.heap.size → ¬ s.heap.size ≤ a := fun a h => Nat.not_le_of_lt h
    match k, hk with
    | 0, hk => cases hk; exact va_Zref (hts _ q1049) (hall _ q64) u0 hA
    | 1, hk => cases hk; exact va_Zref (hts _ q1051) (hall _ q64) u1 hA
    | 2, hk => cases hk; exact va_Zref (hts _ q139) (hall _ q68) u2 hA
    | 3, hk => cases hk; exact va_Zref (hts _ q242) (hall _ q74) u3 hA
    | 4, hk => cases hk; exact va_Zof (hts _ q240) (hall _ q74) (va_eqi (hs (.eq (.static "java/lang/Integer$IntegerCache" "high" "I") (.int 127)) (by decide +kernel))) hA
    | 5, hk => cases hk; exact va_Zof (hts _ q291) (hall _ q75) (va_eqi (hs (.eq (.static "java/lang/String" "COMPACT_STRINGS" "Z") (.int 1)) (by decide +kernel))) hA
    | 6, hk => cases hk; exact va_Zof (hts _ q1219) (hall _ q95) (va_eqi (hs (.eq (.static "java/util/BitSet" "$assertionsDisabled" "Z") (.int 1)) (by decide +kernel))) hA
    | k + 7, hk => cases hk
  · intro w hw hr
    have hh := hts _ hw
    cases w with
    | arrayOver t => exact hh
    | _ => first | exact va_Nw.of (A := #[Value.ref b]) rfl hh | cases hr
  · exact va_Nc.of (hs (.not (.castable "java/util/HashMap$Node" "java/util/HashMap$TreeNode")) (by decide +kernel))
  · obtain ⟨scr, s1, s2, s3, s4, s5⟩ := hX
    have hle : ((List.range L).map xs).length = L := by simp
    have hge : ∀ j, j < L → ((List.range L).map xs).getD j 0 = xs j := fun j hj => by simp [hj]
    exact ⟨scr, s1, s2, s3, s4.trans hle.symm, fun j hj => (s5 j (hle ▸ hj)).trans (congrArg (fun z => some (Value.int z)) (hge j (hle ▸ hj)).symm)⟩
  · intro C hC'
    exact va_AO.of (hts _ hC')
  · intro C x y a1' a2' a3' a4' a5' _
    exact va_Fw.of (hts _ a1') (hts _ a2') (hts _ a3') (hts _ a4') (hts _ a5')
  · intro w hw
    refine va_Nw.of (A := #[Value.ref b]) (extra_tab w hw) ?_
    simp only [extraSel, List.mem_cons, List.not_mem_nil, or_false] at hw
    rcases hw with rfl | rfl
    · exact sel_priv (hall _ q639) rfl ⟨by decide +kernel, by decide +kernel⟩ (hts _ q1763) (hall _ q1764)
    · exact sel_priv (hall _ q639) rfl ⟨by decide +kernel, by decide +kernel⟩ (hts _ q1767) (hall _ q1768)
  · intro k q hk
    match k, hk with
    | 0, hk => cases hk; exact h0
    | 1, hk => cases hk; exact h1
    | 2, hk => cases hk; exact h2
    | 3, hk => cases hk; exact h3
    | 4, hk => cases hk; exact h4
    | 5, hk => cases hk; exact h5
    | 6, hk => cases hk; exact h6
    | 7, hk => cases hk; exact h7
    | 8, hk => cases hk; exact h8
    | 9, hk => cases hk; exact h9
    | 10, hk => cases hk; exact h10
    | k + 11, hk => cases hk
