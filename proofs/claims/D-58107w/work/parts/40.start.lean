/-! THE LAW's START: the global context GX out of what the Statement gives -/
set_option maxRecDepth 100000
theorem lw_allT {args : Array Value} {s : State} (hts : ∀ w ∈ lw_tbl, w.before args s = true) : ∀ w ∈ lw_all, w.before args s = true := fun w hw => hts w (lw_all_tbl hw)
theorem myCl_known {args : Array Value} {s : State} (hts : ∀ w ∈ lw_all, w.before args s = true) : ∀ t : Nat, ∃ p : ClassId × (Nat → Nat), ∀ r, myCl[t]? = some r → u_Kn s r.1 r.2.1 r.2.2 p.1 p.2 := by
  intro t
  match t with
  | 0 =>
    obtain ⟨c, i, h⟩ := u_known hts in_X0 (hts _ q113)
    exact ⟨(c, i), fun r hr => by cases hr; exact h⟩
  | 1 =>
    obtain ⟨c, i, h⟩ := u_known hts in_X1 (hts _ q121)
    exact ⟨(c, i), fun r hr => by cases hr; exact h⟩
  | 2 =>
    obtain ⟨c, i, h⟩ := u_known hts in_X2 (hts _ q192)
    exact ⟨(c, i), fun r hr => by cases hr; exact h⟩
  | 3 =>
    obtain ⟨c, i, h⟩ := u_known hts in_X3 (hts _ q864)
    exact ⟨(c, i), fun r hr => by cases hr; exact h⟩
  | 4 =>
    obtain ⟨c, i, h⟩ := u_known hts in_X4 (hts _ q2121)
    exact ⟨(c, i), fun r hr => by cases hr; exact h⟩
  | 5 =>
    obtain ⟨c, i, h⟩ := u_known hts in_X5 (hts _ q1149)
    exact ⟨(c, i), fun r hr => by cases hr; exact h⟩
  | 6 =>
    obtain ⟨c, i, h⟩ := u_known hts in_X6 (hts _ q1928)
    exact ⟨(c, i), fun r hr => by cases hr; exact h⟩
  | 7 =>
    obtain ⟨c, i, h⟩ := u_known hts in_X7 (hts _ q2016)
    exact ⟨(c, i), fun r hr => by cases hr; exact h⟩
  | 8 =>
    obtain ⟨c, i, h⟩ := u_known hts in_J2 (hts _ q127)
    exact ⟨(c, i), fun r hr => by cases hr; exact h⟩
  | 9 =>
    obtain ⟨c, i, h⟩ := u_known hts in_J4 (hts _ q160)
    exact ⟨(c, i), fun r hr => by cases hr; exact h⟩
  | 10 =>
    obtain ⟨c, i, h⟩ := u_known hts in_J11 (hts _ q380)
    exact ⟨(c, i), fun r hr => by cases hr; exact h⟩
  | 11 =>
    obtain ⟨c, i, h⟩ := u_known hts in_J6 (hts _ q244)
    exact ⟨(c, i), fun r hr => by cases hr; exact h⟩
  | 12 =>
    obtain ⟨c, i, h⟩ := u_known hts in_J23 (hts _ q1108)
    exact ⟨(c, i), fun r hr => by cases hr; exact h⟩
  | 13 =>
    obtain ⟨c, i, h⟩ := u_known hts in_J24 (hts _ q1132)
    exact ⟨(c, i), fun r hr => by cases hr; exact h⟩
  | 14 =>
    obtain ⟨c, i, h⟩ := u_known hts in_J27 (hts _ q990)
    exact ⟨(c, i), fun r hr => by cases hr; exact h⟩
  | 15 =>
    obtain ⟨c, i, h⟩ := u_known hts in_J19 (hts _ q836)
    exact ⟨(c, i), fun r hr => by cases hr; exact h⟩
  | 16 =>
    obtain ⟨c, i, h⟩ := u_known hts in_J31 (hts _ q1614)
    exact ⟨(c, i), fun r hr => by cases hr; exact h⟩
  | 17 =>
    obtain ⟨c, i, h⟩ := u_known hts in_J21 (hts _ q902)
    exact ⟨(c, i), fun r hr => by cases hr; exact h⟩
  | t + 18 => exact ⟨(0, fun _ => 0), fun r hr => by have := (List.getElem?_eq_some_iff.mp hr).1; simp [myCl] at this; omega⟩
theorem arrOverA {args : Array Value} {s : State} {t : FieldType} (h : (Cond.arrayOver (.array t)).before args s = true) : ∃ comp c k, s.vm.findClass (FieldType.array t).toString = some comp ∧ s.vm.classes[c]? = some k ∧ k.kind = .array comp (.array t) ∧ s.vm.findClass ("[" ++ (FieldType.array t).toString) = some c := by
  simp only [Cond.before, Cond.holds, Cond.value, beq_iff_eq, Option.bind_eq_some_iff, Option.map_eq_some_iff] at h
  obtain ⟨comp, h1, c, h2, k, hk, h⟩ := h
  obtain ⟨hlt, hp, _⟩ := Array.findIdx?_eq_some_iff_getElem.mp h2
  have hk' : s.vm.classes[c]? = some s.vm.classes[c] := Array.getElem?_eq_getElem hlt
  cases hk.symm.trans hk'
  cases hkd : (s.vm.classes[c]).kind with
  | array component ty =>
    rw [hkd] at h hp
    simp only [beq_iff_eq] at hp
    simp only [Bool.and_eq_true, decide_eq_true_eq] at h
    exact ⟨comp, c, _, h1, hk', by rw [hkd, hp, h.1], h.2⟩
  | _ => rw [hkd] at hp; simp at hp
/-- the length of an array that a closed term names -/
theorem st_arr {args : Array Value} {s : State} {st : Term} {n : Nat} (hn : n < 2 ^ 31) (h : (Cond.eq (.length st) (.int (Int32.ofNat n))).before args s = true) : ∃ a cell, st.eval args s none [] s = some (.ref a) ∧ s.arrayAt? a = some cell ∧ cell.slots.size = n := by
  have hv : (Term.length st).eval args s none [] s = some (.int (Int32.ofNat n)) := va_eqI (by simpa [Cond.before, Cond.holds] using h) rfl
  obtain ⟨b, cell, ht, harr, he⟩ := Term.length_spec hv
  refine ⟨b, cell, ht, harr, ?_⟩
  have hsz : cell.slots.size < 2 ^ 31 := by
    simp only [Term.eval, ht, harr, Option.bind_eq_bind, Option.bind_some] at hv
    by_cases hlt : cell.slots.size < 2147483648
    · exact hlt
    · simp [hlt] at hv
  have e1 : Int32.ofNat n = Int32.ofNat cell.slots.size := Value.int.inj he
  have e2 := congrArg Int32.toInt e1
  rw [Int32.toInt_ofNat_small hn, Int32.toInt_ofNat_small hsz] at e2
  omega
theorem st_elem {args : Array Value} {s : State} {st : Term} {j : Nat} {v : Value} (hj : j < 2 ^ 31) (h : (Term.elem st (.int (Int32.ofNat j))).eval args s none [] s = some v) {a : Addr} {cell : Cell} (ha : st.eval args s none [] s = some (.ref a)) (harr : s.arrayAt? a = some cell) : cell.slots[j]? = some v := by
  obtain ⟨a', j', cell', h1, h2, h3, h4, h5⟩ := Term.elem_spec h
  cases ha.symm.trans h1
  cases harr.symm.trans h3
  have e : Int32.ofNat j = j' := Value.int.inj (Option.some.inj h2)
  subst e
  rw [Int32.toNatClampNeg_ofNat_of_lt (by omega)] at h5
  exact h5
theorem slots_of {sl : Array Value} {l : List Value} (h1 : sl.size = l.length) (h2 : ∀ j, j < l.length → sl[j]? = l[j]?) : sl = l.toArray := by
  apply Array.ext
  · simp [h1]
  · intro i hi1 hi2
    have hi : i < l.length := by simpa using hi2
    have := h2 i hi
    rw [Array.getElem?_eq_getElem hi1, List.getElem?_eq_getElem hi] at this
    simpa using Option.some.inj this
/-- a static array of ints, read off the Statement -/
theorem st_ints {args : Array Value} {s : State} {st : Term} {xs : List Int32} (hn : xs.length < 2 ^ 31) (h1 : (Cond.arrayOf st .int).before args s = true) (h2 : (Cond.eq (.length st) (.int (Int32.ofNat xs.length))).before args s = true)
    (h3 : ∀ j, j < xs.length → (Cond.eq (.elem st (.int (Int32.ofNat j))) (.int (xs.getD j 0))).before args s = true) : ∃ a cell, st.eval args s none [] s = some (.ref a) ∧ s.heap[a]? = some cell ∧ cell.vm.isStatics = false ∧ cell.vm ≠ .unknown ∧ s.isArrayOf cell .int ∧ cell.slots = (ints xs).toArray := by
  obtain ⟨a, cell, e1, e2, e3⟩ := st_arr hn h2
  obtain ⟨g1, g2, g3, -⟩ := State.arrayAt?_spec e2
  refine ⟨a, cell, e1, g1, g3, g2, (Cond.arrayOf_spec h1 e1 g1).1, slots_of (by simp [ints, e3]) fun j hj => ?_⟩
  have hj' : j < xs.length := by simpa [ints] using hj
  have hv : (Term.elem st (.int (Int32.ofNat j))).eval args s none [] s = some (.int (xs.getD j 0)) := va_eqI (by simpa [Cond.before, Cond.holds] using h3 j hj') rfl
  rw [st_elem (by omega) hv e1 e2]
  simp [ints, hj']
theorem cls_of_arr {s : State} {cell : Cell} {ty : FieldType} {k : Class} {c comp : ClassId} (h : s.isArrayOf cell ty) (hk : s.vm.classes[cell.cls]? = some k) : ∃ comp, k.kind = .array comp ty := by
  obtain ⟨-, k', h1, comp, h2⟩ := h
  cases hk.symm.trans h1
  exact ⟨comp, h2⟩
