set_option maxRecDepth 100000
/-! both sides together -/
def mtag (t : Nat) : Prop := t = 4 ∨ t = 64 ∨ t = 65 ∨ t = 68
theorem mset_tag {h : AH} (hL : 608 ≤ h.length) {F : Nat → Int32} {A : Nat → Nat → Int32} {i t : Nat} {vs : List Value} (hg : hget (mset h F A) i = some (t, vs)) (hi : 1617 ≤ i ∧ i < 1632) : mtag t := by
  obtain ⟨k, rfl⟩ : ∃ k, i = 1617 + k := ⟨i - 1617, by omega⟩
  have hk : k < 15 := by omega
  have hk2 : k < (mcells F A).length := hk
  have he : (mcells F A)[k]? = some ((mcells F A)[k]'hk2) := List.getElem?_eq_getElem hk2
  generalize (mcells F A)[k]'hk2 = e at he
  rw [mset_get hL k hk he] at hg
  cases hg
  have hm : t ∈ (mcells F A).map (fun e => e.1) := List.mem_map.mpr ⟨(t, vs), List.mem_of_getElem? he, rfl⟩
  have hm : t ∈ [4, 64, 64, 64, 68, 64, 64, 64, 64, 64, 64, 64, 64, 65, 64] := hm
  simp only [List.mem_cons, List.not_mem_nil, or_false] at hm
  unfold mtag
  omega
theorem XS.mset {g : AH} {F : Nat → Int32} {A : Nat → Nat → Int32} (hL : 608 ≤ g.length) {S : St} (X : XS (mset g F A) S) (F' : Nat → Int32) (A' : Nat → Nat → Int32) : XS (mset g F' A') S := by
  have k : ∀ i, i < 1617 ∨ 1632 ≤ i → hget (Jvm.Pilot.CCoastTilesLaw_law_r6804_e6fb31.mset g F' A') i = hget (Jvm.Pilot.CCoastTilesLaw_law_r6804_e6fb31.mset g F A) i := fun i hi => (mset_get_ne hL hi).trans (mset_get_ne hL hi).symm
  have kt : ∀ i t vs, hget (Jvm.Pilot.CCoastTilesLaw_law_r6804_e6fb31.mset g F A) i = some (t, vs) → ¬ mtag t → hget (Jvm.Pilot.CCoastTilesLaw_law_r6804_e6fb31.mset g F' A') i = some (t, vs) := by
    intro i t vs e nt
    by_cases w : i < 1617 ∨ 1632 ≤ i
    · rw [k i w]; exact e
    · exact absurd (mset_tag hL e (by omega)) nt
  have kl : (Jvm.Pilot.CCoastTilesLaw_law_r6804_e6fb31.mset g F' A').length = (Jvm.Pilot.CCoastTilesLaw_law_r6804_e6fb31.mset g F A).length := by rw [mset_len hL, mset_len hL]
  have ck : ∀ Q, CK (Jvm.Pilot.CCoastTilesLaw_law_r6804_e6fb31.mset g F A) Q → CK (Jvm.Pilot.CCoastTilesLaw_law_r6804_e6fb31.mset g F' A') Q := by
    rintro Q ⟨⟨c1, c2, c3, c4⟩, c5, c6, c7⟩
    refine ⟨⟨kt _ _ _ c1 (by unfold mtag; omega), kt _ _ _ c2 (by unfold mtag; omega), kt _ _ _ c3 (by unfold mtag; omega), fun r hr => ⟨?_, ?_⟩⟩, c5, c6, c7⟩
    · rw [k _ (by have := (c7 r hr).1; unfold mok at this; omega)]; exact (c4 r hr).1
    · rw [k _ (by have := (c7 r hr).2; unfold mok at this; omega)]; exact (c4 r hr).2
  obtain ⟨P, H, Z, e, n, s1, s2, s3, X, l⟩ := X
  obtain ⟨y1, y2, y3, ⟨⟨mc, l1⟩, l2, l3, l4⟩, v, m, mb, f, t1, t2, t3, t4, t5, t6, t7⟩ := X
  exact ⟨P, H, Z, e, n, s1, s2, s3, ⟨fun i h1 h2 => (k i (by omega)).trans (y1 i h1 h2), by rw [kl]; exact y2, (k _ (by omega)).trans y3, ⟨⟨mc, (k _ (by omega)).trans l1⟩, (k e (by omega)).trans l2, l3, l4⟩, v, m, mb, f, (k _ (by omega)).trans t1, (k v (by unfold mok at t7; omega)).trans t2, t3, t4, t5, t6, t7⟩, l.keep (fun Q hQ => ck Q (l.1 Q hQ))⟩
theorem sz_mcells (F : Nat → Int32) (A : Nat → Nat → Int32) : sz (mcells F A) = 3609 := by
  simp [sz, sl, mcells, mfs, arI_len]
theorem sz_mset (g : AH) (F F' : Nat → Int32) (A A' : Nat → Nat → Int32) : sz (mset g F A) = sz (mset g F' A') := by
  unfold mset
  rw [sz_app, sz_app, sz_app, sz_app, sz_mcells, sz_mcells]
theorem XS.xc {h : AH} {S : St} (X : XS h S) : ∃ D, XC h D S.g := by
  obtain ⟨P, H, Z, e, n, s1, s2, s3, X, l⟩ := X
  exact ⟨P.1, by rw [← s1]; exact X.xc l.h⟩
/-- what holds between two calls -/
def J (B : Nat) (h : AH) (S : St) : Prop := ∃ (g : AH) (F : Nat → Int32) (A : Nat → Nat → Int32), h = mset g F A ∧ 608 ≤ g.length ∧ XS h S ∧ MI F A S ∧ SV S ∧ sz h ≤ B
theorem J.sv {B : Nat} {h : AH} {S : St} (j : J B h S) : SV S := by
  obtain ⟨g, F, A, e, hL, X, hI, hS, hz⟩ := j
  exact hS
theorem J.mono {B B' : Nat} {h : AH} {S : St} (j : J B h S) (hB : B ≤ B') : J B' h S := by
  obtain ⟨g, F, A, e, hL, X, hI, hS, hz⟩ := j
  exact ⟨g, F, A, e, hL, X, hI, hS, by omega⟩
theorem pair {B : Nat} (N : Nat) {h : AH} {S S' : St} (j : J B h S) {fx fm : AH → Res} {a : Int32} (hx : XS h S → SV S → sz h ≤ B → Wr N h (fx h) a S') (hS' : SV S') (hm : ∀ (g : AH) (F : Nat → Int32) (A : Nat → Nat → Int32), 608 ≤ g.length → MI F A S → ∃ (F' : Nat → Int32) (A' : Nat → Nat → Int32), fm (mset g F A) = some (some (vI a), mset g F' A') ∧ MI F' A' S') (hN : N ≤ 9500) :
    ∃ h1 h2, tagIs 0 (some 1024) fx h = some (some (vI a), h1) ∧ tagIs 4 (some 1617) fm h1 = some (some (vI a), h2) ∧ J (B + 9500) h2 S' := by
  obtain ⟨g, F, A, rfl, hL, X, hI, hS, hz⟩ := j
  obtain ⟨h1, w1, w2, w3, w4, w5⟩ := hx X hS hz
  have hL' : 608 ≤ (mset g F A).length := by rw [mset_len hL]; exact hL
  have hL1 : 608 ≤ h1.length := by omega
  have e1 : h1 = mset h1 F A := mset_self hL1 (fun k e he => by
    have hk : k < (mcells F A).length := (List.getElem?_eq_some_iff.mp he).1
    have hk : k < 15 := hk
    rw [w3 _ (.inr (by omega))]; exact mset_get hL k hk he)
  obtain ⟨F', A', m1, m2⟩ := hm h1 F A hL1 hI
  have m1 : fm h1 = some (some (vI a), mset h1 F' A') := by rw [← e1] at m1; exact m1
  have t : tagIs 4 (some 1617) fm h1 = fm h1 := by
    have := m_tag hL1 (F := F) (A := A) (G := fm)
    rw [← e1] at this
    exact this
  have w2' : XS (mset h1 F A) S' := by rw [← e1]; exact w2
  refine ⟨h1, mset h1 F' A', ?_, t.trans m1, h1, F', A', rfl, hL1, w2'.mset hL1 F' A', m2, hS', ?_⟩
  · obtain ⟨P, H, Z, e, n, s1, s2, s3, X, l⟩ := X
    rw [tagIs_eq X.2.2.1]; exact w1
  · rw [sz_mset h1 F' F A' A, ← e1]; omega
/-- a call that changes neither side's state -/
theorem pairR {B : Nat} (N : Nat) {h : AH} {S : St} (j : J B h S) {fx fm : AH → Res} {a : Int32} (hx : ∀ D, XC h D S.g → sz h ≤ B → Al N h (fx h) (some (vI a))) (hm : ∀ (g : AH) (F : Nat → Int32) (A : Nat → Nat → Int32), 608 ≤ g.length → MI F A S → ∃ (F' : Nat → Int32) (A' : Nat → Nat → Int32), fm (mset g F A) = some (some (vI a), mset g F' A') ∧ MI F' A' S) (hN : N ≤ 9500) :
    ∃ h1 h2, tagIs 0 (some 1024) fx h = some (some (vI a), h1) ∧ tagIs 4 (some 1617) fm h1 = some (some (vI a), h2) ∧ J (B + 9500) h2 S :=
  pair N j (fun X hS hz => by
    obtain ⟨D, x⟩ := X.xc
    exact Wr.al X (hx D x hz)) j.sv hm hN
theorem Al.rt {N : Nat} {h : AH} {res : Res} {a : Int32} (e : res = some (some (vI a), h)) : Al N h res (some (vI a)) := by subst e; exact Al.ret
def Ok (res : Res) : Prop := ∃ h', res = some (some (vI 1), h')
theorem o_sld_eq {xs : List Int32} {j : Nat} {K : Int32 → AH → Res} {h : AH} (hj : j < xs.length) (hb : j < 2 ^ 31) : o_sld xs (some 8) (nI j) K h = K (xs.getD j 0) h := by
  unfold o_sld
  rw [if_pos ⟨rfl, nI_pos hb, by rw [nI_clamp hb]; exact hj⟩, nI_clamp hb]
theorem o_slen_eq {xs : List Int32} {K : Int32 → AH → Res} {h : AH} : o_slen xs (some 8) K h = K (nI xs.length) h := by
  unfold o_slen
  rw [if_pos rfl]; rfl
theorem o_tsw_eq {k : Nat} {bs : List Res} {d : Res} (hk : k < 2 ^ 31) : o_tsw (nI k) 0 bs d = (bs[k]?).getD d := by
  unfold o_tsw
  rw [nI_toInt hk, if_neg (by omega), Int.sub_zero, Int.toNat_natCast]
theorem and63 (x : Int32) : ∃ k, k < 64 ∧ x &&& 63 = nI k := by
  obtain ⟨n, hn, rfl⟩ := wb_of32 x
  refine ⟨n &&& 63, Nat.lt_of_le_of_lt Nat.and_le_right (by omega), ?_⟩
  apply Int32.toBitVec_inj.mp
  show BitVec.ofNat 32 n &&& BitVec.ofNat 32 63 = BitVec.ofNat 32 (n &&& 63)
  apply BitVec.eq_of_getLsbD_eq
  intro i hi
  rw [BitVec.getLsbD_and, BitVec.getLsbD_ofNat, BitVec.getLsbD_ofNat, BitVec.getLsbD_ofNat, Nat.testBit_and]
  simp [hi]
