set_option maxRecDepth 100000
/-! heaps that grow; the room -/
def sz (h : AH) : Nat := h.length + sl h
def Pf (h h' : AH) : Prop := ∃ j, h' = h ++ j
theorem Pf.refl (h : AH) : Pf h h := ⟨[], by simp⟩
theorem Pf.trans {a b c : AH} (h : Pf a b) (h' : Pf b c) : Pf a c := by
  obtain ⟨i, rfl⟩ := h
  obtain ⟨j, rfl⟩ := h'
  exact ⟨i ++ j, by simp⟩
theorem Pf.app (h j : AH) : Pf h (h ++ j) := ⟨j, rfl⟩
theorem Pf.len {h h' : AH} (p : Pf h h') : h.length ≤ h'.length := by
  obtain ⟨j, rfl⟩ := p; simp
theorem Pf.get {h h' : AH} (p : Pf h h') {i : Nat} {e : AE} (hg : hget h i = some e) : hget h' i = some e := by
  obtain ⟨j, rfl⟩ := p
  rw [hget_app (hget_some_lt hg)]; exact hg
theorem Pf.same {h h' : AH} (p : Pf h h') {i : Nat} (hi : i < 1024 + h.length) : hget h' i = hget h i := by
  obtain ⟨j, rfl⟩ := p
  exact hget_app hi
theorem Pf.set {h h' : AH} (p : Pf h h') {i : Nat} (e : AE) (hi : 1024 + h.length ≤ i) : Pf h (hset h' i e) := by
  obtain ⟨j, rfl⟩ := p
  exact ⟨j.set (i - 1024 - h.length) e, by unfold hset; rw [List.set_append_right _ _ (by omega)]⟩
theorem sz_app (h j : AH) : sz (h ++ j) = sz h + sz j := by
  unfold sz; rw [sl_app]; simp; omega
theorem sz_one (e : AE) : sz [e] = 1 + e.2.length := by simp [sz, sl]
theorem sz_set {h : AH} {i : Nat} {e e0 : AE} (h1 : 1024 ≤ i) (hg : hget h i = some e0) (hl : e.2.length = e0.2.length) : sz (hset h i e) = sz h := by
  unfold sz; rw [sl_hset h1 hg hl, len_hset]
theorem hset_new (h : AH) (e0 e : AE) : hset (h ++ [e0]) (1024 + h.length) e = h ++ [e] := by
  unfold hset
  rw [List.set_append_right _ _ (by omega)]
  congr 1
  rw [show 1024 + h.length - 1024 - h.length = 0 by omega]; rfl
theorem hget_last (h : AH) (e : AE) : hget (h ++ [e]) (1024 + h.length) = some e := hget_new h e []
/-- an object may still be made -/
theorem new_eq {h : AH} {t : Nat} {fs : List Value} {K : Rf → AH → Res} (hr : sz h + fs.length < 1200000) : o_new t fs K h = K (some (1024 + h.length)) (h ++ [(t, fs)]) := by
  refine o_new_eq ?_
  unfold sz at hr
  unfold CAP CAPS
  omega
theorem nwa_eq {h : AH} {t n : Nat} {d : Value} {K : Rf → AH → Res} (hn : n < 2 ^ 31) (hr : sz h + n < 1200000) : o_nwa t d (nI n) K h = K (some (1024 + h.length)) (h ++ [(t, List.replicate n d)]) := by
  unfold o_nwa
  rw [if_neg (nI_pos hn), nI_clamp hn]
  exact new_eq (by rw [List.length_replicate]; exact hr)
/-- the answer r, on a heap that grew by no more than N -/
def Al (N : Nat) (h : AH) (res : Res) (r : Option TV) : Prop := ∃ h', res = some (r, h') ∧ Pf h h' ∧ sz h' ≤ sz h + N
def Ar (N : Nat) (h : AH) (res : Res) (P : Nat → AH → Prop) : Prop := ∃ k h', res = some (some (vR (some k)), h') ∧ P k h' ∧ Pf h h' ∧ sz h' ≤ sz h + N
theorem Al.ret {N : Nat} {h : AH} {r : Option TV} : Al N h (some (r, h)) r := ⟨h, rfl, Pf.refl h, by omega⟩
theorem Al.step {N n : Nat} {h h1 : AH} {res : Res} {r : Option TV} (p : Pf h h1) (z : sz h1 + n ≤ sz h + N) (a : Al n h1 res r) : Al N h res r := by
  obtain ⟨h', e, p', z'⟩ := a
  exact ⟨h', e, p.trans p', by omega⟩
theorem Al.mono {N n : Nat} {h : AH} {res : Res} {r : Option TV} (a : Al n h res r) (hn : n ≤ N) : Al N h res r := a.step (Pf.refl h) (by omega)
theorem Ar.step {N n : Nat} {h h1 : AH} {res : Res} {P : Nat → AH → Prop} (p : Pf h h1) (z : sz h1 + n ≤ sz h + N) (a : Ar n h1 res P) : Ar N h res P := by
  obtain ⟨k, h', e, q, p', z'⟩ := a
  exact ⟨k, h', e, q, p.trans p', by omega⟩
/-! masks -/
def MK (h : AH) (k m : Nat) : Prop := hget h k = some (2, [.int (nI m)])
theorem MK.pf {h h' : AH} {k m : Nat} (p : Pf h h') (hm : MK h k m) : MK h' k m := p.get hm
theorem new_mask {h : AH} {x : Int32} {K : Rf → AH → Res} (hr : sz h + 2 ≤ 1200000) : o_new 2 [.int 0] (fun r1 h => o_cv (nnF r1 (f_X2_init r1 x)) (fun h => K r1 h) h) h = K (some (1024 + h.length)) (h ++ [(2, [.int x])]) := by
  rw [new_eq (by show sz h + 1 < _; omega)]
  have e : nnF (some (1024 + h.length)) (f_X2_init (some (1024 + h.length)) x) (h ++ [(2, [.int 0])]) = some (none, h ++ [(2, [.int x])]) := by
    rw [nnF_eq]
    unfold f_X2_init
    rw [o_nn_eq, o_pf_eq (hget_last h _) (by omega) (by show 0 < 1; omega), hset_new]
    rfl
  rw [o_cv_eq e]
theorem mk_new (h : AH) (m : Nat) : MK (h ++ [(2, [.int (nI m)])]) (1024 + h.length) m := hget_last h _
theorem sz_mask (h : AH) (x : Int32) : sz (h ++ [(2, [.int x])]) = sz h + 2 := by rw [sz_app, sz_one]; rfl
theorem x_has {h : AH} {k m : Nat} (hk : MK h k m) (hm : m < 256) {x : Int32} : f_X2_has (some k) x h = some (some (vI (bI (decide (((nI m >>> ((x &&& 7) &&& 31)) &&& 1) = 1)))), h) := by
  unfold f_X2_has
  rw [o_gi_eq hk rfl, retz_0, retz_1, ite_retI, bI_ite]
  refine ret_cong ?_
  by_cases q : ((nI m >>> ((x &&& 7) &&& 31)) &&& 1) = 1
  · rw [if_pos q, decide_eq_true q]
  · rw [if_neg q, decide_eq_false q]
theorem x_has' {h : AH} {k m d : Nat} (hk : MK h k m) (hm : m < 256) (hd : d < 8) : tagIs 2 (some k) (f_X2_has (some k) (nI d)) h = some (some (vI (bI (m.testBit d))), h) := by
  rw [tagIs_eq hk, x_has hk hm]
  refine ret_cong ?_
  rw [bitI m hm d hd]
  cases m.testBit d <;> rfl
theorem x_equals {h : AH} {k m k' m' : Nat} (hk : MK h k m) (hk' : MK h k' m') (hm : m < 256) (hm' : m' < 256) : f_X2_equals (some k) (some k') h = some (some (vI (bI (decide (m = m')))), h) := by
  unfold f_X2_equals
  rw [o_io_eq hk', if_neg (by decide), o_cc_eq hk', o_gi_eq hk' rfl, o_gi_eq hk rfl, retz_0, retz_1, ite_retI, bI_ite]
  refine ret_cong ?_
  by_cases q : m = m'
  · rw [if_pos (by rw [q]), decide_eq_true q]
  · rw [if_neg (by rw [nI_eq (by omega) (by omega)]; exact fun w => q w.symm), decide_eq_false q]
theorem hasI : ∀ m, m < 256 → ∀ d, d < 8 → d % 2 = 1 → ((((nI m >>> (((nI d - 1) &&& 7) &&& 31)) &&& 1) = 1) ↔ m.testBit ((d - 1) % 8) = true) ∧ ((((nI m >>> (((nI d + 1) &&& 7) &&& 31)) &&& 1) = 1) ↔ m.testBit ((d + 1) % 8) = true) := by decide +kernel
theorem rdI1 : ∀ m, m < 256 → ∀ l, l < 256 → ∀ d, d < 8 → nI l &&& (((1 : Int32) <<< (nI d &&& 31)) ^^^ (-1)) = nI (l &&& (255 - 2 ^ d)) := by
  have : ∀ l, l < 256 → ∀ d, d < 8 → nI l &&& (((1 : Int32) <<< (nI d &&& 31)) ^^^ (-1)) = nI (l &&& (255 - 2 ^ d)) := by decide +kernel
  exact fun m _ => this
theorem redF_lt {m l d : Nat} (hl : l < 256) : redF m l d < 256 := by
  unfold redF
  split
  · exact hl
  · exact Nat.lt_of_le_of_lt Nat.and_le_left hl
theorem x_reg1 {h : AH} {k m : Nat} (hk : MK h k m) (hm : m < 256) (n : Nat) {l d : Nat} (hl : l < 256) (hd : d < 8) (hd1 : d % 2 = 1) : f_X2_regular_7 (n + 1) (some k) (nI l) (nI d) h = f_X2_regular_7 n (some k) (nI (redF m l d)) (nI (d + 2)) h := by
  obtain ⟨a1, a2⟩ := hasI m hm d hd hd1
  rw [f_X2_regular_7_s]
  simp only
  rw [if_neg (by rw [li8, nI_leI (by omega) (by omega)]; omega), o_ci_eq ((tagIs_eq hk).trans (x_has hk hm)), ite_bI]
  unfold redF f_X2_regular_33 f_X2_regular_41
  simp only [o_let_eq, decide_eq_true_eq, li2, nI_add]
  by_cases w : m.testBit ((d - 1) % 8) = true
  · rw [if_pos (a1.mpr w), o_ci_eq ((tagIs_eq hk).trans (x_has hk hm)), ite_bI, w]
    simp only [decide_eq_true_eq, Bool.true_and]
    by_cases v : m.testBit ((d + 1) % 8) = true
    · rw [if_pos (a2.mpr v), if_pos v]
    · rw [if_neg (fun e => v (a2.mp e)), if_neg v, rdI1 m hm l hl d hd]
  · rw [if_neg (fun e => w (a1.mp e)), rdI1 m hm l hl d hd, if_neg (by simp [w])]
theorem x_regular {h : AH} {k m : Nat} (hk : MK h k m) (hm : m < 256) (hr : sz h + 2 ≤ 1200000) : tagIs 2 (some k) (f_X2_regular (some k)) h = some (some (vR (some (1024 + h.length))), h ++ [(2, [.int (nI (red m))])]) := by
  rw [tagIs_eq hk]
  unfold f_X2_regular
  rw [o_gi_eq hk rfl]
  show f_X2_regular_7 (99995 + 1 + 1 + 1 + 1 + 1) (some k) (nI m) (nI 1) h = _
  rw [x_reg1 hk hm _ hm (by omega) rfl, x_reg1 hk hm _ (redF_lt hm) (by omega) rfl, x_reg1 hk hm _ (redF_lt (redF_lt hm)) (by omega) rfl, x_reg1 hk hm _ (redF_lt (redF_lt (redF_lt hm))) (by omega) rfl, f_X2_regular_7_s]
  simp only
  rw [if_pos (by decide), new_mask hr]
  rfl
theorem trI2 : ∀ m, m < 256 → ∀ q, q < 4 → ((nI m <<< ((2 * nI q) &&& 31)) ||| ((nI m <<< ((2 * nI q) &&& 31)) >>> ((8 : Int32) &&& 31))) &&& 255 = nI (trn m q) := by decide +kernel
theorem x_turned {h : AH} {k m q : Nat} (hk : MK h k m) (hm : m < 256) (hq : q < 4) (hr : sz h + 2 ≤ 1200000) : tagIs 2 (some k) (f_X2_turned (some k) (nI q)) h = some (some (vR (some (1024 + h.length))), h ++ [(2, [.int (nI (trn m q))])]) := by
  rw [tagIs_eq hk]
  unfold f_X2_turned
  rw [o_gi_eq hk rfl, o_let_eq, trI2 m hm q hq, new_mask hr]
theorem mirI2 : ∀ d, d < 8 → (1 : Int32) <<< (((8 - nI d) &&& 7) &&& 31) = nI (2 ^ ((8 - d) % 8)) := by decide +kernel
def mirT (m : Nat) : Nat → Nat
  | 0 => 0
  | d + 1 => mirT m d ||| (if m.testBit d then 2 ^ ((8 - d) % 8) else 0)
theorem mirT_mir : ∀ m, m < 256 → mirT m 8 = mir m := by decide +kernel
theorem x_mirrored {h : AH} {k m : Nat} (hk : MK h k m) (hm : m < 256) (hr : sz h + 2 ≤ 1200000) : tagIs 2 (some k) (f_X2_mirrored (some k)) h = some (some (vR (some (1024 + h.length))), h ++ [(2, [.int (nI (mir m))])]) := by
  rw [tagIs_eq hk, ← mirT_mir m hm]
  unfold f_X2_mirrored
  refine loopE 8 (fun n i => f_X2_mirrored_4 n (some k) (nI (mirT m i)) (nI i) h) _ ?_ ?_ 0 FUEL (by omega) (by simp only [FUEL]; omega)
  · intro n
    rw [f_X2_mirrored_4_s]
    simp only
    rw [if_pos (by decide), new_mask hr]
  · intro i n hi hk'
    rw [f_X2_mirrored_4_s, ← hk']
    simp only
    rw [if_neg (by rw [li8, nI_leI (by omega) (by omega)]; omega), o_ci_eq (x_has' hk hm hi), ite_bI]
    unfold f_X2_mirrored_32
    rw [mirI2 i hi, mirT]
    split
    · simp only [o_let_eq, nI_or, li1, nI_add]
    · simp only [o_let_eq, li0, nI_or, li1, nI_add]
def bcJ (x : Int32) : Int32 :=
  let y1 := x - (((x.toUInt32 >>> ((1 : Int32).toUInt32 &&& Int32.toUInt32 31)).toInt32) &&& 1431655765)
  let y2 := (y1 &&& 858993459) + (((y1.toUInt32 >>> ((2 : Int32).toUInt32 &&& Int32.toUInt32 31)).toInt32) &&& 858993459)
  let y3 := (y2 + ((y2.toUInt32 >>> ((4 : Int32).toUInt32 &&& Int32.toUInt32 31)).toInt32)) &&& 252645135
  let y4 := y3 + ((y3.toUInt32 >>> ((8 : Int32).toUInt32 &&& Int32.toUInt32 31)).toInt32)
  let y5 := y4 + ((y4.toUInt32 >>> ((16 : Int32).toUInt32 &&& Int32.toUInt32 31)).toInt32)
  y5 &&& 63
theorem bcJ_popc : ∀ m, m < 256 → bcJ (nI m) = nI (popc m) := by decide +kernel
theorem j_bitCount {m : Nat} (hm : m < 256) (h : AH) : f_J6_bitCount (nI m) h = some (some (vI (nI (popc m))), h) := by
  rw [← bcJ_popc m hm]; rfl
theorem x_distance {h : AH} {k m k' m' : Nat} (hk : MK h k m) (hk' : MK h k' m') (hm : m < 256) (hm' : m' < 256) : tagIs 2 (some k) (f_X2_distance (some k) (some k')) h = some (some (vI (nI (popc (m ^^^ m')))), h) := by
  rw [tagIs_eq hk]
  unfold f_X2_distance
  rw [o_gi_eq hk rfl, o_gi_eq hk' rfl, nI_xor, o_ci_eq (j_bitCount (xor_lt256 hm hm') h)]
