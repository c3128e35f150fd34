/-! THE PURE SIDE: heaps, operations as equations -/
set_option maxRecDepth 100000
theorem hget_app {h j : AH} {i : Nat} (hi : i < 1024 + h.length) : hget (h ++ j) i = hget h i := by
  unfold hget
  split
  · rw [List.getElem?_append_left (by omega)]
  · rfl
theorem hget_new (h : AH) (e : AE) (j : AH) : hget (h ++ e :: j) (1024 + h.length) = some e := by
  unfold hget
  rw [if_pos (by omega)]
  simp
theorem hget_some_lt {h : AH} {i : Nat} {e : AE} (hg : hget h i = some e) : i < 1024 + h.length := by
  unfold hget at hg
  split at hg
  · have := (List.getElem?_eq_some_iff.mp hg).1
    omega
  · omega
theorem len_hset (h : AH) (i : Nat) (e : AE) : (hset h i e).length = h.length := by simp [hset]
theorem hget_set_same {h : AH} {i : Nat} {e : AE} (h1 : 1024 ≤ i) (h2 : i < 1024 + h.length) : hget (hset h i e) i = some e := by
  unfold hget hset
  rw [if_pos h1, List.getElem?_set_self (by omega)]
theorem hget_set_ne {h : AH} {i j : Nat} {e : AE} (h1 : 1024 ≤ i) (h2 : j ≠ i) : hget (hset h i e) j = hget h j := by
  unfold hget hset
  split
  · rw [List.getElem?_set_ne (by omega)]
  · rfl
theorem sl_hset {h : AH} {i : Nat} {e e0 : AE} (h1 : 1024 ≤ i) (hg : hget h i = some e0) (hl : e.2.length = e0.2.length) : sl (hset h i e) = sl h := by
  unfold hget at hg
  rw [if_pos h1] at hg
  exact sl_set hg hl
theorem sl_app (h j : AH) : sl (h ++ j) = sl h + sl j := by simp [sl]
/-! operations -/
section OPS
variable {h : AH} {i t k : Nat} {vs : List Value}
theorem fld_eq {v : Value} (hg : hget h i = some (t, vs)) (hv : vs[k]? = some v) : fld h t (some i) k = some v := by
  simp [fld, hg, hv]
theorem o_gi_eq {x : Int32} {K : Int32 → AH → Res} (hg : hget h i = some (t, vs)) (hv : vs[k]? = some (.int x)) : o_gi t (some i) k K h = K x h := by
  unfold o_gi; rw [fld_eq hg hv]
theorem o_gj_eq {x : Int64} {K : Int64 → AH → Res} (hg : hget h i = some (t, vs)) (hv : vs[k]? = some (.long x)) : o_gj t (some i) k K h = K x h := by
  unfold o_gj; rw [fld_eq hg hv]
theorem o_gf_eq {x : UInt32} {K : UInt32 → AH → Res} (hg : hget h i = some (t, vs)) (hv : vs[k]? = some (.float x)) : o_gf t (some i) k K h = K x h := by
  unfold o_gf; rw [fld_eq hg hv]
theorem o_gr_eq {x : Nat} {K : Rf → AH → Res} (hg : hget h i = some (t, vs)) (hv : vs[k]? = some (.ref x)) : o_gr t (some i) k K h = K (some x) h := by
  unfold o_gr; rw [fld_eq hg hv]
theorem o_grN_eq {K : Rf → AH → Res} (hg : hget h i = some (t, vs)) (hv : vs[k]? = some .null) : o_gr t (some i) k K h = K none h := by
  unfold o_gr; rw [fld_eq hg hv]
theorem o_pf_eq {v : Value} {K : AH → Res} (hg : hget h i = some (t, vs)) (h1 : 1024 ≤ i) (hk : k < vs.length) : o_pf t (some i) k v K h = K (hset h i (t, vs.set k v)) := by
  simp [o_pf, hg, h1, hk]
theorem o_pz_eq {ty : FieldType} {x : Int32} {K : AH → Res} (hx : fits ty (.int x) = true ∧ vp_nar ty x = x) (hg : hget h i = some (t, vs)) (h1 : 1024 ≤ i) (hk : k < vs.length) : o_pz ty t (some i) k x K h = K (hset h i (t, vs.set k (.int x))) := by
  unfold o_pz; rw [if_pos hx]; exact o_pf_eq hg h1 hk
theorem ael_eq {j : Int32} {v : Value} (hg : hget h i = some (t, vs)) (hj : ¬ j < 0) (hv : vs[j.toNatClampNeg]? = some v) : ael h t (some i) j = some v := by
  simp [ael, hg, hj, hv]
theorem o_aldI_eq {j x : Int32} {K : Int32 → AH → Res} (hg : hget h i = some (t, vs)) (hj : ¬ j < 0) (hv : vs[j.toNatClampNeg]? = some (.int x)) : o_aldI t (some i) j K h = K x h := by
  unfold o_aldI; rw [ael_eq hg hj hv]
theorem o_aldJ_eq {j : Int32} {x : Int64} {K : Int64 → AH → Res} (hg : hget h i = some (t, vs)) (hj : ¬ j < 0) (hv : vs[j.toNatClampNeg]? = some (.long x)) : o_aldJ t (some i) j K h = K x h := by
  unfold o_aldJ; rw [ael_eq hg hj hv]
theorem o_aldR_eq {j : Int32} {x : Nat} {K : Rf → AH → Res} (hg : hget h i = some (t, vs)) (hj : ¬ j < 0) (hv : vs[j.toNatClampNeg]? = some (.ref x)) : o_aldR t (some i) j K h = K (some x) h := by
  unfold o_aldR; rw [ael_eq hg hj hv]
theorem o_aldN_eq {j : Int32} {K : Rf → AH → Res} (hg : hget h i = some (t, vs)) (hj : ¬ j < 0) (hv : vs[j.toNatClampNeg]? = some .null) : o_aldR t (some i) j K h = K none h := by
  unfold o_aldR; rw [ael_eq hg hj hv]
theorem o_ast_eq {j : Int32} {v : Value} {K : AH → Res} (hg : hget h i = some (t, vs)) (h1 : 1024 ≤ i) (hj : ¬ j < 0) (hl : j.toNatClampNeg < vs.length) : o_ast t (some i) j v K h = K (hset h i (t, vs.set j.toNatClampNeg v)) := by
  simp [o_ast, hg, h1, hj, hl]
theorem o_astR_eq {j : Int32} {x tx : Nat} {vx : List Value} {K : AH → Res} (hx : hget h x = some (tx, vx)) (hok : okEl t tx = true) (hg : hget h i = some (t, vs)) (h1 : 1024 ≤ i) (hj : ¬ j < 0) (hl : j.toNatClampNeg < vs.length) : o_astR t (some i) j (some x) K h = K (hset h i (t, vs.set j.toNatClampNeg (.ref x))) := by
  unfold o_astR; simp only [hx, hok, if_true]; exact o_ast_eq hg h1 hj hl
theorem o_astN_eq {j : Int32} {K : AH → Res} (ht : t = 69 ∨ t = 70) (hg : hget h i = some (t, vs)) (h1 : 1024 ≤ i) (hj : ¬ j < 0) (hl : j.toNatClampNeg < vs.length) : o_astR t (some i) j none K h = K (hset h i (t, vs.set j.toNatClampNeg .null)) := by
  unfold o_astR; simp only [ht, if_true]; exact o_ast_eq hg h1 hj hl
theorem o_alen_eq {K : Int32 → AH → Res} (hg : hget h i = some (t, vs)) (ht : 64 ≤ t ∧ t < 74) : o_alen (some i) K h = K (Int32.ofNat vs.length) h := by
  simp [o_alen, hg, ht]
theorem o_new_eq {fs : List Value} {K : Rf → AH → Res} (hc : h.length < CAP ∧ sl h + fs.length ≤ CAPS) : o_new t fs K h = K (some (1024 + h.length)) (h ++ [(t, fs)]) := by
  unfold o_new; rw [if_pos hc]
theorem o_cc_eq {K : AH → Res} (hg : hget h i = some (t, vs)) : o_cc t (some i) K h = K h := by simp [o_cc, hg]
theorem o_io_eq {b : Int32} {K : Int32 → AH → Res} (hg : hget h i = some (t, vs)) : o_io t b (some i) K h = K b h := by simp [o_io, hg]
theorem tagIs_eq {F : AH → Res} (hg : hget h i = some (t, vs)) : tagIs t (some i) F h = F h := by simp [tagIs, hg]
theorem o_nn_eq {K : AH → Res} : o_nn (some i) K h = K h := by simp [o_nn]
theorem nnF_eq {F : AH → Res} : nnF (some i) F h = F h := by simp [nnF]
theorem o_ci_eq {F : AH → Res} {K : Int32 → AH → Res} {x : Int32} {h1 : AH} (hF : F h = some (some (vI x), h1)) : o_ci F K h = K x h1 := by unfold o_ci; rw [hF]
theorem o_cj_eq {F : AH → Res} {K : Int64 → AH → Res} {x : Int64} {h1 : AH} (hF : F h = some (some (vJ x), h1)) : o_cj F K h = K x h1 := by unfold o_cj; rw [hF]
theorem o_cf_eq {F : AH → Res} {K : UInt32 → AH → Res} {x : UInt32} {h1 : AH} (hF : F h = some (some (vF x), h1)) : o_cf F K h = K x h1 := by unfold o_cf; rw [hF]
theorem o_cr_eq {F : AH → Res} {K : Rf → AH → Res} {x : Rf} {h1 : AH} (hF : F h = some (some (vR x), h1)) : o_cr F K h = K x h1 := by unfold o_cr; rw [hF]
theorem o_cv_eq {F : AH → Res} {K : AH → Res} {h1 : AH} (hF : F h = some (none, h1)) : o_cv F K h = K h1 := by unfold o_cv; rw [hF]
theorem o_retz_eq {ty : FieldType} {x : Int32} (hx : vp_nar ty x = x) : o_retz ty x h = some (some (vI x), h) := by unfold o_retz; rw [if_pos hx]
theorem o_let_eq {α : Type} {x : α} {K : α → AH → Res} : o_let x K h = K x h := rfl
end OPS
theorem nar0 : vp_nar .boolean 0 = 0 := by decide
theorem nar1 : vp_nar .boolean 1 = 1 := by decide
