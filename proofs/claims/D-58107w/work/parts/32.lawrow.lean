/-! THE LAW's METHOD: reads of the script -/
set_option maxRecDepth 100000
abbrev yL_law : MethodName := x
abbrev RL : String := "CoastTilesLaw"
def o_sld (xs : List Int32) (r : Rf) (i : Int32) (K : Int32 → AH → Res) (h : AH) : Res := if r = some 8 ∧ ¬ i < 0 ∧ i.toNatClampNeg < xs.length then K (xs.getD i.toNatClampNeg 0) h else none
def o_slen (xs : List Int32) (r : Rf) (K : Int32 → AH → Res) (h : AH) : Res := if r = some 8 then K (Int32.ofNat xs.length) h else none
section SR
variable {Z : ZT} {cc : ByteArray} {own : String} {nm : MethodName} {nL : Nat} {ret : Option FieldType} {h : AH} {pc : Nat} {lv : List (Nat × TV)} {st : List TV}
theorem r_sld (C : Cx Z cc own nL ret nm) {r : Rf} {i : Int32} {K : Int32 → AH → Res} (hdg : decode cc pc = .ok (.iaload, 1)) (hrun : o_sld Z.X.xs r i K h = Z.res) (kk : ∀ x, K x h = Z.res → V Z nL h (pc + 1) lv (vI x :: st)) : V Z nL h pc lv (vI i :: vR r :: st) := by
  unfold o_sld at hrun
  split at hrun
  · rename_i hc
    obtain ⟨rfl, h1, h2⟩ := hc
    intro a b ls H locs hl hR hf
    have kk := kk _ hrun a b ls H locs hl hR hf
    obtain ⟨hx, hb, hml, hret, hlk, hown, hts, hG, hnm⟩ := C
    obtain ⟨scr, s1, s2, s3, s4, s5⟩ := hG.2.2.2.2.2.2.2.2.1
    have hlt : Z.X.pre 8 < Z.X.base := hG.2.1 8 (by omega) (by omega) (by omega)
    have ha : ad Z.X 8 = Z.X.pre 8 := by unfold ad; rw [if_neg (by omega)]
    have kk2 : W Z.p Z.l Z.e (ZR Z.fr Z.lo Z.h0) Z.s Z.m Z.args Z.below Z.meth Z.c H locs (h.length - Z.h0.length) (sl h - sl Z.h0) Z.Q (F0 Z.m pc ls (.int i :: .ref (Z.X.pre 8) :: st.map (tv Z.X))) :=
      W.iald (v := .int (Z.X.xs.getD i.toNatClampNeg 0)) hx hb (by rw [hR.1 _ hlt]; exact s1) s2 s3 (by rw [s4]; exact fun z => z.elim h1 (fun z => absurd h2 (Nat.not_lt_of_le z))) (s5 _ h2) rfl rfl hdg kk
    rw [← ha] at kk2
    exact kk2
  · cases hrun
theorem r_slen (C : Cx Z cc own nL ret nm) {r : Rf} {K : Int32 → AH → Res} (hdg : decode cc pc = .ok (.arraylength, 1)) (hrun : o_slen Z.X.xs r K h = Z.res) (kk : ∀ x, K x h = Z.res → V Z nL h (pc + 1) lv (vI x :: st)) : V Z nL h pc lv (vR r :: st) := by
  unfold o_slen at hrun
  split at hrun
  · rename_i hc
    subst hc
    intro a b ls H locs hl hR hf
    have kk := kk _ hrun a b ls H locs hl hR hf
    obtain ⟨hx, hb, hml, hret, hlk, hown, hts, hG, hnm⟩ := C
    obtain ⟨scr, s1, s2, s3, s4, s5⟩ := hG.2.2.2.2.2.2.2.2.1
    have hlt : Z.X.pre 8 < Z.X.base := hG.2.1 8 (by omega) (by omega) (by omega)
    have ha : ad Z.X 8 = Z.X.pre 8 := by unfold ad; rw [if_neg (by omega)]
    have kk2 : W Z.p Z.l Z.e (ZR Z.fr Z.lo Z.h0) Z.s Z.m Z.args Z.below Z.meth Z.c H locs (h.length - Z.h0.length) (sl h - sl Z.h0) Z.Q (F0 Z.m pc ls (.ref (Z.X.pre 8) :: st.map (tv Z.X))) :=
      W.alen (n := Int32.ofNat Z.X.xs.length) hx hb (by rw [hR.1 _ hlt]; exact s1) s2 (by rw [s4]) rfl rfl hdg kk
    rw [← ha] at kk2
    exact kk2
  · cases hrun
end SR
