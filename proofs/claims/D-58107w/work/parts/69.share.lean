set_option maxRecDepth 100000
/-! the share of land, as a float's bits -/
/-- the model's loop over a float, without a heap -/
def bofL : Nat → UInt32 → Int32 → Option Int32
  | 0, _, _ => none
  | n + 1, v, p => if 0 ≤ (Op.cmpValue (FP.fcmp v (FP.fconst1)) .g) then (if FP.fmul v 1258291200 &&& 0x7fffffff ≤ 0x7f800000 then some (((p <<< ((23 : Int32) &&& 31)) + (FP.f2i (FP.fmul v 1258291200))) - 8388608) else none)
    else (if FP.fmul v (FP.fconst2) &&& 0x7fffffff ≤ 0x7f800000 then bofL n (FP.fmul v (FP.fconst2)) (p + (-1)) else none)
theorem bofL_ok : ∀ (n m : Nat) (v : UInt32) (p r : Int32) (h : AH), bofL n v p = some r → n ≤ m → f_X4_bitsOfFloat_13 m v p h = some (some (vI r), h)
  | 0, m, v, p, r, h, e, _ => by cases e
  | n + 1, m, v, p, r, h, e, hm => by
    obtain ⟨m, rfl⟩ : ∃ q, m = q + 1 := ⟨m - 1, by omega⟩
    rw [f_X4_bitsOfFloat_13_s]
    simp only
    unfold bofL at e
    unfold o_fmul
    by_cases a : 0 ≤ (Op.cmpValue (FP.fcmp v (FP.fconst1)) .g)
    · rw [if_pos a] at e ⊢
      by_cases b : FP.fmul v 1258291200 &&& 0x7fffffff ≤ 0x7f800000
      · rw [if_pos b] at e ⊢
        cases e
        rfl
      · rw [if_neg b] at e
        cases e
    · rw [if_neg a] at e ⊢
      by_cases b : FP.fmul v (FP.fconst2) &&& 0x7fffffff ≤ 0x7f800000
      · rw [if_pos b] at e ⊢
        exact bofL_ok n m _ _ r h e (by omega)
      · rw [if_neg b] at e
        cases e
def shx (a n : Nat) : UInt32 := FP.fdiv (FP.i2f (nI a)) (FP.i2f (nI n))
def fck (n a : Nat) : Bool := decide (shx a n &&& 0x7fffffff ≤ 0x7f800000) && decide ((Op.cmpValue (FP.fcmp (shx a n) (shx a n)) .l) = 0) &&
  (if (Op.cmpValue (FP.fcmp (shx a n) (FP.fconst0)) .l) = 0 then decide ((shx a n).toInt32 = 0) else decide (bofL 12 (shx a n) 127 = some (shx a n).toInt32))
theorem fck1 : (List.range 2).all (fck 1) = true := by decide +kernel
theorem fck2 : (List.range 3).all (fck 2) = true := by decide +kernel
theorem fck3 : (List.range 4).all (fck 3) = true := by decide +kernel
theorem fck4 : (List.range 5).all (fck 4) = true := by decide +kernel
theorem fck5 : (List.range 6).all (fck 5) = true := by decide +kernel
theorem fck6 : (List.range 7).all (fck 6) = true := by decide +kernel
theorem fck7 : (List.range 8).all (fck 7) = true := by decide +kernel
theorem fck8 : (List.range 9).all (fck 8) = true := by decide +kernel
theorem fck9 : (List.range 10).all (fck 9) = true := by decide +kernel
theorem fck10 : (List.range 11).all (fck 10) = true := by decide +kernel
theorem fck11 : (List.range 12).all (fck 11) = true := by decide +kernel
theorem fck12 : (List.range 13).all (fck 12) = true := by decide +kernel
theorem fck14 : (List.range 15).all (fck 14) = true := by decide +kernel
theorem fck15 : (List.range 16).all (fck 15) = true := by decide +kernel
theorem fck16 : (List.range 17).all (fck 16) = true := by decide +kernel
theorem fck18 : (List.range 19).all (fck 18) = true := by decide +kernel
theorem fck20 : (List.range 21).all (fck 20) = true := by decide +kernel
theorem fck21 : (List.range 22).all (fck 21) = true := by decide +kernel
theorem fck22 : (List.range 23).all (fck 22) = true := by decide +kernel
theorem fck24 : (List.range 25).all (fck 24) = true := by decide +kernel
theorem fck25 : (List.range 26).all (fck 25) = true := by decide +kernel
theorem fck27 : (List.range 28).all (fck 27) = true := by decide +kernel
theorem fck28 : (List.range 29).all (fck 28) = true := by decide +kernel
theorem fck30 : (List.range 31).all (fck 30) = true := by decide +kernel
theorem fck32 : (List.range 33).all (fck 32) = true := by decide +kernel
theorem fck33 : (List.range 34).all (fck 33) = true := by decide +kernel
theorem fck35 : (List.range 36).all (fck 35) = true := by decide +kernel
theorem fck36 : (List.range 37).all (fck 36) = true := by decide +kernel
theorem fck40 : (List.range 41).all (fck 40) = true := by decide +kernel
theorem fck42 : (List.range 43).all (fck 42) = true := by decide +kernel
theorem fck44 : (List.range 45).all (fck 44) = true := by decide +kernel
theorem fck45 : (List.range 46).all (fck 45) = true := by decide +kernel
theorem fck48 : (List.range 49).all (fck 48) = true := by decide +kernel
theorem fck49 : (List.range 50).all (fck 49) = true := by decide +kernel
theorem fck50 : (List.range 51).all (fck 50) = true := by decide +kernel
theorem fck54 : (List.range 55).all (fck 54) = true := by decide +kernel
theorem fck55 : (List.range 56).all (fck 55) = true := by decide +kernel
theorem fck56 : (List.range 57).all (fck 56) = true := by decide +kernel
theorem fck60 : (List.range 61).all (fck 60) = true := by decide +kernel
theorem fck63 : (List.range 64).all (fck 63) = true := by decide +kernel
theorem fck64 : (List.range 65).all (fck 64) = true := by decide +kernel
theorem fck66 : (List.range 67).all (fck 66) = true := by decide +kernel
theorem fck70 : (List.range 71).all (fck 70) = true := by decide +kernel
theorem fck72 : (List.range 73).all (fck 72) = true := by decide +kernel
theorem fck77 : (List.range 78).all (fck 77) = true := by decide +kernel
theorem fck80 : (List.range 81).all (fck 80) = true := by decide +kernel
theorem fck81 : (List.range 82).all (fck 81) = true := by decide +kernel
theorem fck84 : (List.range 85).all (fck 84) = true := by decide +kernel
theorem fck88 : (List.range 89).all (fck 88) = true := by decide +kernel
theorem fck90 : (List.range 91).all (fck 90) = true := by decide +kernel
theorem fck96 : (List.range 97).all (fck 96) = true := by decide +kernel
theorem fck99 : (List.range 100).all (fck 99) = true := by decide +kernel
theorem fck100 : (List.range 101).all (fck 100) = true := by decide +kernel
theorem fck108 : (List.range 109).all (fck 108) = true := by decide +kernel
theorem fck110 : (List.range 111).all (fck 110) = true := by decide +kernel
theorem fck120 : (List.range 121).all (fck 120) = true := by decide +kernel
theorem fck121 : (List.range 122).all (fck 121) = true := by decide +kernel
theorem fck132 : (List.range 133).all (fck 132) = true := by decide +kernel
theorem fck144 : (List.range 145).all (fck 144) = true := by decide +kernel
def NS : List Nat := [1, 2, 3, 4, 5, 6, 7, 8, 9, 10, 11, 12, 14, 15, 16, 18, 20, 21, 22, 24, 25, 27, 28, 30, 32, 33, 35, 36, 40, 42, 44, 45, 48, 49, 50, 54, 55, 56, 60, 63, 64, 66, 70, 72, 77, 80, 81, 84, 88, 90, 96, 99, 100, 108, 110, 120, 121, 132, 144]
theorem NS_ok : ∀ r, r < 13 → 1 ≤ r → ∀ c, c < 13 → 1 ≤ c → NS.contains (c * r) = true := by decide +kernel
theorem fck_all : ∀ n, NS.contains n = true → (List.range (n + 1)).all (fck n) = true := by
  intro n hn
  have : n ∈ NS := by simpa using hn
  simp only [NS, List.mem_cons, List.not_mem_nil, or_false] at this
  rcases this with e | e | e | e | e | e | e | e | e | e | e | e | e | e | e | e | e | e | e | e | e | e | e | e | e | e | e | e | e | e | e | e | e | e | e | e | e | e | e | e | e | e | e | e | e | e | e | e | e | e | e | e | e | e | e | e | e | e | e
  · subst e; exact fck1
  · subst e; exact fck2
  · subst e; exact fck3
  · subst e; exact fck4
  · subst e; exact fck5
  · subst e; exact fck6
  · subst e; exact fck7
  · subst e; exact fck8
  · subst e; exact fck9
  · subst e; exact fck10
  · subst e; exact fck11
  · subst e; exact fck12
  · subst e; exact fck14
  · subst e; exact fck15
  · subst e; exact fck16
  · subst e; exact fck18
  · subst e; exact fck20
  · subst e; exact fck21
  · subst e; exact fck22
  · subst e; exact fck24
  · subst e; exact fck25
  · subst e; exact fck27
  · subst e; exact fck28
  · subst e; exact fck30
  · subst e; exact fck32
  · subst e; exact fck33
  · subst e; exact fck35
  · subst e; exact fck36
  · subst e; exact fck40
  · subst e; exact fck42
  · subst e; exact fck44
  · subst e; exact fck45
  · subst e; exact fck48
  · subst e; exact fck49
  · subst e; exact fck50
  · subst e; exact fck54
  · subst e; exact fck55
  · subst e; exact fck56
  · subst e; exact fck60
  · subst e; exact fck63
  · subst e; exact fck64
  · subst e; exact fck66
  · subst e; exact fck70
  · subst e; exact fck72
  · subst e; exact fck77
  · subst e; exact fck80
  · subst e; exact fck81
  · subst e; exact fck84
  · subst e; exact fck88
  · subst e; exact fck90
  · subst e; exact fck96
  · subst e; exact fck99
  · subst e; exact fck100
  · subst e; exact fck108
  · subst e; exact fck110
  · subst e; exact fck120
  · subst e; exact fck121
  · subst e; exact fck132
  · subst e; exact fck144
