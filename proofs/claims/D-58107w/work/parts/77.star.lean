set_option maxRecDepth 100000
/-! needs: the nearest mask, by trial -/
def star (nw m : Nat) : Nat := bitsT (fun d => if mat m d then m.testBit d else nw.testBit d) 8
theorem star_red : ∀ s, s < 47 → ∀ nw, nw < 256 → red (star nw (msk s)) = msk s := by decide +kernel
