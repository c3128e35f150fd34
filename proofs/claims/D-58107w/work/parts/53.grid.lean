set_option maxRecDepth 100000
/-! THE MAP, as mathematics: rows, columns, outside, land, pins (tiles row by row) -/
abbrev Gr : Type := Nat × Nat × Bool × (Nat → Bool) × (Nat → Int32)
abbrev Gr.R (G : Gr) : Nat := G.1
abbrev Gr.C (G : Gr) : Nat := G.2.1
abbrev Gr.o (G : Gr) : Bool := G.2.2.1
abbrev Gr.l (G : Gr) : Nat → Bool := G.2.2.2.1
abbrev Gr.p (G : Gr) : Nat → Int32 := G.2.2.2.2
abbrev Gr.N (G : Gr) : Nat := G.C * G.R
def isP (x : Int32) : Prop := x = -6 ∨ ∃ s, s < 47 ∧ x = nI s
/-- what a map keeps to -/
def GV (G : Gr) : Prop := (1 ≤ G.R ∧ G.R ≤ 12 ∧ 1 ≤ G.C ∧ G.C ≤ 12 ∧ G.N ≤ 144 ∧ 1 ≤ G.N) ∧ ∀ k, k < G.N → isP (G.p k)
theorem mul_le144 {a b : Nat} (ha : a ≤ 12) (hb : b ≤ 12) : b * a ≤ 144 := Nat.mul_le_mul hb ha
def dR (d : Nat) : Int := if d = 7 ∨ d < 2 then -1 else if 3 ≤ d ∧ d ≤ 5 then 1 else 0
def dC (d : Nat) : Int := if 1 ≤ d ∧ d ≤ 3 then 1 else if 5 ≤ d ∧ d ≤ 7 then -1 else 0
theorem dR_b (d : Nat) : -1 ≤ dR d ∧ dR d ≤ 1 := by
  unfold dR
  split
  · omega
  · split <;> omega
theorem dC_b (d : Nat) : -1 ≤ dC d ∧ dC d ≤ 1 := by
  unfold dC
  split
  · omega
  · split <;> omega
def inG (G : Gr) (x y : Int) : Bool := decide ((0 ≤ x ∧ x < G.R) ∧ 0 ≤ y ∧ y < G.C)
theorem inG_iff (G : Gr) (x y : Int) : inG G x y = true ↔ (0 ≤ x ∧ x < G.R) ∧ 0 ≤ y ∧ y < G.C := by simp [inG]
/-- the place of a tile -/
def plc (G : Gr) (x y : Int) : Nat := G.C * x.toNat + y.toNat
theorem plc_nat (G : Gr) (r c : Nat) : plc G r c = G.C * r + c := rfl
theorem rc_lt {R C r c : Nat} (hr : r < R) (hc : c < C) : C * r + c < C * R := by
  have h1 : C * (r + 1) ≤ C * R := Nat.mul_le_mul_left _ hr
  have h2 : C * (r + 1) = C * r + C := Nat.mul_succ _ _
  omega
theorem rc_div {C r c : Nat} (hc : c < C) : (C * r + c) / C = r := by
  rw [Nat.add_comm, Nat.add_mul_div_left _ _ (by omega), Nat.div_eq_of_lt hc, Nat.zero_add]
theorem rc_mod {C r c : Nat} (hc : c < C) : (C * r + c) % C = c := by
  rw [Nat.add_comm, Nat.add_mul_mod_self_left, Nat.mod_eq_of_lt hc]
theorem k_rc {R C k : Nat} (hk : k < C * R) : k / C < R ∧ k % C < C ∧ C * (k / C) + k % C = k := by
  have h0 : 0 < C := by
    rcases Nat.eq_zero_or_pos C with h | h
    · subst h; simp at hk
    · exact h
  exact ⟨(Nat.div_lt_iff_lt_mul h0).mpr (by rw [Nat.mul_comm]; exact hk), Nat.mod_lt _ h0, Nat.div_add_mod k C⟩
theorem plc_lt {G : Gr} {x y : Int} (h : inG G x y = true) : plc G x y < G.N := by
  obtain ⟨⟨a, b⟩, c, d⟩ := (inG_iff G x y).mp h
  exact rc_lt (by omega) (by omega)
/-- land at a place, wherever it lies -/
def lat (G : Gr) (x y : Int) : Bool := if inG G x y then G.l (plc G x y) else G.o
def nbX (G : Gr) (k d : Nat) : Int := ((k / G.C : Nat) : Int) + dR d
def nbY (G : Gr) (k d : Nat) : Int := ((k % G.C : Nat) : Int) + dC d
def nb (G : Gr) (k d : Nat) : Bool := lat G (nbX G k d) (nbY G k d)
/-- bits collected -/
def bitsT (f : Nat → Bool) : Nat → Nat
  | 0 => 0
  | d + 1 => bitsT f d ||| (if f d then 2 ^ d else 0)
theorem bitsT_lt (f : Nat → Bool) : ∀ n, bitsT f n < 2 ^ n
  | 0 => by simp [bitsT]
  | n + 1 => by
    have h1 := bitsT_lt f n
    have h2 : 2 ^ n < 2 ^ (n + 1) := Nat.pow_lt_pow_right (by omega) (by omega)
    unfold bitsT
    refine Nat.or_lt_two_pow (by omega) ?_
    split <;> omega
theorem bitsT_tb (f : Nat → Bool) (i : Nat) : ∀ n, (bitsT f n).testBit i = (decide (i < n) && f i)
  | 0 => by simp [bitsT]
  | n + 1 => by
    unfold bitsT
    rw [Nat.testBit_or, bitsT_tb f i n]
    by_cases e : i = n
    · subst e
      by_cases q : f i = true <;> simp [q]
    · have : decide (i < n) = decide (i < n + 1) := by simp; omega
      rw [this]
      by_cases q : f n = true
      · simp [q, Nat.testBit_two_pow, show n ≠ i by omega]
      · simp [q]
theorem bitsT_cong {f g : Nat → Bool} : ∀ {n : Nat}, (∀ d, d < n → f d = g d) → bitsT f n = bitsT g n
  | 0, _ => rfl
  | n + 1, h => by rw [bitsT, bitsT, bitsT_cong (fun d hd => h d (by omega)), h n (by omega)]
def sur (G : Gr) (k : Nat) : Nat := bitsT (nb G k) 8
theorem sur_lt (G : Gr) (k : Nat) : sur G k < 256 := bitsT_lt _ 8
/-! masks and shapes -/
def redF (m left d : Nat) : Nat := if m.testBit ((d - 1) % 8) && m.testBit ((d + 1) % 8) then left else left &&& (255 - 2 ^ d)
def red (m : Nat) : Nat := redF m (redF m (redF m (redF m m 1) 3) 5) 7
def regs : List Nat := (List.range 256).filter (fun m => red m == m)
def msk (s : Nat) : Nat := regs.getD s 0
def shp (m : Nat) : Int32 := match regs.findIdx? (· == m) with
  | some i => nI i
  | none => -6
def popc (m : Nat) : Nat := ((List.range 8).filter (fun d => m.testBit d)).length
def trn (m q : Nat) : Nat := (m * 4 ^ q % 256) ||| (m * 4 ^ q / 256)
def mir (m : Nat) : Nat := bitsT (fun d => m.testBit ((8 - d) % 8)) 8
theorem red_lt : ∀ m, m < 256 → red m < 256 := by decide +kernel
theorem msk_lt : ∀ s, s < 47 → msk s < 256 := by decide +kernel
theorem shp_red : ∀ m, m < 256 → (List.range 47).any (fun s => decide (shp (red m) = nI s)) = true := by decide +kernel
theorem shp_red' {m : Nat} (hm : m < 256) : ∃ s, s < 47 ∧ shp (red m) = nI s := by
  obtain ⟨s, h1, h2⟩ := List.any_eq_true.mp (shp_red m hm)
  exact ⟨s, List.mem_range.mp h1, of_decide_eq_true h2⟩
theorem shp_msk : ∀ s, s < 47 → shp (msk s) = nI s := by decide +kernel
theorem popc_le : ∀ m, m < 256 → popc m ≤ 8 := by decide +kernel
theorem trn_lt : ∀ m, m < 256 → ∀ q, q < 4 → trn m q < 256 := by decide +kernel
theorem mir_lt (m : Nat) : mir m < 256 := bitsT_lt _ 8
theorem trn_reg : ∀ s, s < 47 → ∀ q, q < 4 → (List.range 47).any (fun t => decide (shp (trn (msk s) q) = nI t)) = true := by decide +kernel
theorem trn_reg' {s q : Nat} (hs : s < 47) (hq : q < 4) : ∃ t, t < 47 ∧ shp (trn (msk s) q) = nI t := by
  obtain ⟨t, h1, h2⟩ := List.any_eq_true.mp (trn_reg s hs q hq)
  exact ⟨t, List.mem_range.mp h1, of_decide_eq_true h2⟩
theorem xor_lt256 {a b : Nat} (ha : a < 256) (hb : b < 256) : a ^^^ b < 256 := Nat.xor_lt_two_pow (n := 8) ha hb
/-- the right shape of a tile; its shape; the number it has (a shape's number as Nat) -/
def rsh (G : Gr) (k : Nat) : Int32 := shp (red (sur G k))
def sha (G : Gr) (k : Nat) : Int32 := if G.l k then (if G.p k = -6 then rsh G k else G.p k) else -6
theorem rsh_ok (G : Gr) (k : Nat) : ∃ s, s < 47 ∧ rsh G k = nI s := shp_red' (sur_lt G k)
theorem sha_ok {G : Gr} (hG : GV G) {k : Nat} (hk : k < G.N) (hl : G.l k = true) : ∃ s, s < 47 ∧ sha G k = nI s := by
  unfold sha
  rw [if_pos hl]
  split
  · exact rsh_ok G k
  · rename_i h
    exact (hG.2 k hk).resolve_left h
/-- the number in a shape's Int32 -/
def nat (x : Int32) : Nat := x.toInt.toNat
theorem nat_nI {n : Nat} (h : n < 2 ^ 31) : nat (nI n) = n := by unfold nat; rw [nI_toInt h]; rfl
def flt (G : Gr) (k : Nat) : Nat := if G.l k then popc (msk (nat (sha G k)) ^^^ msk (nat (rsh G k))) else 0
theorem flt_le {G : Gr} (hG : GV G) {k : Nat} (hk : k < G.N) : flt G k ≤ 8 := by
  unfold flt
  split
  · rename_i hl
    obtain ⟨s, hs, e⟩ := sha_ok hG hk hl
    obtain ⟨t, ht, e'⟩ := rsh_ok G k
    rw [e, e', nat_nI (by omega), nat_nI (by omega)]
    exact popc_le _ (xor_lt256 (msk_lt _ hs) (msk_lt _ ht))
  · omega
