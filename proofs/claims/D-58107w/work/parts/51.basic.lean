set_option maxRecDepth 100000
/-! small numbers, flags, sums, loops -/
def bI (b : Bool) : Int32 := if b then 1 else 0
theorem bI_t : bI true = 1 := rfl
theorem bI_f : bI false = 0 := rfl
theorem bI_0 (b : Bool) : (bI b = 0) = (b = false) := by cases b <;> simp [bI]
theorem bI_1 (b : Bool) : (bI b = 1) = (b = true) := by cases b <;> simp [bI]
theorem bI_inj (a b : Bool) : (bI a = bI b) = (a = b) := by cases a <;> cases b <;> simp [bI]
theorem ite_bI {α : Sort _} (b : Bool) (x y : α) : (if bI b = 0 then x else y) = if b = true then y else x := by cases b <;> simp [bI]
theorem ite_bI1 {α : Sort _} (b : Bool) (x y : α) : (if bI b = 1 then x else y) = if b = true then x else y := by cases b <;> simp [bI]
theorem ite_bIn {α : Sort _} (b : Bool) (x y : α) : (if bI b = nI 0 then x else y) = if b = true then y else x := ite_bI b x y
theorem ite_bI1n {α : Sort _} (b : Bool) (x y : α) : (if bI b = nI 1 then x else y) = if b = true then x else y := ite_bI1 b x y
theorem retz_bI (b : Bool) (h : AH) : o_retz .boolean (bI b) h = some (some (vI (bI b)), h) := by cases b <;> exact o_retz_eq (by decide)
theorem retz_0 (h : AH) : o_retz .boolean 0 h = some (some (vI (bI false)), h) := retz_bI false h
theorem retz_1 (h : AH) : o_retz .boolean 1 h = some (some (vI (bI true)), h) := retz_bI true h
theorem retz_0n (h : AH) : o_retz .boolean (nI 0) h = some (some (vI (bI false)), h) := retz_bI false h
theorem retz_1n (h : AH) : o_retz .boolean (nI 1) h = some (some (vI (bI true)), h) := retz_bI true h
theorem li0 : (0 : Int32) = nI 0 := rfl
theorem li1 : (1 : Int32) = nI 1 := rfl
theorem li2 : (2 : Int32) = nI 2 := rfl
theorem li3 : (3 : Int32) = nI 3 := rfl
theorem li4 : (4 : Int32) = nI 4 := rfl
theorem li5 : (5 : Int32) = nI 5 := rfl
theorem li6 : (6 : Int32) = nI 6 := rfl
theorem li7 : (7 : Int32) = nI 7 := rfl
theorem li8 : (8 : Int32) = nI 8 := rfl
theorem li9 : (9 : Int32) = nI 9 := rfl
theorem li10 : (10 : Int32) = nI 10 := rfl
theorem li11 : (11 : Int32) = nI 11 := rfl
theorem li12 : (12 : Int32) = nI 12 := rfl
theorem li46 : (46 : Int32) = nI 46 := rfl
theorem li47 : (47 : Int32) = nI 47 := rfl
theorem li80 : (80 : Int32) = nI 80 := rfl
theorem li100 : (100 : Int32) = nI 100 := rfl
theorem li144 : (144 : Int32) = nI 144 := rfl
theorem li147 : (147 : Int32) = nI 147 := rfl
theorem li255 : (255 : Int32) = nI 255 := rfl
theorem li256 : (256 : Int32) = nI 256 := rfl
theorem li291 : (291 : Int32) = nI 291 := rfl
theorem li1164 : (1164 : Int32) = nI 1164 := rfl
theorem nI_toNat {x : Int32} (h : 0 ≤ x.toInt) : x = nI x.toInt.toNat := by
  apply Int32.toInt_inj.mp
  have h1 := Int32.toInt_lt x
  rw [nI_toInt (by omega)]
  omega
theorem toInt_add_s {x y : Int32} (h1 : -2147483648 ≤ x.toInt + y.toInt) (h2 : x.toInt + y.toInt < 2147483648) : (x + y).toInt = x.toInt + y.toInt := by
  rw [Int32.toInt_add]
  exact Int.bmod_eq_of_le (by omega) (by omega)
theorem toInt_sub_s {x y : Int32} (h1 : -2147483648 ≤ x.toInt - y.toInt) (h2 : x.toInt - y.toInt < 2147483648) : (x - y).toInt = x.toInt - y.toInt := by
  rw [Int32.toInt_sub]
  exact Int.bmod_eq_of_le (by omega) (by omega)
theorem nI_lt_t {n : Nat} (h : n < 2 ^ 31) (x : Int32) : (nI n < x) = ((n : Int) < x.toInt) := by rw [Int32.lt_iff_toInt_lt, nI_toInt h]
theorem nI_le_t {n : Nat} (h : n < 2 ^ 31) (x : Int32) : (nI n ≤ x) = ((n : Int) ≤ x.toInt) := by rw [Int32.le_iff_toInt_le, nI_toInt h]
theorem t_lt_nI {n : Nat} (h : n < 2 ^ 31) (x : Int32) : (x < nI n) = (x.toInt < (n : Int)) := by rw [Int32.lt_iff_toInt_lt, nI_toInt h]
theorem t_le_nI {n : Nat} (h : n < 2 ^ 31) (x : Int32) : (x ≤ nI n) = (x.toInt ≤ (n : Int)) := by rw [Int32.le_iff_toInt_le, nI_toInt h]
theorem nI_le' {a b : Nat} (ha : a < 2 ^ 31) (hb : b < 2 ^ 31) : (nI a ≤ nI b) = (a ≤ b) := propext (nI_leI ha hb)
theorem nI_lt' {a b : Nat} (ha : a < 2 ^ 31) (hb : b < 2 ^ 31) : (nI a < nI b) = (a < b) := propext (nI_ltI ha hb)
theorem nI_eq' {a b : Nat} (ha : a < 2 ^ 31) (hb : b < 2 ^ 31) : (nI a = nI b) = (a = b) := propext (nI_eq ha hb)
theorem nI_m6 {a : Nat} (ha : a < 2 ^ 31) : (nI a = -6) = False := by
  apply eq_false
  intro q
  have := congrArg Int32.toInt q
  rw [nI_toInt ha] at this
  have e : (-6 : Int32).toInt = -6 := by decide
  omega
theorem nI_neg {n : Nat} (h : n < 2 ^ 31) : (nI n < 0) = False := eq_false (nI_pos h)
/-- f with another value at k -/
def up (f : Nat → Int32) (k : Nat) (x : Int32) : Nat → Int32 := fun j => if j = k then x else f j
theorem up_s (f : Nat → Int32) (k : Nat) (x : Int32) : up f k x k = x := if_pos rfl
theorem up_n {f : Nat → Int32} {k j : Nat} {x : Int32} (h : j ≠ k) : up f k x j = f j := if_neg h
def upA (A : Nat → Nat → Int32) (k : Nat) (f : Nat → Int32) : Nat → Nat → Int32 := fun j => if j = k then f else A j
theorem upA_s (A : Nat → Nat → Int32) (k : Nat) (f : Nat → Int32) : upA A k f k = f := if_pos rfl
theorem upA_n {A : Nat → Nat → Int32} {k j : Nat} {f : Nat → Int32} (h : j ≠ k) : upA A k f j = A j := if_neg h
/-- an int array's values -/
def arI (n : Nat) (f : Nat → Int32) : List Value := (List.range n).map fun k => .int (f k)
theorem arI_len (n : Nat) (f : Nat → Int32) : (arI n f).length = n := by simp [arI]
theorem arI_get {n k : Nat} {f : Nat → Int32} (h : k < n) : (arI n f)[k]? = some (.int (f k)) := by simp [arI, h]
theorem arI_set {n k : Nat} {f : Nat → Int32} {x : Int32} : (arI n f).set k (.int x) = arI n (up f k x) := by
  apply List.ext_getElem?
  intro i
  by_cases hi : i < n
  · rw [arI_get hi]
    by_cases e : i = k
    · subst e; rw [List.getElem?_set_self (by rw [arI_len]; exact hi), up_s]
    · rw [List.getElem?_set_ne (by omega), arI_get hi, up_n e]
  · rw [List.getElem?_eq_none (by rw [List.length_set, arI_len]; omega), List.getElem?_eq_none (by rw [arI_len]; omega)]
theorem arI_cong {n : Nat} {f g : Nat → Int32} (h : ∀ k, k < n → f k = g k) : arI n f = arI n g := by
  unfold arI
  exact List.map_congr_left (fun k hk => by rw [h k (List.mem_range.mp hk)])
/-- the sum of f over 0 .. n-1 -/
def sm (f : Nat → Int32) : Nat → Int32
  | 0 => 0
  | n + 1 => sm f n + f n
theorem sm_cong {f g : Nat → Int32} : ∀ {n : Nat}, (∀ k, k < n → f k = g k) → sm f n = sm g n
  | 0, _ => rfl
  | n + 1, h => by rw [sm, sm, sm_cong (fun k hk => h k (by omega)), h n (by omega)]
/-! loops -/
theorem loop1 {σ : Type} (N : Nat) (L : Nat → Nat → σ → Res) (Inv : Nat → σ → Prop) (Q : Res → Prop) (hx : ∀ s n, Inv N s → Q (L (n + 1) N s))
    (hs : ∀ i s n, i < N → Inv i s → (∀ s', Inv (i + 1) s' → Q (L n (i + 1) s')) → Q (L (n + 1) i s)) : ∀ (i : Nat) (s : σ) (n : Nat), i ≤ N → Inv i s → N - i < n → Q (L n i s) := by
  have key : ∀ (d i : Nat) (s : σ) (n : Nat), i + d = N → Inv i s → d < n → Q (L n i s) := by
    intro d
    induction d with
    | zero =>
      intro i s n hi hI hn
      obtain ⟨m, rfl⟩ : ∃ m, n = m + 1 := ⟨n - 1, by omega⟩
      have : i = N := by omega
      subst this
      exact hx s m hI
    | succ d ih =>
      intro i s n hi hI hn
      obtain ⟨m, rfl⟩ : ∃ m, n = m + 1 := ⟨n - 1, by omega⟩
      exact hs i s m (by omega) hI (fun s' h' => ih (i + 1) s' m (by omega) h' (by omega))
  intro i s n hi hI hn
  exact key (N - i) i s n (by omega) hI hn
/-- two loops, one in the other: rows and columns -/
theorem loop2 {σ : Type} (R C : Nat) (hR : R < 90000) (hC : C < 90000) (O : Nat → Nat → σ → Res) (I : Nat → Nat → Nat → Nat → σ → Res) (Inv : Nat → σ → Prop) (Q : Res → Prop)
    (hx : ∀ s n, Inv (C * R) s → Q (O (n + 1) R s))
    (ho : ∀ r s n, r < R → Inv (C * r) s → (∀ s', Inv (C * r) s' → Q (I n FUEL r 0 s')) → Q (O (n + 1) r s))
    (he : ∀ r s n m, r < R → Inv (C * r + C) s → (∀ s', Inv (C * (r + 1)) s' → Q (O n (r + 1) s')) → Q (I n (m + 1) r C s))
    (hs : ∀ r c s n m, r < R → c < C → C * r + c < C * R → Inv (C * r + c) s → (∀ s', Inv (C * r + c + 1) s' → Q (I n m r (c + 1) s')) → Q (I n (m + 1) r c s)) :
    ∀ (s : σ), Inv 0 s → Q (O FUEL 0 s) := by
  intro s hI
  refine loop1 R O (fun r => Inv (C * r)) Q hx ?_ 0 s FUEL (Nat.zero_le _) hI (by simp only [FUEL]; omega)
  intro r s n hr hI hk
  refine ho r s n hr hI (fun s' hI' => ?_)
  refine loop1 C (fun m c s => I n m r c s) (fun c => Inv (C * r + c)) Q (fun s m h => he r s n m hr h hk) ?_ 0 s' FUEL (Nat.zero_le _) hI' (by simp only [FUEL]; omega)
  intro c s m hc hI hk
  have : C * r + c < C * R := by
    have h1 : C * (r + 1) ≤ C * R := Nat.mul_le_mul_left _ hr
    have h2 : C * (r + 1) = C * r + C := Nat.mul_succ _ _
    omega
  exact hs r c s n m hr hc this hI hk
theorem ite_ret {p : Prop} [Decidable p] (a b : Bool) (h : AH) : (if p then some (some (vI (bI a)), h) else some (some (vI (bI b)), h) : Res) = some (some (vI (bI (if p then a else b))), h) := by split <;> rfl
theorem ite_retI {p : Prop} [Decidable p] (a b : Int32) (h : AH) : (if p then some (some (vI a), h) else some (some (vI b), h) : Res) = some (some (vI (if p then a else b)), h) := by split <;> rfl
theorem ret_cong {a b : Bool} {h : AH} (e : a = b) : (some (some (vI (bI a)), h) : Res) = some (some (vI (bI b)), h) := by rw [e]
theorem retI_cong {a b : Int32} {h : AH} (e : a = b) : (some (some (vI a), h) : Res) = some (some (vI b), h) := by rw [e]
theorem bI_ite {p : Prop} [Decidable p] (a b : Bool) : (if p then bI a else bI b) = bI (if p then a else b) := by split <;> rfl
theorem bI_e0 {b : Bool} : (b = false) → (bI b = 0) := fun h => by rw [h]; rfl
theorem idiv_nI {a d : Nat} {K : Int32 → AH → Res} {h : AH} (ha : a < 2 ^ 31) (h0 : 0 < d) (hd : d < 2 ^ 31) : o_idiv (nI a) (nI d) K h = K (nI (a / d)) h := by
  unfold o_idiv; rw [if_neg (nI_ne0 h0 hd), pk_div ha h0 hd]
theorem irem_nI {a d : Nat} {K : Int32 → AH → Res} {h : AH} (ha : a < 2 ^ 31) (h0 : 0 < d) (hd : d < 2 ^ 31) : o_irem (nI a) (nI d) K h = K (nI (a % d)) h := by
  unfold o_irem; rw [if_neg (nI_ne0 h0 hd), pk_rem ha h0 hd]
theorem nI_or (a b : Nat) : nI a ||| nI b = nI (a ||| b) := by
  apply Int32.toBitVec_inj.mp
  show BitVec.ofNat 32 a ||| BitVec.ofNat 32 b = BitVec.ofNat 32 (a ||| b)
  apply BitVec.eq_of_getLsbD_eq
  intro i hi
  simp [BitVec.getLsbD_or, BitVec.getLsbD_ofNat, hi]
theorem nI_xor (a b : Nat) : nI a ^^^ nI b = nI (a ^^^ b) := by
  apply Int32.toBitVec_inj.mp
  show BitVec.ofNat 32 a ^^^ BitVec.ofNat 32 b = BitVec.ofNat 32 (a ^^^ b)
  apply BitVec.eq_of_getLsbD_eq
  intro i hi
  simp [BitVec.getLsbD_xor, BitVec.getLsbD_ofNat, hi]
theorem shl1_nI : ∀ d, d < 8 → (nI 1) <<< (nI d &&& 31) = nI (2 ^ d) := by decide +kernel
theorem shl1_1 : ∀ d, d < 8 → (1 : Int32) <<< (nI d &&& 31) = nI (2 ^ d) := by decide +kernel
/-- a loop whose state follows from its counter -/
theorem loopE (N : Nat) (L : Nat → Nat → Res) (res : Res) (hx : ∀ n, L (n + 1) N = res) (hs : ∀ i n, i < N → L n (i + 1) = res → L (n + 1) i = res) : ∀ i n, i ≤ N → N - i < n → L n i = res := by
  intro i n hi hn
  exact loop1 (σ := Unit) N (fun n i _ => L n i) (fun _ _ => True) (fun x => x = res) (fun _ n _ => hx n) (fun i _ n hi _ hk => hs i n hi (hk () trivial)) i () n hi trivial hn
theorem ti0 : (0 : Int32).toInt = 0 := by decide
theorem ti1 : (1 : Int32).toInt = 1 := by decide
theorem ti3 : (3 : Int32).toInt = 3 := by decide
theorem ti5 : (5 : Int32).toInt = 5 := by decide
theorem ti9 : (9 : Int32).toInt = 9 := by decide
theorem ti12 : (12 : Int32).toInt = 12 := by decide
theorem ti46 : (46 : Int32).toInt = 46 := by decide
theorem ti48 : (48 : Int32).toInt = 48 := by decide
theorem ti57 : (57 : Int32).toInt = 57 := by decide
theorem ti33 : (33 : Int32).toInt = 33 := by decide
theorem ti126 : (126 : Int32).toInt = 126 := by decide
theorem ti255 : (255 : Int32).toInt = 255 := by decide
theorem li33 : (33 : Int32) = nI 33 := rfl
theorem li35 : (35 : Int32) = nI 35 := rfl
theorem li48 : (48 : Int32) = nI 48 := rfl
theorem li46' : (46 : Int32) = nI 46 := rfl
theorem li57 : (57 : Int32) = nI 57 := rfl
