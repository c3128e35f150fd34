set_option maxRecDepth 100000
/-! regions: a search comes to all of a region -/
def nbr (G : Gr) (st a b : Nat) : Prop := a < G.N ∧ G.l b = G.l a ∧ ∃ j, j < ndir st ∧ inG G (nbX G a (st * j)) (nbY G a (st * j)) = true ∧ plc G (nbX G a (st * j)) (nbY G a (st * j)) = b
def Con (G : Gr) (st a b : Nat) : Prop := ∀ P : Nat → Prop, P a → (∀ x y, P x → nbr G st x y → P y) → P b
theorem Con.trans {G : Gr} {st a b c : Nat} (h : Con G st a b) (h' : Con G st b c) : Con G st a c := fun P p s => h' P (h P p s) s
theorem Con.one {G : Gr} {st a b : Nat} (h : nbr G st a b) : Con G st a b := fun P p s => s _ _ p h
theorem opp : ∀ d, d < 8 → dR ((d + 4) % 8) = - dR d ∧ dC ((d + 4) % 8) = - dC d := by decide +kernel
theorem nbr_sym {G : Gr} {st a b : Nat} (hst : st = 1 ∨ st = 2) (h : nbr G st a b) : nbr G st b a := by
  obtain ⟨h1, h2, j, hj, h3, h4⟩ := h
  have hj8 : st * j < 8 := by
    unfold ndir at hj
    rcases hst with e | e <;> subst e <;> simp at hj <;> omega
  obtain ⟨j', hj', ej⟩ : ∃ j' : Nat, j' < ndir st ∧ st * j' = (st * j + 4) % 8 := by
    rcases hst with e | e <;> subst e
    · exact ⟨(j + 4) % 8, by show (j + 4) % 8 < 8; omega, by omega⟩
    · exact ⟨(j + 2) % 4, by show (j + 2) % 4 < 4; omega, by omega⟩
  obtain ⟨q1, q2, q3⟩ := k_rc (show a < G.C * G.R from h1)
  have hx := (inG_iff G _ _).mp h3
  obtain ⟨o1, o2⟩ := opp _ hj8
  have hb := plc_lt h3
  rw [h4] at hb
  have hy : (nbY G a (st * j)).toNat < G.C := by omega
  have eb1 : b / G.C = (nbX G a (st * j)).toNat := by rw [← h4]; exact rc_div hy
  have eb2 : b % G.C = (nbY G a (st * j)).toNat := by rw [← h4]; exact rc_mod hy
  have n1 : nbX G b (st * j') = ((a / G.C : Nat) : Int) := by
    have e : nbX G b (st * j') = ((b / G.C : Nat) : Int) + dR (st * j') := rfl
    have e' : nbX G a (st * j) = ((a / G.C : Nat) : Int) + dR (st * j) := rfl
    rw [e, eb1, ej, o1]
    omega
  have n2 : nbY G b (st * j') = ((a % G.C : Nat) : Int) := by
    have e : nbY G b (st * j') = ((b % G.C : Nat) : Int) + dC (st * j') := rfl
    have e' : nbY G a (st * j) = ((a % G.C : Nat) : Int) + dC (st * j) := rfl
    rw [e, eb2, ej, o2]
    omega
  refine ⟨hb, h2.symm, j', hj', ?_, ?_⟩
  · rw [n1, n2]
    exact (inG_iff G _ _).mpr ⟨⟨Int.natCast_nonneg _, Int.ofNat_lt.mpr q1⟩, Int.natCast_nonneg _, Int.ofNat_lt.mpr q2⟩
  · rw [n1, n2]
    exact q3
theorem Con.symm {G : Gr} {st a b : Nat} (hst : st = 1 ∨ st = 2) (h : Con G st a b) : Con G st b a :=
  h (fun x => Con G st x a) (fun P p _ => p) (fun x y c n => (Con.one (nbr_sym hst n)).trans c)
theorem bhas_iff {L : BL} {t : Nat} : bhas L t = true ↔ ∃ p : Nat × Nat, p ∈ L ∧ p.1 = t := by
  unfold bhas
  rw [List.any_eq_true]
  constructor
  · rintro ⟨p, hp, e⟩; exact ⟨p, hp, beq_iff_eq.mp e⟩
  · rintro ⟨p, hp, e⟩; exact ⟨p, hp, beq_iff_eq.mpr e⟩
theorem bst_sub {G : Gr} {t0 d : Nat} {q p : Nat × Nat} {L : BL} (h : p ∈ L) : p ∈ bst G t0 q d L := by
  unfold bst
  split
  · exact List.mem_append_left _ h
  · exact h
theorem bdj_sub {G : Gr} {t0 st : Nat} {q p : Nat × Nat} {L : BL} (h : p ∈ L) : ∀ j, p ∈ bdj G t0 st q L j
  | 0 => h
  | j + 1 => bst_sub (bdj_sub h j)
theorem bgo_sub {G : Gr} {t0 st : Nat} {p : Nat × Nat} : ∀ (e k : Nat) (L : BL), p ∈ L → p ∈ bgo G t0 st e k L
  | 0, _, _, h => h
  | e + 1, k, L, h => by
    unfold bgo
    cases L[k]? with
    | none => exact h
    | some q => exact bgo_sub e (k + 1) _ (bdj_sub h _)
theorem bst_in {G : Gr} {t0 d : Nat} {q : Nat × Nat} {L : BL} (h1 : inG G (nbX G q.1 d) (nbY G q.1 d) = true) (h2 : G.l (plc G (nbX G q.1 d) (nbY G q.1 d)) = G.l t0) : bhas (bst G t0 q d L) (plc G (nbX G q.1 d) (nbY G q.1 d)) = true := by
  unfold bst
  by_cases w : bhas L (plc G (nbX G q.1 d) (nbY G q.1 d)) = true
  · rw [if_neg (by rw [w]; simp)]; exact w
  · rw [if_pos (by rw [h1, h2]; simp [w]), bhas_app]; simp
theorem bhas_mono {L L' : BL} (h : ∀ p : Nat × Nat, p ∈ L → p ∈ L') {t : Nat} (w : bhas L t = true) : bhas L' t = true := by
  obtain ⟨p, hp, e⟩ := bhas_iff.mp w
  exact bhas_iff.mpr ⟨p, h p hp, e⟩
/-- all neighbours of q are there -/
def Clo (G : Gr) (t0 st : Nat) (q : Nat × Nat) (L : BL) : Prop := ∀ j, j < ndir st → inG G (nbX G q.1 (st * j)) (nbY G q.1 (st * j)) = true → G.l (plc G (nbX G q.1 (st * j)) (nbY G q.1 (st * j))) = G.l t0 → bhas L (plc G (nbX G q.1 (st * j)) (nbY G q.1 (st * j))) = true
theorem bdj_in {G : Gr} {t0 st : Nat} {q : Nat × Nat} {L : BL} : ∀ (n j : Nat), j < n → inG G (nbX G q.1 (st * j)) (nbY G q.1 (st * j)) = true → G.l (plc G (nbX G q.1 (st * j)) (nbY G q.1 (st * j))) = G.l t0 → bhas (bdj G t0 st q L n) (plc G (nbX G q.1 (st * j)) (nbY G q.1 (st * j))) = true
  | 0, j, h, _, _ => absurd h (by omega)
  | n + 1, j, h, h1, h2 => by
    rw [bdj]
    by_cases e : j = n
    · subst e; exact bst_in h1 h2
    · exact bhas_mono (fun p hp => bst_sub hp) (bdj_in n j (by omega) h1 h2)
theorem bgo_clo {G : Gr} (hG : GV G) {t0 st : Nat} : ∀ (e k : Nat) (L : BL), LV G t0 L → k + e = 145 → k ≤ L.length → (∀ i q, i < k → L[i]? = some q → Clo G t0 st q L) → ∀ q, q ∈ bgo G t0 st e k L → Clo G t0 st q (bgo G t0 st e k L)
  | 0, k, L, hV, hk, hl, hc => by
    have := hV.len hG
    omega
  | e + 1, k, L, hV, hk, hl, hc => by
    unfold bgo
    cases hq : L[k]? with
    | none =>
      show ∀ q, q ∈ L → Clo G t0 st q L
      intro q hq'
      have hkl : L.length ≤ k := by simpa using hq
      obtain ⟨i, hi⟩ := List.getElem?_of_mem hq'
      exact hc i q (by have := (List.getElem?_eq_some_iff.mp hi).1; omega) hi
    | some q0 =>
      have hkl := (List.getElem?_eq_some_iff.mp hq).1
      have hk1 : k + 1 ≤ (bdj G t0 st q0 L (ndir st)).length := (List.getElem?_eq_some_iff.mp (bdj_get (st := st) (q' := q0) (G := G) (t0 := t0) hq (ndir st))).1
      refine bgo_clo hG e (k + 1) _ (hV.dj hq _) (by omega) hk1 (fun i q hi hq' => ?_)
      by_cases w : i = k
      · subst w
        rw [bdj_get hq] at hq'
        cases hq'
        intro j hj h1 h2
        exact bdj_in _ _ hj h1 h2
      · have hil : i < L.length := by omega
        have h0 : L[i]? = some (L[i]'hil) := List.getElem?_eq_getElem hil
        have h1 := bdj_get (st := st) (q' := q0) (G := G) (t0 := t0) h0 (ndir st)
        rw [h1] at hq'
        cases hq'
        intro j hj a1 a2
        exact bhas_mono (fun p hp => bdj_sub hp _) (hc i _ (by omega) h0 j hj a1 a2)
theorem bst_con {G : Gr} {t0 st k : Nat} {q : Nat × Nat} {L : BL} (hV : LV G t0 L) (hq : L[k]? = some q) (hc : ∀ p, p ∈ L → Con G st t0 p.1) {j : Nat} (hj : j < ndir st) : ∀ p, p ∈ bst G t0 q (st * j) L → Con G st t0 p.1 := by
  unfold bst
  split
  · rename_i c
    simp only [Bool.and_eq_true, Bool.not_eq_true', beq_iff_eq] at c
    obtain ⟨⟨c1, c2⟩, c3⟩ := c
    intro p hp
    rcases List.mem_append.mp hp with hp | hp
    · exact hc p hp
    · have hp : p = (plc G (nbX G q.1 (st * j)) (nbY G q.1 (st * j)), q.2 + 1) := by simpa using hp
      have hqm := List.mem_of_getElem? hq
      have h1 := hV.1 q hqm
      subst hp
      exact (hc q hqm).trans (Con.one ⟨h1.1, by rw [c2, h1.2], j, hj, c1, rfl⟩)
  · exact hc
theorem bdj_con {G : Gr} {t0 st k : Nat} {q : Nat × Nat} {L : BL} (hV : LV G t0 L) (hq : L[k]? = some q) (hc : ∀ p, p ∈ L → Con G st t0 p.1) : ∀ n, n ≤ ndir st → ∀ p, p ∈ bdj G t0 st q L n → Con G st t0 p.1
  | 0, _ => hc
  | n + 1, hn => bst_con (hV.dj hq n) (bdj_get hq n) (bdj_con hV hq hc n (by omega)) (by omega)
theorem bgo_con {G : Gr} {t0 st : Nat} : ∀ (e k : Nat) (L : BL), LV G t0 L → (∀ p, p ∈ L → Con G st t0 p.1) → ∀ p, p ∈ bgo G t0 st e k L → Con G st t0 p.1
  | 0, k, L, hV, hc => hc
  | e + 1, k, L, hV, hc => by
    unfold bgo
    cases hq : L[k]? with
    | none => exact hc
    | some q => exact bgo_con e (k + 1) _ (hV.dj hq _) (bdj_con hV hq hc _ (Nat.le_refl _))
theorem bfs_has {G : Gr} (hG : GV G) {t0 : Nat} (h0 : t0 < G.N) (st t : Nat) : bhas (bfs G t0 st) t = true ↔ Con G st t0 t := by
  have hV := bfs_LV h0 st
  constructor
  · intro h
    obtain ⟨p, hp, rfl⟩ := bhas_iff.mp h
    exact bgo_con _ _ _ (LV.one h0) (fun p hp => by
      have : p = (t0, 0) := by simpa using hp
      subst this
      exact fun P p _ => p) p hp
  · intro c
    refine c (fun x => bhas (bfs G t0 st) x = true) ?_ ?_
    · exact bhas_iff.mpr ⟨(t0, 0), bgo_sub _ _ _ (by simp), rfl⟩
    · rintro x y hx ⟨n1, n2, j, hj, n3, n4⟩
      obtain ⟨p, hp, e⟩ := bhas_iff.mp hx
      have hc := bgo_clo hG 145 0 [(t0, 0)] (LV.one h0) (by omega) (by simp) (fun i q hi _ => by omega) p hp j hj
      rw [e, n4] at hc
      exact hc n3 (by rw [n2, ← e]; exact (hV.1 p hp).2)
theorem sees_iff {R : RL2} {t : Nat} : sees R t = true ↔ ∃ r : Nat × BL, r ∈ R ∧ bhas r.2 t = true := by
  unfold sees
  rw [List.any_eq_true]
/-- the region at n, when it is a new one -/
theorem rgs_new {G : Gr} (hG : GV G) {b : Bool} {st n : Nat} (hst : st = 1 ∨ st = 2) (hn : n < G.N) (h : ((G.l n == b) && !sees (rgs G b st n) n) = true) : ∀ t, bhas (bfs G n st) t = true → sees (rgs G b st n) t = false := by
  intro t ht
  cases hs : sees (rgs G b st n) t with
  | false => rfl
  | true =>
    obtain ⟨r, hr, e⟩ := sees_iff.mp hs
    obtain ⟨r1, r2, _⟩ := rgs_len hG n (by omega) r hr
    rw [r2] at e
    have c := ((bfs_has hG r1 st t).mp e).trans (((bfs_has hG hn st t).mp ht).symm hst)
    have := (bfs_has hG r1 st n).mpr c
    rw [← r2] at this
    have w := sees_iff.mpr ⟨r, hr, this⟩
    rw [w] at h
    simp at h
theorem rgs_seen {G : Gr} (hG : GV G) {b : Bool} {st : Nat} : ∀ n, n ≤ G.N → ∀ t, t < n → G.l t = b → sees (rgs G b st n) t = true
  | 0, _, t, h, _ => absurd h (by omega)
  | n + 1, hn, t, h, hl => by
    by_cases c : ((G.l n == b) && !sees (rgs G b st n) n) = true
    · rw [rgs_yes c, sees_app]
      by_cases e : t = n
      · subst e
        have : bhas (bfs G t st) t = true := (bfs_has hG (by omega) st t).mpr (fun P p _ => p)
        show (_ || bhas (bfs G t st) t) = true
        rw [this, Bool.or_true]
      · rw [rgs_seen hG n (by omega) t (by omega) hl, Bool.true_or]
    · have c' : ((G.l n == b) && !sees (rgs G b st n) n) = false := by simpa using c
      rw [rgs_no c']
      by_cases e : t = n
      · subst e
        rw [hl] at c'
        simpa using c'
      · exact rgs_seen hG n (by omega) t (by omega) hl
theorem rgs_first {G : Gr} (hG : GV G) {b : Bool} {st n : Nat} (hst : st = 1 ∨ st = 2) (hn : n < G.N) (h : ((G.l n == b) && !sees (rgs G b st n) n) = true) : ∀ t, bhas (bfs G n st) t = true → n ≤ t := by
  intro t ht
  by_cases w : n ≤ t
  · exact w
  · exfalso
    obtain ⟨p, hp, rfl⟩ := bhas_iff.mp ht
    have h1 := ((bfs_LV hn st).1 p hp).2
    have hb : G.l n = b := by
      rw [Bool.and_eq_true] at h
      exact beq_iff_eq.mp h.1
    have := rgs_seen hG (b := b) (st := st) n (by omega) p.1 (by omega) (by rw [h1, hb])
    rw [rgs_new hG hst hn h _ ht] at this
    cases this
/-- all tiles of the regions -/
def allT : RL2 → List Nat
  | [] => []
  | r :: t => r.2.map (fun p => p.1) ++ allT t
theorem allT_app : ∀ (R : RL2) (r : Nat × BL), allT (R ++ [r]) = allT R ++ r.2.map (fun p => p.1)
  | [], r => by simp [allT]
  | a :: t, r => by
    show a.2.map (fun p => p.1) ++ allT (t ++ [r]) = _
    rw [allT_app t r, ← List.append_assoc]; rfl
theorem allT_mem : ∀ (R : RL2) (t : Nat), t ∈ allT R → sees R t = true
  | [], t, h => by cases h
  | a :: R, t, h => by
    show (bhas a.2 t || sees R t) = true
    rcases List.mem_append.mp h with h | h
    · obtain ⟨p, hp, e⟩ := List.mem_map.mp h
      rw [bhas_iff.mpr ⟨p, hp, e⟩, Bool.true_or]
    · rw [allT_mem R t h, Bool.or_true]
theorem rgs_all {G : Gr} (hG : GV G) {b : Bool} {st : Nat} (hst : st = 1 ∨ st = 2) : ∀ n, n ≤ G.N → (allT (rgs G b st n)).Nodup ∧ ∀ t, t ∈ allT (rgs G b st n) → t < G.N
  | 0, _ => ⟨by simp [rgs, allT], fun t h => by cases h⟩
  | n + 1, hn => by
    obtain ⟨i1, i2⟩ := rgs_all hG (b := b) hst n (by omega)
    by_cases c : ((G.l n == b) && !sees (rgs G b st n) n) = true
    · have hV := bfs_LV (show n < G.N by omega) st
      rw [rgs_yes c, allT_app]
      refine ⟨?_, fun t ht => ?_⟩
      · rw [List.nodup_append]
        refine ⟨i1, hV.2.1, fun x hx y hy e => ?_⟩
        subst e
        obtain ⟨p, hp, e⟩ := List.mem_map.mp hy
        have := rgs_new hG hst (by omega) c x (bhas_iff.mpr ⟨p, hp, e⟩)
        rw [allT_mem _ _ hx] at this
        cases this
      · rcases List.mem_append.mp ht with ht | ht
        · exact i2 t ht
        · obtain ⟨p, hp, e⟩ := List.mem_map.mp ht
          rw [← e]; exact (hV.1 p hp).1
    · rw [rgs_no (by simpa using c)]
      exact ⟨i1, i2⟩
def tot (R : RL2) : Nat := (allT R).length
theorem tot_app (R : RL2) (r : Nat × BL) : tot (R ++ [r]) = tot R + r.2.length := by
  unfold tot
  rw [allT_app, List.length_append, List.length_map]
theorem tot_le {G : Gr} (hG : GV G) {b : Bool} {st : Nat} (hst : st = 1 ∨ st = 2) {n : Nat} (hn : n ≤ G.N) : tot (rgs G b st n) ≤ 144 := by
  obtain ⟨i1, i2⟩ := rgs_all hG (b := b) hst n hn
  have := nodup_len G.N _ i1 i2
  have := hG.1.2.2.2.2.1
  unfold tot
  omega
theorem rgs_le (G : Gr) (b : Bool) (st : Nat) : ∀ n, (rgs G b st n).length ≤ n
  | 0 => Nat.le_refl _
  | n + 1 => by
    have := rgs_le G b st n
    by_cases c : ((G.l n == b) && !sees (rgs G b st n) n) = true
    · rw [rgs_yes c, List.length_append]; simp; omega
    · rw [rgs_no (by simpa using c)]; omega
