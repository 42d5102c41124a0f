/-! every rank has one place; it is fair -/
set_option maxRecDepth 100000
theorem sN_nS {f : Nat → Int32} {u : Nat → Nat} : ∀ n, (∀ i, i < n → f i = Int32.ofNat (u i)) → sN f n = Int32.ofNat (nS u n) := by
  intro n
  induction n with
  | zero => intro _; rfl
  | succ n ih =>
    intro h
    rw [← sN_s, ih fun i hi => h i (by omega), h n (by omega), i_add]
    rfl
theorem nS_le {u : Nat → Nat} {m : Nat} : ∀ n, m ≤ n → nS u m ≤ nS u n := by
  intro n
  induction n with
  | zero => intro h; rw [Nat.le_zero.mp h]; exact Nat.le_refl _
  | succ n ih =>
    intro h
    rcases Nat.lt_or_ge n m with w | w
    · rw [show m = n + 1 by omega]; exact Nat.le_refl _
    · exact Nat.le_trans (ih w) (Nat.le_add_right _ _)
theorem nS_at {u : Nat → Nat} {i n : Nat} (h : i < n) : u i ≤ nS u n := by
  have : nS u (i + 1) = nS u i + u i := rfl
  have := nS_le (u := u) (m := i + 1) n h
  omega
/-- first by x, then by y, then by the place -/
def lexR (x y : Nat → Nat) (a b : Nat) : Prop := x b < x a ∨ (x a = x b ∧ (y b < y a ∨ (y a = y b ∧ a < b)))
theorem lex_r {x y : Nat → Nat} (a : Nat) : ¬ lexR x y a a := by unfold lexR; omega
theorem lex_t {x y : Nat → Nat} (a b c : Nat) : lexR x y a b → lexR x y b c → lexR x y a c := by unfold lexR; omega
theorem lex_c {x y : Nat → Nat} (a b : Nat) (h : a ≠ b) : lexR x y a b ∨ lexR x y b a := by unfold lexR; omega
section FRU
variable {N : Nat} {g : Nat → Int32}
theorem GI_coins (h : GI N g) : g 3 + sumG g 114 6 = 120 := by
  obtain ⟨c, f, q1, q2, q3⟩ := h.2.2.2.2.1
  unfold sumG
  rw [sN_nS (u := c) 6 q1, q2, i_add]
  have : f + nS c 6 = 120 := by
    simp only [nS]
    omega
  rw [this]
  rfl
theorem GI_strictness (h : GI N g) : ∀ s, s < 3 → ¬ g (132 + s) ≤ 0 := by
  intro s hs
  obtain ⟨n, h1, h2, h3⟩ := h.2.2.2.2.2.1 s hs
  rw [h3, show (0 : Int32) = Int32.ofNat 0 from rfl, i_le (by omega) (by omega)]
  omega
theorem GI_uses (h : GI N g) (hN : N < 1000000) : ¬ sumG g 135 3 < sN (fun e => g (78 + e)) (cnt g) := by
  obtain ⟨u, v, q1, q2, q3, q4⟩ := h.2.2.2.2.2.2
  have h12 := h.1.1.1
  have hle := nS_le (u := u) (m := cnt g) 12 h12
  have hv : nS v 3 = v 0 + v 1 + v 2 := by simp only [nS]; omega
  unfold sumG
  rw [sN_nS (u := v) 3 q2, sN_nS (f := fun e => g (78 + e)) (u := u) (cnt g) fun i hi => q1 i (by omega), i_lt (by omega) (by omega)]
  omega
theorem rkn_1 (h : GI N g) {a b : Nat} (ha : a < 6) (hb : b < 6) (e : rkn g a = rkn g b) : a = b := by
  obtain ⟨c, f, q1, q2, q3⟩ := h.2.2.2.2.1
  have h12 := h.1.1.1
  have hc : ∀ p, p < 6 → c p < 1000000 := fun p hp => by
    have : p = 0 ∨ p = 1 ∨ p = 2 ∨ p = 3 ∨ p = 4 ∨ p = 5 := by omega
    rcases this with rfl | rfl | rfl | rfl | rfl | rfl <;> omega
  obtain ⟨y, hy⟩ : ∃ y : Nat → Nat, ∀ p, nHld g p = Int32.ofNat (y p) ∧ y p ≤ cnt g := ⟨fun p => cW (fun e => g (66 + e) = Int32.ofNat p ∧ ((0 : Int32) ≠ 0 → lft g e = 0)) (cnt g), fun p => ⟨cW_tw (cnt g), cW_le _⟩⟩
  have key : ∀ o p, o < 6 → p < 6 → (ahd g o p ↔ lexR c y o p) := fun o p ho hp => by
    have b1 := (hy o).2
    have b2 := (hy p).2
    unfold ahd lexR
    rw [q1 o ho, q1 p hp, (hy o).1, (hy p).1, d_pos (hc o ho) (hc p hp), d_zero (hc o ho) (hc p hp), d_pos (by omega) (by omega), d_zero (by omega) (by omega)]
  have hs : ∀ p, p < 6 → rkn g p = sN (fun o => tw (lexR c y o p)) 6 := fun p hp => sN_congr fun o ho => by
    by_cases w : ahd g o p
    · rw [tw_1 w, tw_1 ((key o p ho hp).mp w)]
    · rw [tw_0 w, tw_0 fun u => w ((key o p ho hp).mpr u)]
  rw [hs a ha, hs b hb] at e
  exact rank_ne (R := lexR c y) (by omega) lex_r lex_t (fun a b _ _ h => lex_c a b h) ha hb e
theorem GI_lft (h : GI N g) {e : Nat} (he : e < 12) : fg 9 (lft g e) := by
  obtain ⟨⟨a, ha, ha'⟩, ⟨b, hb, hb'⟩, -⟩ := h.2.2.1 e he
  unfold lft
  rw [ha', hb']
  rcases Nat.lt_or_ge a b with w | w
  · by_cases w2 : 0 ≤ Int32.ofNat a - Int32.ofNat b
    · exfalso
      have h1 : ¬ 0 < Int32.ofNat a - Int32.ofNat b := fun z => by have := (d_pos (a := a) (b := b) (by omega) (by omega)).mp z; omega
      have h2 : ¬ Int32.ofNat a - Int32.ofNat b = 0 := fun z => by have := (d_zero (a := a) (b := b) (by omega) (by omega)).mp z; omega
      rw [Int32.lt_iff_toInt_lt] at h1
      rw [Int32.le_iff_toInt_le] at w2
      exact h2 (Int32.toInt_inj.mp (by omega))
    · rw [if_neg w2]
      exact ⟨0, by omega, rfl⟩
  · rw [i_sub w, if_pos (show (0 : Int32) ≤ Int32.ofNat (a - b) from (i_le (a := 0) (by omega) (by omega)).mpr (by omega))]
    exact ⟨a - b, by omega, rfl⟩
theorem fkn_1 (h : GI N g) (hN : N < 1000000) {a b : Nat} (ha : a < cnt g) (hb : b < cnt g) (e : fkn g a = fkn g b) : a = b := by
  obtain ⟨u, v, q1, q2, q3, q4⟩ := h.2.2.2.2.2.2
  have h12 := h.1.1.1
  have hu : ∀ i, i < 12 → u i < 1000000 := fun i hi => by
    have := nS_at (u := u) hi
    omega
  obtain ⟨x, hx⟩ : ∃ x : Nat → Nat, ∀ i, i < 12 → lft g i = Int32.ofNat (x i) ∧ x i ≤ 9 := by
    refine ⟨fun i => (lft g i).toNatClampNeg, fun i hi => ?_⟩
    obtain ⟨n, hn, hn'⟩ := GI_lft h hi
    dsimp only
    rw [hn', i_nat (by omega)]
    exact ⟨rfl, hn⟩
  have key : ∀ o p, o < cnt g → p < cnt g → (frs g o p ↔ lexR x (fun i => 2000000 - u i) o p) := fun o p ho hp => by
    obtain ⟨x1, x2⟩ := hx o (by omega)
    obtain ⟨x3, x4⟩ := hx p (by omega)
    have u1 := hu o (by omega)
    have u2 := hu p (by omega)
    unfold frs lexR
    rw [x1, x3, q1 o (by omega), q1 p (by omega), d_pos (by omega) (by omega), d_zero (by omega) (by omega), d_pos u2 u1, d_zero u2 u1]
    dsimp only
    omega
  have hs : ∀ p, p < cnt g → fkn g p = sN (fun o => tw (lexR x (fun i => 2000000 - u i) o p)) (cnt g) := fun p hp => sN_congr fun o ho => by
    by_cases w : frs g o p
    · rw [tw_1 w, tw_1 ((key o p ho hp).mp w)]
    · rw [tw_0 w, tw_0 fun u => w ((key o p ho hp).mpr u)]
  rw [hs a ha, hs b hb] at e
  exact rank_ne (R := lexR x fun i => 2000000 - u i) (by omega) lex_r lex_t (fun a b _ _ h => lex_c a b h) ha hb e
end FRU
