/-! the invariants' fruits: one rank, one place; fairness; the first numbers -/
set_option maxRecDepth 100000
theorem GI_cDo {N w k t : Nat} {g g' : Nat → Int32} {one ot v : Int32} (h : GI N g) (hk : k < 4) (ht : t < 10) (hr : cR w one ot) (ho : cDo g w one k t ot (.inr (v, g'))) : GI (N + 1) g' := by
  obtain ⟨c1, c2, c3, c4, c5⟩ := hr
  rcases ho with ⟨rfl, ho⟩ | ⟨rfl, ho⟩ | ⟨rfl, to, rfl, hto, ho⟩ | ⟨rfl, ho⟩ | ⟨rfl, ho⟩ | ⟨rfl, p, s, rfl, hp, rfl, hs, ho⟩ | ⟨rfl, s, rfl, hs, ho⟩ | ⟨rfl, ho⟩ | ⟨rfl, ho⟩
  · obtain ⟨p, hp, rfl⟩ := i_of (n := 5) (c1 rfl).1.1 (c1 rfl).1.2 (by omega)
    exact (GI_enter h (by omega) hk ht (c1 rfl).2 ho).mono (by omega)
  · exact (GI_strike h ho).mono (by omega)
  · exact (GI_lend h (c2 rfl).2 hto ho).mono (by omega)
  · exact (GI_back h ho).mono (by omega)
  · exact (GI_mend h (c3 rfl) ho).mono (by omega)
  · exact GI_use h hp hk ht hs ho
  · exact (GI_strict h (c5 rfl).2 hs ho).mono (by omega)
  · exact (GI_weather h ho).mono (by omega)
  · exact (GI_day h ho).mono (by omega)
theorem GI_00 : GI 0 g00 := by
  have hc : cnt g00 = 0 := by decide
  refine ⟨ok_00, fun b e h1 h2 h3 _ h5 => ?_, fun e he => ?_, fun t ht => ?_, ⟨fun _ => 20, 0, fun p hp => ?_, rfl, rfl⟩, fun s hs => ⟨5, by omega, by omega, ?_⟩, ⟨fun _ => 0, fun _ => 0, fun e he => ?_, fun s hs => ?_, by decide, by decide⟩⟩
  · unfold g00
    rw [if_neg (by omega), if_neg (by omega)]
  · unfold g00
    rw [if_neg (by omega), if_neg (by omega), if_neg (by omega), if_neg (by omega), if_neg (by omega), if_neg (by omega)]
    exact ⟨⟨0, by omega, rfl⟩, ⟨0, by omega, rfl⟩, ⟨0, by omega, rfl⟩⟩
  · unfold g00
    rw [if_neg (by omega), if_neg (by omega)]
    exact ⟨0, by omega, rfl⟩
  · unfold g00
    rw [if_pos (by omega)]
    rfl
  · unfold g00
    rw [if_neg (by omega), if_pos (by omega)]
    rfl
  · unfold g00
    rw [if_neg (by omega), if_neg (by omega)]
    rfl
  · unfold g00
    rw [if_neg (by omega), if_neg (by omega)]
    rfl
/-- how many are so -/
noncomputable def cW (p : Nat → Prop) : Nat → Nat
  | 0 => 0
  | n + 1 => cW p n + @ite Nat (p n) (Classical.propDecidable _) 1 0
theorem cW_le {p : Nat → Prop} : ∀ n, cW p n ≤ n := by
  intro n
  induction n with
  | zero => exact Nat.le_refl _
  | succ n ih =>
    show cW p n + @ite Nat (p n) (Classical.propDecidable _) 1 0 ≤ n + 1
    by_cases h : p n
    · rw [@if_pos _ (Classical.propDecidable _) h]; omega
    · rw [@if_neg _ (Classical.propDecidable _) h]; omega
theorem cW_tw {p : Nat → Prop} : ∀ n, sN (fun i => tw (p i)) n = Int32.ofNat (cW p n) := by
  intro n
  induction n with
  | zero => rfl
  | succ n ih =>
    rw [← sN_s, ih]
    show _ = Int32.ofNat (cW p n + @ite Nat (p n) (Classical.propDecidable _) 1 0)
    by_cases h : p n
    · rw [@if_pos _ (Classical.propDecidable _) h, tw_1 h, i_succ]
    · rw [@if_neg _ (Classical.propDecidable _) h, tw_0 h, Int32.add_zero]; rfl
theorem cW_lt {p q : Nat → Prop} (hpq : ∀ i, p i → q i) {x : Nat} (hx : ¬ p x) (hx' : q x) : ∀ n, cW p n ≤ cW q n ∧ (x < n → cW p n < cW q n) := by
  intro n
  induction n with
  | zero => exact ⟨Nat.le_refl _, fun w => by omega⟩
  | succ n ih =>
    have e1 : cW p (n + 1) = cW p n + @ite Nat (p n) (Classical.propDecidable _) 1 0 := rfl
    have e2 : cW q (n + 1) = cW q n + @ite Nat (q n) (Classical.propDecidable _) 1 0 := rfl
    rw [e1, e2]
    by_cases h : p n
    · rw [@if_pos _ (Classical.propDecidable _) h, @if_pos _ (Classical.propDecidable _) (hpq n h)]
      refine ⟨by omega, fun w => ?_⟩
      have : x ≠ n := by rintro rfl; exact hx h
      have := ih.2 (by omega)
      omega
    · rw [@if_neg _ (Classical.propDecidable _) h]
      by_cases h' : q n
      · rw [@if_pos _ (Classical.propDecidable _) h']
        exact ⟨by omega, fun _ => by omega⟩
      · rw [@if_neg _ (Classical.propDecidable _) h']
        refine ⟨by omega, fun w => ?_⟩
        have : x ≠ n := by rintro rfl; exact h' hx'
        have := ih.2 (by omega)
        omega
/-- a strict order's ranks differ -/
theorem rank_ne {R : Nat → Nat → Prop} {n : Nat} (hn : n < 1000) (hr : ∀ a, ¬ R a a) (ht : ∀ a b c, R a b → R b c → R a c) (hc : ∀ a b, a < n → b < n → a ≠ b → R a b ∨ R b a) {a b : Nat} (ha : a < n) (hb : b < n) (e : sN (fun o => tw (R o a)) n = sN (fun o => tw (R o b)) n) : a = b := by
  have la := cW_le (p := fun o => R o a) n
  have lb := cW_le (p := fun o => R o b) n
  rw [cW_tw, cW_tw, i_eq (by omega) (by omega)] at e
  by_cases h : a = b
  · exact h
  · exfalso
    rcases hc a b ha hb h with w | w
    · have := (cW_lt (p := fun o => R o a) (q := fun o => R o b) (fun i hi => ht i a b hi w) (hr a) w n).2 ha
      omega
    · have := (cW_lt (p := fun o => R o b) (q := fun o => R o a) (fun i hi => ht i b a hi w) (hr b) w n).2 hb
      omega
/-- the last is the only one -/
theorem lastI_1 {f : Nat → Int32} {v : Int32} {p : Nat} : ∀ n, (∀ a b, a < n → b < n → f a = f b → a = b) → p < n → f p = v → lastI f v n = Int32.ofNat p := by
  intro n
  induction n with
  | zero => intro _ w; omega
  | succ n ih =>
    intro hu hp hv
    show (if f n = v then Int32.ofNat n else lastI f v n) = _
    by_cases h : f n = v
    · rw [if_pos h, hu n p (by omega) hp (h.trans hv.symm)]
    · rw [if_neg h]
      have : p ≠ n := by rintro rfl; exact h hv
      exact ih (fun a b ha hb => hu a b (by omega) (by omega)) (by omega) hv
theorem lastI_0 {f : Nat → Int32} {v : Int32} : ∀ n, (∀ p, p < n → f p ≠ v) → lastI f v n = -1 := by
  intro n
  induction n with
  | zero => intro _; rfl
  | succ n ih =>
    intro h
    show (if f n = v then Int32.ofNat n else lastI f v n) = _
    rw [if_neg (h n (by omega))]
    exact ih fun p hp => h p (by omega)
theorem d_pos {a b : Nat} (ha : a < 1000000) (hb : b < 1000000) : 0 < Int32.ofNat a - Int32.ofNat b ↔ b < a := by
  rcases Nat.lt_or_ge b a with h | h
  · rw [i_sub (by omega), show (0 : Int32) = Int32.ofNat 0 from rfl, i_lt (by omega) (by omega)]
    omega
  · constructor
    · intro w
      exfalso
      have : Int32.ofNat a - Int32.ofNat b = -Int32.ofNat (b - a) := by
        rw [← i_sub h, Int32.neg_sub]
      rw [this, Int32.lt_iff_toInt_lt, Int32.toInt_neg, i_toInt (by omega)] at w
      have z0 : (0 : Int32).toInt = 0 := rfl
      rw [z0] at w
      have : Int.bmod (-(↑(b - a) : Int)) (2 ^ 32) = -(↑(b - a) : Int) := by
        rw [Int.bmod_eq_of_le] <;> omega
      omega
    · intro w; omega
theorem d_zero {a b : Nat} (ha : a < 1000000) (hb : b < 1000000) : Int32.ofNat a - Int32.ofNat b = 0 ↔ a = b := by
  rw [← i_eq (by omega) (by omega)]
  constructor
  · intro h
    have := congrArg (· + Int32.ofNat b) h
    simpa using this
  · intro h
    rw [h, Int32.sub_self]
