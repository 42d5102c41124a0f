/-! what the numbers always are -/
set_option maxRecDepth 100000
/-- a number from 0 to m -/
def fg (m : Nat) (x : Int32) : Prop := ∃ n, n ≤ m ∧ x = Int32.ofNat n
def nS (u : Nat → Nat) : Nat → Nat
  | 0 => 0
  | n + 1 => nS u n + u n
def iE (g : Nat → Int32) : Prop := ∀ e, e < 12 → fg 9 (g (30 + e)) ∧ fg 9 (g (42 + e)) ∧ fg 3 (g (102 + e))
def iC (g : Nat → Int32) : Prop := ∃ (c : Nat → Nat) (f : Nat), (∀ p, p < 6 → g (114 + p) = Int32.ofNat (c p)) ∧ g 3 = Int32.ofNat f ∧ f + (c 0 + c 1 + c 2 + c 3 + c 4 + c 5) = 120
def iS (g : Nat → Int32) : Prop := ∀ s, s < 3 → ∃ n, 1 ≤ n ∧ n ≤ 9 ∧ g (132 + s) = Int32.ofNat n
def iU (N : Nat) (g : Nat → Int32) : Prop := ∃ u v : Nat → Nat, (∀ e, e < 12 → g (78 + e) = Int32.ofNat (u e)) ∧ (∀ s, s < 3 → g (135 + s) = Int32.ofNat (v s)) ∧ nS u 12 ≤ v 0 + v 1 + v 2 ∧ v 0 + v 1 + v 2 ≤ N
def GI (N : Nat) (g : Nat → Int32) : Prop := gOK g ∧ zOK g ∧ iE g ∧ dgOK g ∧ iC g ∧ iS g ∧ iU N g
theorem fg_l {m : Nat} {x : Int32} (h0 : ¬ x < 0) (h1 : ¬ Int32.ofNat m < x) (hm : m < 2147483648) : fg m x := i_of h0 h1 hm
theorem GI.iOK {N : Nat} {g : Nat → Int32} (h : GI N g) : iOK g := ⟨fun e he => (h.2.2.1 e (by have := h.1.1.1; omega)).2.2, h.2.1, h.2.2.2.1⟩
theorem ok_c2 {g g' : Nat → Int32} (h : gOK g) (hg : ∀ i, i = 0 ∨ (6 ≤ i ∧ i < 30) ∨ (54 ≤ i ∧ i < 78) → g' i = g i) : gOK g' := by
  obtain ⟨⟨h1, h2⟩, h3⟩ := h
  have hc : cnt g' = cnt g := by
    unfold cnt
    rw [hg 0 (by omega)]
  refine ⟨⟨by rw [hc]; exact h1, by rw [hc, hg 0 (by omega)]; exact h2⟩, fun e he => ?_⟩
  rw [hc] at he
  unfold kOf tOf oOf dOf
  rw [hg (6 + e) (by omega), hg (18 + e) (by omega), hg (54 + e) (by omega), hg (66 + e) (by omega)]
  exact h3 e he
theorem z_congr {g g' : Nat → Int32} (h : zOK g) (h0 : g' 0 = g 0) (hg : ∀ i, 6 ≤ i → i < 114 → g' i = g i) : zOK g' := fun b e h1 h2 h3 h4 h5 => by
  rw [hg _ (by omega) (by omega)]
  have : cnt g' = cnt g := by unfold cnt; rw [h0]
  exact h b e h1 h2 h3 (by omega) h5
theorem E_congr {g g' : Nat → Int32} (h : iE g) (hg : ∀ i, (30 ≤ i ∧ i < 54) ∨ (102 ≤ i ∧ i < 114) → g' i = g i) : iE g' := fun e he => by
  rw [hg (30 + e) (by omega), hg (42 + e) (by omega), hg (102 + e) (by omega)]
  exact h e he
theorem D_congr {g g' : Nat → Int32} (h : dgOK g) (hg : ∀ i, 141 ≤ i → i < 151 → g' i = g i) : dgOK g' := fun t ht => by
  rw [hg _ (by omega) (by omega)]
  exact h t ht
theorem C_congr {g g' : Nat → Int32} (h : iC g) (h3 : g' 3 = g 3) (hg : ∀ i, 114 ≤ i → i < 120 → g' i = g i) : iC g' := by
  obtain ⟨c, f, q1, q2, q3⟩ := h
  exact ⟨c, f, fun p hp => by rw [hg _ (by omega) (by omega)]; exact q1 p hp, by rw [h3]; exact q2, q3⟩
theorem S_congr {g g' : Nat → Int32} (h : iS g) (hg : ∀ i, 132 ≤ i → i < 135 → g' i = g i) : iS g' := fun s hs => by
  rw [hg _ (by omega) (by omega)]
  exact h s hs
theorem U_congr {N : Nat} {g g' : Nat → Int32} (h : iU N g) (hg : ∀ i, (78 ≤ i ∧ i < 90) ∨ (135 ≤ i ∧ i < 138) → g' i = g i) : iU N g' := by
  obtain ⟨u, v, q1, q2, q3, q4⟩ := h
  exact ⟨u, v, fun e he => by rw [hg _ (by omega)]; exact q1 e he, fun s hs => by rw [hg _ (by omega)]; exact q2 s hs, q3, q4⟩
theorem U_mono {N N' : Nat} {g : Nat → Int32} (h : iU N g) (hN : N ≤ N') : iU N' g := by
  obtain ⟨u, v, q1, q2, q3, q4⟩ := h
  exact ⟨u, v, q1, q2, q3, by omega⟩
theorem GI.mono {N N' : Nat} {g : Nat → Int32} (h : GI N g) (hN : N ≤ N') : GI N' g := by
  obtain ⟨h1, h2, h3, h4, h5, h6, h7⟩ := h
  exact ⟨h1, h2, h3, h4, h5, h6, U_mono h7 hN⟩
/-- coins change hands: a pupil's become n, the fund's f', the whole stays -/
theorem C_move {g g' : Nat → Int32} {c c' : Nat → Nat} {f f' : Nat} (q1 : ∀ p, p < 6 → g' (114 + p) = Int32.ofNat (c' p)) (q2 : g' 3 = Int32.ofNat f') (q3 : f' + (c' 0 + c' 1 + c' 2 + c' 3 + c' 4 + c' 5) = 120) : iC g' := ⟨c', f', q1, q2, q3⟩
theorem six {c c' : Nat → Nat} {p a : Nat} (hp : p < 6) (hc : c' p + a = c p) (ho : ∀ q, q ≠ p → c' q = c q) : (c' 0 + c' 1 + c' 2 + c' 3 + c' 4 + c' 5) + a = c 0 + c 1 + c 2 + c 3 + c 4 + c 5 := by
  have : p = 0 ∨ p = 1 ∨ p = 2 ∨ p = 3 ∨ p = 4 ∨ p = 5 := by omega
  rcases this with rfl | rfl | rfl | rfl | rfl | rfl
  · have := ho 1 (by omega); have := ho 2 (by omega); have := ho 3 (by omega); have := ho 4 (by omega); have := ho 5 (by omega); omega
  · have := ho 0 (by omega); have := ho 2 (by omega); have := ho 3 (by omega); have := ho 4 (by omega); have := ho 5 (by omega); omega
  · have := ho 1 (by omega); have := ho 0 (by omega); have := ho 3 (by omega); have := ho 4 (by omega); have := ho 5 (by omega); omega
  · have := ho 1 (by omega); have := ho 2 (by omega); have := ho 0 (by omega); have := ho 4 (by omega); have := ho 5 (by omega); omega
  · have := ho 1 (by omega); have := ho 2 (by omega); have := ho 3 (by omega); have := ho 0 (by omega); have := ho 5 (by omega); omega
  · have := ho 1 (by omega); have := ho 2 (by omega); have := ho 3 (by omega); have := ho 4 (by omega); have := ho 0 (by omega); omega
/-- a pupil gives a coins -/
theorem C_give {g : Nat → Int32} {p a : Nat} (hp : p < 6) {c : Nat → Nat} {f : Nat} (q1 : ∀ p, p < 6 → g (114 + p) = Int32.ofNat (c p)) (q3 : f + (c 0 + c 1 + c 2 + c 3 + c 4 + c 5) = 120) (ha : a ≤ c p) : ∃ c' : Nat → Nat, (∀ q, q < 6 → gu g (114 + p) (g (114 + p) - Int32.ofNat a) (114 + q) = Int32.ofNat (c' q)) ∧ f + (c' 0 + c' 1 + c' 2 + c' 3 + c' 4 + c' 5) + a = 120 ∧ c' p + a = c p ∧ ∀ q, q ≠ p → c' q = c q := by
  refine ⟨un c p (c p - a), fun q hq => ?_, ?_, by rw [un_s]; omega, fun q hq => un_n hq⟩
  · by_cases h : q = p
    · subst h
      rw [gu_s, un_s, q1 q hq, i_sub ha]
    · rw [gu_n (by omega), un_n h]
      exact q1 q hq
  · have := six (c := c) (c' := un c p (c p - a)) (a := a) hp (by rw [un_s]; omega) (fun q hq => un_n hq)
    omega
theorem C_take {g : Nat → Int32} {p a : Nat} (hp : p < 6) {c : Nat → Nat} {f : Nat} (q1 : ∀ p, p < 6 → g (114 + p) = Int32.ofNat (c p)) (q3 : f + (c 0 + c 1 + c 2 + c 3 + c 4 + c 5) + a = 120) : ∃ c' : Nat → Nat, (∀ q, q < 6 → gu g (114 + p) (g (114 + p) + Int32.ofNat a) (114 + q) = Int32.ofNat (c' q)) ∧ f + (c' 0 + c' 1 + c' 2 + c' 3 + c' 4 + c' 5) = 120 := by
  refine ⟨un c p (c p + a), fun q hq => ?_, ?_⟩
  · by_cases h : q = p
    · subst h
      rw [gu_s, un_s, q1 q hq, i_add]
    · rw [gu_n (by omega), un_n h]
      exact q1 q hq
  · have := six (c := un c p (c p + a)) (c' := c) (a := a) hp (by rw [un_s]) (fun q hq => (un_n hq).symm)
    omega
section INV
variable {N : Nat} {g : Nat → Int32}
theorem GI_strict {s : Nat} {x v : Int32} {g' : Nat → Int32} (h : GI N g) (hx : isL x) (hs : s < 3) (ho : sStrict g s x (.inr (v, g'))) : GI N g' := by
  obtain ⟨h1, h2, h3, h4, h5, h6, h7⟩ := h
  rcases ho with ⟨-, w⟩ | ⟨-, w⟩
  · exact nomatch w
  · injection w with w; injection w with w1 w2
    subst w2
    refine ⟨ok_congr h1 fun i hi => gu_n (by omega), z_congr h2 (gu_n (by omega)) fun i _ _ => gu_n (by omega), E_congr h3 fun i _ => gu_n (by omega), D_congr h4 fun i _ _ => gu_n (by omega), C_congr h5 (gu_n (by omega)) fun i _ _ => gu_n (by omega), fun t ht => ?_, U_congr h7 fun i _ => gu_n (by omega)⟩
    by_cases hts : t = s
    · subst hts
      rw [gu_s]
      have hx0 : ¬ x < 0 := fun w => hx.1 (by
        rw [Int32.lt_iff_toInt_lt] at w ⊢
        have z0 : (0 : Int32).toInt = 0 := rfl
        have z1 : (1 : Int32).toInt = 1 := rfl
        omega)
      obtain ⟨n, hn, rfl⟩ := i_of (n := 9) hx0 hx.2 (by omega)
      refine ⟨n, ?_, hn, rfl⟩
      rcases Nat.eq_zero_or_pos n with rfl | w
      · exact absurd (by decide) hx.1
      · exact w
    · rw [gu_n (by omega)]
      exact h6 t ht
theorem GI_weather {t v : Int32} {g' : Nat → Int32} (h : GI N g) (ho : sWeather g t (.inr (v, g'))) : GI N g' := by
  obtain ⟨h1, h2, h3, h4, h5, h6, h7⟩ := h
  rcases ho with ⟨-, w⟩ | ⟨-, w⟩
  · exact nomatch w
  · injection w with w; injection w with w1 w2
    subst w2
    exact ⟨ok_L h1 fun i hi => gu_n (by omega), z_congr h2 (gu_n (by omega)) fun i _ _ => gu_n (by omega), E_congr h3 fun i _ => gu_n (by omega), D_congr h4 fun i _ _ => gu_n (by omega), C_congr h5 (gu_n (by omega)) fun i _ _ => gu_n (by omega), S_congr h6 fun i _ _ => gu_n (by omega), U_congr h7 fun i _ => gu_n (by omega)⟩
/-- an excuse that is there goes back -/
theorem GI_bak {e : Nat} (h : GI N g) (he : e < cnt g) : GI N (bakG g e) := by
  obtain ⟨h1, h2, h3, h4, h5, h6, h7⟩ := h
  have h12 := h1.1.1
  obtain ⟨-, -, ⟨ho, ho'⟩, -⟩ := h1.2 e he
  have hn : ∀ i, i ≠ 66 + e → i ≠ 102 + e → bakG g e i = g i := fun i a b => by unfold bakG; rw [gu_n b, gu_n a]
  refine ⟨ok_D (e := e) h1 ho (by unfold bakG; rw [gu_n (by omega), gu_s]; exact ho') (fun i hi hne => hn i hne (by omega)) (by omega), fun b j q1 q2 q3 q4 q5 => ?_, fun j hj => ?_, D_congr h4 fun i _ _ => hn i (by omega) (by omega), C_congr h5 (hn 3 (by omega) (by omega)) fun i _ _ => hn i (by omega) (by omega), S_congr h6 fun i _ _ => hn i (by omega) (by omega), U_congr h7 fun i _ => hn i (by omega) (by omega)⟩
  · have hc : cnt (bakG g e) = cnt g := by unfold cnt; rw [hn 0 (by omega) (by omega)]
    rw [hn _ (by omega) (by omega)]
    exact h2 b j q1 q2 q3 (by omega) q5
  · obtain ⟨a1, a2, a3⟩ := h3 j hj
    rw [hn (30 + j) (by omega) (by omega), hn (42 + j) (by omega) (by omega)]
    refine ⟨a1, a2, ?_⟩
    by_cases hje : j = e
    · subst hje
      unfold bakG
      rw [gu_s]
      exact ⟨0, by omega, rfl⟩
    · rw [hn _ (by omega) (by omega)]
      exact a3
theorem GI_back {k t v : Int32} {g' : Nat → Int32} (h : GI N g) (ho : sBack g k t (.inr (v, g'))) : GI N g' := by
  rcases ho with ⟨-, w⟩ | ⟨e, he, ⟨-, w⟩ | ⟨-, w⟩⟩
  · exact nomatch w
  · exact nomatch w
  · injection w with w; injection w with w1 w2
    subst w2
    exact GI_bak h he.1
/-- a pupil pays into the fund -/
theorem GI_pay {p a : Nat} (h : GI N g) (hp : p < 6) (ha : Int32.ofNat a ≤ g (114 + p)) (ha9 : a ≤ 120) : GI N (gu (gu g (114 + p) (g (114 + p) - Int32.ofNat a)) 3 (g 3 + Int32.ofNat a)) := by
  obtain ⟨h1, h2, h3, h4, ⟨c, f, q1, q2, q3⟩, h6, h7⟩ := h
  have hn : ∀ i, i ≠ 3 → i ≠ 114 + p → gu (gu g (114 + p) (g (114 + p) - Int32.ofNat a)) 3 (g 3 + Int32.ofNat a) i = g i := fun i a b => by rw [gu_n a, gu_n b]
  have hcp : c p ≤ 120 := by
    have : p = 0 ∨ p = 1 ∨ p = 2 ∨ p = 3 ∨ p = 4 ∨ p = 5 := by omega
    rcases this with rfl | rfl | rfl | rfl | rfl | rfl <;> omega
  rw [q1 p hp, i_le (by omega) (by omega)] at ha
  obtain ⟨c', r1, r2, -⟩ := C_give hp q1 q3 ha
  refine ⟨ok_c2 h1 fun i hi => hn i (by omega) (by omega), z_congr h2 (hn 0 (by omega) (by omega)) fun i _ _ => hn i (by omega) (by omega), E_congr h3 fun i _ => hn i (by omega) (by omega), D_congr h4 fun i _ _ => hn i (by omega) (by omega), ⟨c', f + a, fun q hq => ?_, ?_, by omega⟩, S_congr h6 fun i _ _ => hn i (by omega) (by omega), U_congr h7 fun i _ => hn i (by omega) (by omega)⟩
  · rw [gu_n (by omega)]; exact r1 q hq
  · rw [gu_s, q2, i_add]
theorem E_set {g' : Nat → Int32} {e : Nat} (h : iE g) (he : e < 12) (hg : ∀ i, i ≠ 42 + e → i ≠ 102 + e → (30 ≤ i ∧ i < 54) ∨ (102 ≤ i ∧ i < 114) → g' i = g i) (h42 : fg 9 (g' (42 + e))) (h102 : fg 3 (g' (102 + e))) : iE g' := fun j hj => by
  obtain ⟨a1, a2, a3⟩ := h j hj
  by_cases hje : j = e
  · subst hje
    rw [hg (30 + j) (by omega) (by omega) (by omega)]
    exact ⟨a1, h42, h102⟩
  · rw [hg (30 + j) (by omega) (by omega) (by omega), hg (42 + j) (by omega) (by omega) (by omega), hg (102 + j) (by omega) (by omega) (by omega)]
    exact ⟨a1, a2, a3⟩
theorem z_set {g' : Nat → Int32} {e : Nat} (h : zOK g) (he : e < cnt g) (h0 : g' 0 = g 0) (hg : ∀ i, 6 ≤ i → i < 114 → (i - 6) % 12 ≠ e → g' i = g i) : zOK g' := fun b j q1 q2 q3 q4 q5 => by
  have hc : cnt g' = cnt g := by unfold cnt; rw [h0]
  rw [hg _ (by omega) (by omega) (by omega)]
  exact h b j q1 q2 q3 (by omega) q5
theorem GI_mend {k t x v : Int32} {g' : Nat → Int32} (h : GI N g) (hx : isL x) (ho : sMend g k t x (.inr (v, g'))) : GI N g' := by
  rcases ho with ⟨-, w⟩ | ⟨e, he, ⟨-, w⟩ | ⟨u1, ⟨-, w⟩ | ⟨u2, w⟩⟩⟩
  · exact nomatch w
  · exact nomatch w
  · exact nomatch w
  · injection w with w; injection w with w1 w2
    subst w2
    have hx0 : ¬ x < 0 := fun w => hx.1 (by
      rw [Int32.lt_iff_toInt_lt] at w ⊢
      have z0 : (0 : Int32).toInt = 0 := rfl
      have z1 : (1 : Int32).toInt = 1 := rfl
      omega)
    obtain ⟨n, hn9, rfl⟩ := i_of (n := 9) hx0 hx.2 (by omega)
    have h12 := h.1.1.1
    have hec := he.1
    obtain ⟨-, -, -, hd6, -⟩ := h.1.2 e hec
    obtain ⟨p1, p2, p3, p4, p5, p6, p7⟩ := GI_pay h hd6 u2 (by omega)
    obtain ⟨-, ⟨m, hm9, hm⟩, a3⟩ := h.2.2.1 e (by omega)
    rw [hm, i_le (by omega) (by omega)] at u1
    unfold menG
    have hcc : cnt (gu (gu g (114 + dOf g e) (g (114 + dOf g e) - Int32.ofNat n)) 3 (g 3 + Int32.ofNat n)) = cnt g := by
      unfold cnt
      rw [gu_n (by omega), gu_n (by omega)]
    refine ⟨ok_congr p1 fun i hi => gu_n (by omega), z_set (e := e) p2 (by omega) (gu_n (by omega)) fun i _ _ _ => gu_n (by omega), E_set (e := e) p3 (by omega) (fun i q _ _ => gu_n q) ?_ ?_, D_congr p4 fun i _ _ => gu_n (by omega), C_congr p5 (gu_n (by omega)) fun i _ _ => gu_n (by omega), S_congr p6 fun i _ _ => gu_n (by omega), U_congr p7 fun i _ => gu_n (by omega)⟩
    · rw [gu_s, hm, i_sub u1]
      exact ⟨m - n, by omega, rfl⟩
    · rw [gu_n (by omega), gu_n (by omega), gu_n (by omega)]
      exact a3
theorem GI_lend {k t fee v : Int32} {to : Nat} {g' : Nat → Int32} (h : GI N g) (hf : isE fee) (hto : to < 6) (ho : sLend g k t to fee (.inr (v, g'))) : GI N g' := by
  rcases ho with ⟨-, w⟩ | ⟨e, he, ⟨-, w⟩ | ⟨u0, ⟨-, w⟩ | ⟨u1, ⟨-, w⟩ | ⟨u2, w⟩⟩⟩⟩
  · exact nomatch w
  · exact nomatch w
  · exact nomatch w
  · exact nomatch w
  · injection w with w; injection w with w1 w2
    subst w2
    obtain ⟨n, hn9, rfl⟩ := i_of (n := 9) hf.1 hf.2 (by omega)
    obtain ⟨h1, h2, h3, h4, ⟨c, f, q1, q2, q3⟩, h6, h7⟩ := h
    have h12 := h1.1.1
    have hec := he.1
    obtain ⟨-, -, ⟨ho6, -⟩, -⟩ := h1.2 e hec
    have hct : c to ≤ 120 := by
      have : to = 0 ∨ to = 1 ∨ to = 2 ∨ to = 3 ∨ to = 4 ∨ to = 5 := by omega
      rcases this with rfl | rfl | rfl | rfl | rfl | rfl <;> omega
    rw [q1 to hto, i_le (by omega) (by omega)] at u2
    obtain ⟨c1, r1, r2, -⟩ := C_give hto q1 q3 u2
    obtain ⟨c2, s1, s2⟩ := C_take (a := n) ho6 r1 r2
    have hn : ∀ i, i ≠ 114 + to → i ≠ 114 + oOf g e → i ≠ 66 + e → i ≠ 102 + e → i ≠ 4 → lenG g e to (oOf g e) (Int32.ofNat n) i = g i := fun i a1 a2 a3 a4 a5 => by
      unfold lenG
      rw [gu_n a5, gu_n a4, gu_n a3, gu_n a2, gu_n a1]
    have hne : 114 + oOf g e ≠ 114 + to := by omega
    obtain ⟨a1, a2, a3⟩ := h3 e (by omega)
    have hh : lenG g e to (oOf g e) (Int32.ofNat n) (66 + e) = Int32.ofNat to := by
      unfold lenG
      rw [gu_n (by omega), gu_n (by omega), gu_s]
    refine ⟨?_, z_set (e := e) h2 hec (hn 0 (by omega) (by omega) (by omega) (by omega) (by omega)) fun i _ _ _ => hn i (by omega) (by omega) (by omega) (by omega) (by omega), E_set (e := e) h3 (by omega) (fun i _ q2 q3 => hn i (by omega) (by omega) (by omega) q2 (by omega)) ?_ ?_, D_congr h4 fun i _ _ => hn i (by omega) (by omega) (by omega) (by omega) (by omega), ⟨c2, f, fun q hq => ?_, ?_, s2⟩, S_congr h6 fun i _ _ => hn i (by omega) (by omega) (by omega) (by omega) (by omega), U_congr h7 fun i _ => hn i (by omega) (by omega) (by omega) (by omega) (by omega)⟩
    · have hl : gOK (gu (lenG g e to (oOf g e) (Int32.ofNat n)) 4 (g 4)) := ok_D (e := e) h1 hto (by rw [gu_n (by omega)]; exact hh) (fun i hi hne => by
        by_cases c4 : i = 4
        · subst c4; exact gu_s
        · rw [gu_n c4]; exact hn i (by omega) (by omega) hne (by omega) c4) (by omega)
      exact ok_c2 hl fun i hi => (gu_n (by omega)).symm
    · rw [hn _ (by omega) (by omega) (by omega) (by omega) (by omega)]; exact a2
    · unfold lenG
      rw [gu_n (by omega), gu_s]
      exact ⟨1, by omega, rfl⟩
    · have := s1 q hq
      rw [gu_n (g := g) hne] at this
      unfold lenG
      rw [gu_n (by omega), gu_n (by omega), gu_n (by omega)]
      exact this
    · rw [hn 3 (by omega) (by omega) (by omega) (by omega) (by omega)]; exact q2
end INV
