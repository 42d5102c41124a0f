/-! what the numbers always are: entering, striking out, using, a day's end -/
set_option maxRecDepth 100000
theorem str_11 {g : Nat → Int32} {e b : Nat} (h1 : b % 12 = 6) (h2 : 6 ≤ b) (h3 : b ≤ 102) (he : e < 12) : strG g e (b + 11) = 0 := by
  have hm : (b + 11 - 6) % 12 = 11 := by omega
  unfold strG
  rw [if_neg (by omega), hm, if_pos ⟨by omega, by omega, by omega⟩, if_neg (by omega)]
theorem nS_str {u : Nat → Nat} {e : Nat} (he : e < 12) : nS (fun i => if i < 11 then u (if e ≤ i then i + 1 else i) else 0) 12 ≤ nS u 12 := by
  have : e = 0 ∨ e = 1 ∨ e = 2 ∨ e = 3 ∨ e = 4 ∨ e = 5 ∨ e = 6 ∨ e = 7 ∨ e = 8 ∨ e = 9 ∨ e = 10 ∨ e = 11 := by omega
  rcases this with rfl | rfl | rfl | rfl | rfl | rfl | rfl | rfl | rfl | rfl | rfl | rfl <;> (simp [nS]; try omega)
theorem nS_add {u u' : Nat → Nat} {n e : Nat} (he : e < n) (h : u' e = u e + 1) (ho : ∀ i, i ≠ e → u' i = u i) : nS u' n = nS u n + 1 := by
  have key : ∀ m, (m ≤ e → nS u' m = nS u m) ∧ (e < m → nS u' m = nS u m + 1) := by
    intro m
    induction m with
    | zero => exact ⟨fun _ => rfl, fun w => by omega⟩
    | succ m ih =>
      refine ⟨fun w => ?_, fun w => ?_⟩
      · show nS u' m + u' m = nS u m + u m
        rw [ih.1 (by omega), ho m (by omega)]
      · show nS u' m + u' m = nS u m + u m + 1
        by_cases hm : m = e
        · subst hm
          rw [ih.1 (by omega), h]
          omega
        · rw [ih.2 (by omega), ho m hm]
          omega
  exact (key n).2 he
section INV2
variable {N : Nat} {g : Nat → Int32}
theorem lev_fg {x : Int32} (hx : isL x) : fg 9 x := fg_l (m := 9) (fun w => hx.1 (by
  rw [Int32.lt_iff_toInt_lt] at w ⊢
  have z0 : (0 : Int32).toInt = 0 := rfl
  have z1 : (1 : Int32).toInt = 1 := rfl
  omega)) hx.2 (by omega)
theorem GI_enter {p k t : Nat} {qu v : Int32} {g' : Nat → Int32} (h : GI N g) (hp : p < 6) (hk : k < 4) (ht : t < 10) (hq : isL qu) (ho : sEnter g (Int32.ofNat p) (Int32.ofNat k) (Int32.ofNat t) qu (.inr (v, g'))) : GI N g' := by
  rcases ho with ⟨-, w⟩ | ⟨-, e, -, w⟩ | ⟨hne, -, w⟩
  · exact nomatch w
  · exact nomatch w
  · injection w with w; injection w with w1 hg'
    obtain ⟨h1, h2, h3, h4, h5, h6, h7⟩ := h
    have h12 := h1.1.1
    have r0 : g' 0 = Int32.ofNat (cnt g + 1) := by rw [hg', gu_s, h1.1.2, i_succ]
    have hcn : cnt g' = cnt g + 1 := by
      show (g' 0).toNatClampNeg = _
      rw [r0, i_nat (by omega)]
    have rn : ∀ i, i ≠ 0 → i ≠ 6 + cnt g → i ≠ 18 + cnt g → i ≠ 30 + cnt g → i ≠ 54 + cnt g → i ≠ 66 + cnt g → g' i = g i := fun i a1 a2 a3 a4 a5 a6 => by
      rw [hg', gu_n a1, gu_n a6, gu_n a5, gu_n a4, gu_n a3, gu_n a2]
    have r6 : g' (6 + cnt g) = Int32.ofNat k := by rw [hg']; simp (disch := omega) only [gu_s, gu_n]
    have r18 : g' (18 + cnt g) = Int32.ofNat t := by rw [hg']; simp (disch := omega) only [gu_s, gu_n]
    have r30 : g' (30 + cnt g) = qu := by rw [hg']; simp (disch := omega) only [gu_s, gu_n]
    have r54 : g' (54 + cnt g) = Int32.ofNat p := by rw [hg']; simp (disch := omega) only [gu_s, gu_n]
    have r66 : g' (66 + cnt g) = Int32.ofNat p := by rw [hg']; simp (disch := omega) only [gu_s, gu_n]
    refine ⟨⟨⟨by omega, by rw [hcn]; exact r0⟩, fun i hi => ?_⟩, fun b j q1 q2 q3 q4 q5 => ?_, fun j hj => ?_, D_congr h4 fun i _ _ => rn i (by omega) (by omega) (by omega) (by omega) (by omega) (by omega), C_congr h5 (rn 3 (by omega) (by omega) (by omega) (by omega) (by omega) (by omega)) fun i _ _ => rn i (by omega) (by omega) (by omega) (by omega) (by omega) (by omega), S_congr h6 fun i _ _ => rn i (by omega) (by omega) (by omega) (by omega) (by omega) (by omega), U_congr h7 fun i _ => rn i (by omega) (by omega) (by omega) (by omega) (by omega) (by omega)⟩
    · rw [hcn] at hi
      unfold kOf tOf oOf dOf
      by_cases hin : i = cnt g
      · subst hin
        rw [r6, r18, r54, r66, i_nat (by omega), i_nat (by omega), i_nat (by omega)]
        exact ⟨⟨hk, rfl⟩, ⟨ht, rfl⟩, ⟨hp, rfl⟩, ⟨hp, rfl⟩⟩
      · rw [rn (6 + i) (by omega) (by omega) (by omega) (by omega) (by omega) (by omega), rn (18 + i) (by omega) (by omega) (by omega) (by omega) (by omega) (by omega), rn (54 + i) (by omega) (by omega) (by omega) (by omega) (by omega) (by omega), rn (66 + i) (by omega) (by omega) (by omega) (by omega) (by omega) (by omega)]
        exact h1.2 i (by omega)
    · rw [rn (b + j) (by omega) (by omega) (by omega) (by omega) (by omega) (by omega)]
      exact h2 b j q1 q2 q3 (by omega) q5
    · obtain ⟨a1, a2, a3⟩ := h3 j hj
      rw [rn (42 + j) (by omega) (by omega) (by omega) (by omega) (by omega) (by omega), rn (102 + j) (by omega) (by omega) (by omega) (by omega) (by omega) (by omega)]
      refine ⟨?_, a2, a3⟩
      by_cases hj2 : j = cnt g
      · subst hj2
        rw [r30]; exact lev_fg hq
      · rw [rn (30 + j) (by omega) (by omega) (by omega) (by omega) (by omega) (by omega)]
        exact a1
theorem GI_strike {k t v : Int32} {g' : Nat → Int32} (h : GI N g) (ho : sStrike g k t (.inr (v, g'))) : GI N g' := by
  rcases ho with ⟨-, w⟩ | ⟨e, he, ⟨-, w⟩ | ⟨-, w⟩⟩
  · exact nomatch w
  · exact nomatch w
  · injection w with w; injection w with w1 w2
    subst w2
    obtain ⟨h1, h2, h3, h4, h5, h6, ⟨u, vv, q1, q2, q3, q4⟩⟩ := h
    have h12 := h1.1.1
    have hec := he.1
    have hg0 : strG g e 0 = Int32.ofNat (cnt g - 1) := by
      show g 0 - 1 = _
      rw [h1.1.2, show (1 : Int32) = Int32.ofNat 1 from rfl, i_sub (by omega)]
    have hcn : cnt (strG g e) = cnt g - 1 := by
      show (strG g e 0).toNatClampNeg = _
      rw [hg0, i_nat (by omega)]
    have hf : ∀ i, (1 ≤ i ∧ i < 6) ∨ 114 ≤ i → strG g e i = g i := fun i hi => by
      unfold strG
      rw [if_neg (by omega), if_neg (by omega)]
    refine ⟨⟨⟨by omega, by rw [hcn]; exact hg0⟩, fun i hi => ?_⟩, fun b j a1 a2 a3 a4 a5 => ?_, fun j hj => ?_, D_congr h4 fun i _ _ => hf i (by omega), C_congr h5 (hf 3 (by omega)) fun i _ _ => hf i (by omega), S_congr h6 fun i _ _ => hf i (by omega), ⟨fun i => if i < 11 then u (if e ≤ i then i + 1 else i) else 0, vv, fun j hj => ?_, fun s hs => by rw [hf _ (by omega)]; exact q2 s hs, Nat.le_trans (nS_str (by omega)) q3, q4⟩⟩
    · rw [hcn] at hi
      unfold kOf tOf oOf dOf
      rw [str_f (b := 6) (by omega) (by omega) (by omega) (by omega), str_f (b := 18) (by omega) (by omega) (by omega) (by omega), str_f (b := 54) (by omega) (by omega) (by omega) (by omega), str_f (b := 66) (by omega) (by omega) (by omega) (by omega)]
      exact h1.2 _ (by split <;> omega)
    · rcases Nat.lt_or_ge j 11 with w | w
      · rw [str_f a1 a2 a3 w, if_pos (by omega)]
        exact h2 b (j + 1) a1 a2 a3 (by omega) (by omega)
      · have : j = 11 := by omega
        subst this
        exact str_11 a1 a2 a3 (by omega)
    · rcases Nat.lt_or_ge j 11 with w | w
      · rw [str_f (b := 30) (by omega) (by omega) (by omega) w, str_f (b := 42) (by omega) (by omega) (by omega) w, str_f (b := 102) (by omega) (by omega) (by omega) w]
        exact h3 _ (by split <;> omega)
      · have : j = 11 := by omega
        subst this
        rw [str_11 (b := 30) (by omega) (by omega) (by omega) (by omega), str_11 (b := 42) (by omega) (by omega) (by omega) (by omega), str_11 (b := 102) (by omega) (by omega) (by omega) (by omega)]
        exact ⟨⟨0, by omega, rfl⟩, ⟨0, by omega, rfl⟩, ⟨0, by omega, rfl⟩⟩
    · dsimp only
      rcases Nat.lt_or_ge j 11 with w | w
      · rw [str_f (b := 78) (by omega) (by omega) (by omega) w, if_pos w]
        exact q1 _ (by split <;> omega)
      · have : j = 11 := by omega
        subst this
        rw [str_11 (b := 78) (by omega) (by omega) (by omega) (by omega)]
        rfl
theorem GI_use {p k t s : Nat} {v : Int32} {g' : Nat → Int32} (h : GI N g) (hp : p < 6) (hk : k < 4) (ht : t < 10) (hs : s < 3) (ho : sUse g p k t s (.inr (v, g'))) : GI (N + 1) g' := by
  rcases ho with ⟨-, w⟩ | ⟨e, he, ⟨-, w⟩ | ⟨-, ⟨-, w⟩ | ⟨hov, d, is, hd, -, w⟩⟩⟩
  · exact nomatch w
  · exact nomatch w
  · exact nomatch w
  · injection w with w; injection w with w1 w2
    obtain ⟨h1, h2, h3, h4, h5, h6, ⟨u, vv, q1, q2, q3, q4⟩⟩ := h
    have h12 := h1.1.1
    have hec := he.1
    rw [use_eq hp hk ht hs (by omega)] at w2
    have hn : ∀ i, i < 42 ∨ (54 ≤ i ∧ i < 78) ∨ (102 ≤ i ∧ i < 120) ∨ (132 ≤ i ∧ i < 135) → g' i = g i := fun i hi => by
      rw [w2]
      simp (disch := omega) only [gu_n]
    obtain ⟨a1, ⟨m, hm9, hm⟩, a3⟩ := h3 e (by omega)
    obtain ⟨⟨hk4, hk'⟩, ⟨ht10, ht'⟩, -⟩ := h1.2 e hec
    have et : tOf g e = t := by
      have := ht'.symm.trans he.2.2.1
      rw [i_eq (by omega) (by omega)] at this
      exact this
    have hz0 : cnt g' = cnt g := by
      unfold cnt
      rw [hn 0 (by omega)]
    have h42 : ∀ j, j < 12 → j ≠ e → g' (42 + j) = g (42 + j) := fun j hj hje => by
      rw [w2]
      simp (disch := omega) only [gu_n]
    have h78 : ∀ j, j < 12 → j ≠ e → g' (78 + j) = g (78 + j) := fun j hj hje => by
      rw [w2]
      simp (disch := omega) only [gu_n]
    have h90 : ∀ j, j < 12 → j ≠ e → g' (90 + j) = g (90 + j) := fun j hj hje => by
      rw [w2]
      simp (disch := omega) only [gu_n]
    have h42e : g' (42 + e) = (if g (42 + e) + d ≤ 9 then g (42 + e) + d else 9) := by
      rw [w2]
      simp (disch := omega) only [gu_s, gu_n]
    have h78e : g' (78 + e) = g (78 + e) + 1 := by
      rw [w2]
      simp (disch := omega) only [gu_s, gu_n]
    have h135 : ∀ r, r < 3 → r ≠ s → g' (135 + r) = g (135 + r) := fun r hr hrs => by
      rw [w2]
      simp (disch := omega) only [gu_n]
    have h135s : g' (135 + s) = g (135 + s) + 1 := by
      rw [w2]
      simp (disch := omega) only [gu_s, gu_n]
    have h141 : ∀ r, r < 10 → r ≠ t → g' (141 + r) = g (141 + r) := fun r hr hrs => by
      rw [w2]
      simp (disch := omega) only [gu_n]
    have h141t : g' (141 + t) = g (141 + t) + (if k = 0 then 1 else 0) := by
      rw [w2]
      simp (disch := omega) only [gu_s, gu_n]
    have hfd : fg 9 (g' (42 + e)) := by
      rw [h42e, hm]
      by_cases w9 : Int32.ofNat m + d ≤ 9
      · rw [if_pos w9]
        rcases hd with ⟨-, rfl⟩ | ⟨-, rfl⟩
        · rw [show (1 : Int32) = Int32.ofNat 1 from rfl, i_add, show (9 : Int32) = Int32.ofNat 9 from rfl, i_le (by omega) (by omega)] at w9
          exact ⟨m + 1, w9, by rw [show (1 : Int32) = Int32.ofNat 1 from rfl, i_add]⟩
        · rw [show (2 : Int32) = Int32.ofNat 2 from rfl, i_add, show (9 : Int32) = Int32.ofNat 9 from rfl, i_le (by omega) (by omega)] at w9
          exact ⟨m + 2, w9, by rw [show (2 : Int32) = Int32.ofNat 2 from rfl, i_add]⟩
      · rw [if_neg w9]
        exact ⟨9, by omega, rfl⟩
    have hv3 : ∀ {a b : Nat → Nat}, a s = b s + 1 → (∀ r, r ≠ s → a r = b r) → a 0 + a 1 + a 2 = b 0 + b 1 + b 2 + 1 := fun {a b} e1 e2 => by
      have : s = 0 ∨ s = 1 ∨ s = 2 := by omega
      rcases this with rfl | rfl | rfl
      · have := e2 1 (by omega); have := e2 2 (by omega); omega
      · have := e2 0 (by omega); have := e2 2 (by omega); omega
      · have := e2 0 (by omega); have := e2 1 (by omega); omega
    have hu1 := nS_add (u := u) (u' := un u e (u e + 1)) (n := 12) (e := e) (by omega) un_s fun i hi => un_n hi
    have hv1 := hv3 (a := un vv s (vv s + 1)) (b := vv) un_s fun i hi => un_n hi
    refine ⟨ok_congr h1 fun i hi => hn i (by omega), fun b j b1 b2 b3 b4 b5 => ?_, fun j hj => ?_, fun r hr => ?_, C_congr h5 (hn 3 (by omega)) fun i _ _ => hn i (by omega), S_congr h6 fun i _ _ => hn i (by omega), ⟨un u e (u e + 1), un vv s (vv s + 1), fun j hj => ?_, fun r hr => ?_, by omega, by omega⟩⟩
    · rw [hz0] at b4
      have hb := h2 b j b1 b2 b3 b4 b5
      have : b = 6 ∨ b = 18 ∨ b = 30 ∨ b = 42 ∨ b = 54 ∨ b = 66 ∨ b = 78 ∨ b = 90 ∨ b = 102 := by omega
      rcases this with rfl | rfl | rfl | rfl | rfl | rfl | rfl | rfl | rfl
      · rw [hn _ (by omega)]; exact hb
      · rw [hn _ (by omega)]; exact hb
      · rw [hn _ (by omega)]; exact hb
      · rw [h42 j b5 (by omega)]; exact hb
      · rw [hn _ (by omega)]; exact hb
      · rw [hn _ (by omega)]; exact hb
      · rw [h78 j b5 (by omega)]; exact hb
      · rw [h90 j b5 (by omega)]; exact hb
      · rw [hn _ (by omega)]; exact hb
    · obtain ⟨c1, c2, c3⟩ := h3 j hj
      rw [hn (30 + j) (by omega), hn (102 + j) (by omega)]
      refine ⟨c1, ?_, c3⟩
      by_cases hje : j = e
      · subst hje; exact hfd
      · rw [h42 j hj hje]; exact c2
    · obtain ⟨n, hn2, hnr⟩ := h4 r hr
      by_cases hrt : r = t
      · subst hrt
        rw [h141t, hnr]
        by_cases hk0 : k = 0
        · rw [if_pos hk0]
          have hle : g (141 + r) ≤ 1 := Classical.byContradiction fun w => hov ⟨by rw [he.2.1, hk0]; rfl, by rw [et]; exact w⟩
          rw [hnr, show (1 : Int32) = Int32.ofNat 1 from rfl, i_le (by omega) (by omega)] at hle
          exact ⟨n + 1, by omega, i_succ n⟩
        · rw [if_neg hk0, Int32.add_zero]
          exact ⟨n, hn2, rfl⟩
      · rw [h141 r hr hrt]
        exact ⟨n, hn2, hnr⟩
    · by_cases hje : j = e
      · subst hje
        rw [h78e, un_s, q1 j hj, i_succ]
      · rw [h78 j hj hje, un_n hje]
        exact q1 j hj
    · by_cases hrs : r = s
      · subst hrs
        rw [h135s, un_s, q2 r hr, i_succ]
      · rw [h135 r hr hrs, un_n hrs]
        exact q2 r hr
theorem GI_day0 (h : GI N g) : GI N (day0 g) := by
  obtain ⟨h1, h2, h3, h4, h5, h6, h7⟩ := h
  have hn : ∀ i, ¬ sD i → day0 g i = g i := fun i hi => day0_o hi
  refine ⟨ok_c2 h1 fun i hi => hn i (by omega), z_congr h2 (hn 0 (by omega)) fun i _ _ => hn i (by omega), E_congr h3 fun i _ => hn i (by omega), fun t ht => ⟨0, by omega, ?_⟩, C_congr h5 (hn 3 (by omega)) fun i _ _ => hn i (by omega), S_congr h6 fun i _ _ => hn i (by omega), U_congr h7 fun i _ => hn i (by omega)⟩
  unfold day0
  rw [gu_n (by omega), gu_n (by omega)]
  unfold dogG
  rw [if_pos (by omega)]
  rfl
theorem GI_dayE {c : Int32} {e : Nat} (h : GI N g) (he : e < cnt g) : GI N (dayE (g, c) e).1 ∧ cnt (dayE (g, c) e).1 = cnt g := by
  have h12 := h.1.1.1
  obtain ⟨a1, a2, ⟨n, hn3, hn⟩⟩ := h.2.2.1 e (by omega)
  obtain ⟨-, -, -, hd6, -⟩ := h.1.2 e he
  have hag : agG g e (102 + e) = g (102 + e) + (if g (102 + e) ≤ 0 then 0 else 1) := gu_s
  have hc4 := age4 (v := g (102 + e)) ⟨n, hn3, hn⟩
  have hcc : cnt (dayE (g, c) e).1 = cnt g := by
    unfold cnt
    rw [dayE_o hd6 (by omega) (by omega) (by omega) (by omega)]
  refine ⟨?_, hcc⟩
  unfold dayE
  dsimp only
  rw [hag]
  by_cases w : g (102 + e) = 3
  · rw [if_pos (hc4.mpr w)]
    have hdo : dOf (agG g e) e = dOf g e := by
      unfold dOf agG
      rw [gu_n (by omega)]
    rw [hdo]
    have eq : bakG (payG (agG g e) (dOf g e)) e = bakG (payG g (dOf g e)) e := by
      have hp : ∀ i, i ≠ 102 + e → payG (agG g e) (dOf g e) i = payG g (dOf g e) i := fun i hi => by
        have a4 : agG g e (114 + dOf g e) = g (114 + dOf g e) := gu_n (by omega)
        have a5 : agG g e 3 = g 3 := gu_n (by omega)
        unfold payG
        rw [a4, a5]
        by_cases i3 : i = 3
        · subst i3; rw [gu_s, gu_s]
        rw [gu_n i3, gu_n i3]
        by_cases i4 : i = 114 + dOf g e
        · subst i4; rw [gu_s, gu_s]
        rw [gu_n i4, gu_n i4]
        exact gu_n hi
      funext i
      unfold bakG
      by_cases i1 : i = 102 + e
      · subst i1; rw [gu_s, gu_s]
      rw [gu_n i1, gu_n i1]
      by_cases i2 : i = 66 + e
      · subst i2; rw [gu_s, gu_s, hp _ (by omega)]
      rw [gu_n i2, gu_n i2]
      exact hp i i1
    rw [eq]
    have hpay : GI N (payG g (dOf g e)) := by
      obtain ⟨cc, f, q1, q2, q3⟩ := h.2.2.2.2.1
      have hcp : cc (dOf g e) ≤ 120 := by
        have : dOf g e = 0 ∨ dOf g e = 1 ∨ dOf g e = 2 ∨ dOf g e = 3 ∨ dOf g e = 4 ∨ dOf g e = 5 := by omega
        rcases this with w | w | w | w | w | w <;> rw [w] <;> omega
      have hq := q1 _ hd6
      unfold payG
      by_cases w2 : 2 ≤ g (114 + dOf g e)
      · rw [if_pos w2]
        exact GI_pay (a := 2) h hd6 w2 (by omega)
      · rw [if_neg w2]
        have := GI_pay (a := cc (dOf g e)) h hd6 (by rw [hq]; exact Int32.le_refl _) hcp
        rw [← hq] at this
        exact this
    refine GI_bak hpay ?_
    have : cnt (payG g (dOf g e)) = cnt g := by
      unfold cnt payG
      rw [gu_n (by omega), gu_n (by omega)]
    omega
  · rw [if_neg fun u => w (hc4.mp u)]
    show GI N (agG g e)
    obtain ⟨h1, h2, h3, h4, h5, h6, h7⟩ := h
    have hn' : ∀ i, i ≠ 102 + e → agG g e i = g i := fun i hi => gu_n hi
    refine ⟨ok_congr h1 fun i hi => hn' i (by omega), z_set (e := e) h2 he (hn' 0 (by omega)) fun i _ _ _ => hn' i (by omega), E_set (e := e) h3 (by omega) (fun i _ q _ => hn' i q) ?_ ?_, D_congr h4 fun i _ _ => hn' i (by omega), C_congr h5 (hn' 3 (by omega)) fun i _ _ => hn' i (by omega), S_congr h6 fun i _ _ => hn' i (by omega), U_congr h7 fun i _ => hn' i (by omega)⟩
    · rw [hn' _ (by omega)]; exact a2
    · rw [hag, hn]
      rw [hn] at w
      have : n = 0 ∨ n = 1 ∨ n = 2 ∨ n = 3 := by omega
      rcases this with rfl | rfl | rfl | rfl
      · exact ⟨0, by omega, by decide⟩
      · exact ⟨2, by omega, by decide⟩
      · exact ⟨3, by omega, by decide⟩
      · exact absurd rfl w
theorem GI_dayN (h : GI N g) : ∀ n, n ≤ cnt g → GI N (dayN g n).1 ∧ cnt (dayN g n).1 = cnt g := by
  intro n
  induction n with
  | zero =>
    intro _
    refine ⟨GI_day0 h, ?_⟩
    unfold cnt
    rw [show (dayN g 0).1 = day0 g from rfl, day0_o (by omega)]
  | succ n ih =>
    intro hn
    obtain ⟨h1, h2⟩ := ih (by omega)
    obtain ⟨h3, h4⟩ := GI_dayE (c := (dayN g n).2) h1 (e := n) (by omega)
    exact ⟨h3, h4.trans h2⟩
theorem GI_day {v : Int32} {g' : Nat → Int32} (h : GI N g) (ho : sDay g (.inr (v, g'))) : GI N g' := by
  injection ho with w; injection w with w1 w2
  subst w2
  obtain ⟨⟨h1, h2, h3, h4, h5, h6, h7⟩, -⟩ := GI_dayN h _ (Nat.le_refl _)
  exact ⟨ok_c2 h1 fun i hi => gu_n (by omega), z_congr h2 (gu_n (by omega)) fun i _ _ => gu_n (by omega), E_congr h3 fun i _ => gu_n (by omega), D_congr h4 fun i _ _ => gu_n (by omega), C_congr h5 (gu_n (by omega)) fun i _ _ => gu_n (by omega), S_congr h6 fun i _ _ => gu_n (by omega), U_congr h7 fun i _ => gu_n (by omega)⟩
end INV2
