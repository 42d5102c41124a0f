/-! a ledger put together from its pieces -/
set_option maxRecDepth 100000
/-- what lies where -/
def cA (a m d as ap : Nat) (sa ha ma pa : Nat → Nat) : Nat → Nat := fun i => if i < 5 then (if i = 0 then a else if i = 1 then m else if i = 2 then d else if i = 3 then as else ap) else if i < 8 then sa (i - 5) else if i < 11 then ha (i - 8) else if i < 14 then ma (i - 11) else pa (i - 14)
/-- its kinds -/
def cKd (i : Nat) : Nat := if i < 5 then (if i = 0 then 1 else if i = 1 then 13 else if i = 2 then 12 else if i = 3 then 107 else 108) else if i < 8 then 2 else if i < 11 then 14 else if i < 14 then 12 else 3
theorem cKd_eq : ∀ i, i < 20 → ∀ j, j < 20 → cKd i = cKd j → i = j ∨ (5 ≤ i ∧ i < 8 ∧ 5 ≤ j ∧ j < 8) ∨ (8 ≤ i ∧ i < 11 ∧ 8 ≤ j ∧ j < 11) ∨ (11 ≤ i ∧ i < 14 ∧ 11 ≤ j ∧ j < 14) ∨ (14 ≤ i ∧ 14 ≤ j) ∨ (i = 2 ∧ 11 ≤ j ∧ j < 14) ∨ (j = 2 ∧ 11 ≤ i ∧ i < 14) := by
  intro i hi j hj h
  unfold cKd at h
  repeat' split at h
  all_goals omega
/-- a school's pieces -/
def scF (G : gE) (z : hSt) (g : Nat → Int32) (f : Nat → Option Nat) (sa ha ma bs : Nat → Nat) (s : Nat) : Prop := f s = some (sa s) ∧ z.1 (sa s) = some (.inr (2, [va_rf (some (ha s)), .int (g (132 + s)), .int (g (135 + s)), .int (g (138 + s))])) ∧ (bs s ≤ sa s ∧ bs s ≤ ha s ∧ bs s ≤ ma s) ∧ bs s ≤ bs (s + 1) ∧ (sa s < bs (s + 1) ∧ ha s < bs (s + 1) ∧ ma s < bs (s + 1)) ∧ ∃ N, HS G z (fun x => bs s ≤ x ∧ x < bs (s + 1)) (ha s) (ma s) (cntB (hb g s) 240) N (fun x => hb g s x = true)
def pcF (z : hSt) (g : Nat → Int32) (lo : Nat) (f : Nat → Option Nat) (pa : Nat → Nat) (p : Nat) : Prop := f p = some (pa p) ∧ z.1 (pa p) = some (.inr (3, [.int (g (114 + p)), .int (g (120 + p)), .int (g (126 + p))])) ∧ lo ≤ pa p
theorem scF.ev {G : gE} {W : Nat → Nat → Prop} {c : Nat} {z z' : hSt} {g : Nat → Int32} {f : Nat → Option Nat} {sa ha ma bs : Nat → Nat} {s : Nat} (h : scF G z g f sa ha ma bs s) (he : ev G W c z z') (hk : Wk W) (h2 : ∀ b, bs s ≤ b → b < bs (s + 1) → ¬ W b 2 ∧ ¬ W b 14 ∧ ∀ k, mkd k → ¬ W b k) : scF G z' g f sa ha ma bs s := by
  obtain ⟨q1, q2, q3, q4, q5, N, q6⟩ := h
  exact ⟨q1, he.o q2 (h2 _ q3.1 q5.1).1 (by decide) (by decide), q3, q4, q5, N, q6.ev he hk (fun a k ha hk => (h2 a ha.1 ha.2).2.2 k hk) (h2 _ q3.2.1 q5.2.1).2.1⟩
theorem pcF.ev {G : gE} {W : Nat → Nat → Prop} {c lo : Nat} {z z' : hSt} {g : Nat → Int32} {f : Nat → Option Nat} {pa : Nat → Nat} {p : Nat} (h : pcF z g lo f pa p) (he : ev G W c z z') (h2 : ¬ W (pa p) 3) : pcF z' g lo f pa p := by
  obtain ⟨q1, q2, q3⟩ := h
  exact ⟨q1, he.o q2 h2 (by decide) (by decide), q3⟩
theorem mono_in {f : Nat → Nat} {n : Nat} (h : ∀ s s', s < s' → s' < n → f s < f s') {s s' : Nat} (h1 : s < n) (h2 : s' < n) (e : f s = f s') : s = s' := by
  rcases Nat.lt_trichotomy s s' with w | w | w
  · have := h s s' w h2; omega
  · exact w
  · have := h s' s w h1; omega
/-- whose the address is -/
def cO' (d hx hd b1 b2 : Nat) : Nat → Nat := fun x => if x = d then 1 else if x < hx then 0 else if x < hd then 1 else if x < b1 then 2 else if x < b2 then 3 else 4
theorem mkLG {G : gE} {τ : hSt} {n0 a m d as ap lx hx hd : Nat} {sa ha ma bs pa : Nat → Nat} {f fp : Nat → Option Nat} {md : Int32} {es : List eT} {g : Nat → Int32} (hg : gOK g)
    (hL : τ.1 a = some (.inr (1, [va_rf (some m), va_rf (some d), va_rf (some as), va_rf (some ap), .int (g 1), .int (g 2 - 1), .int (g 3), .int (g 4), .int (g 5)])))
    (hM : LM G τ (fun x => (x = m ∨ lx ≤ x) ∧ x < hx) m md es) (hlen : es.length = cnt g) (hX : lgX τ n0 es g) (hnd : (es.map fun q => q.2.2.2).Nodup) (hD : lgD G τ (fun x => (x = d ∨ hx ≤ x) ∧ x < hd) d g)
    (has : τ.1 as = some (.inl (7, 3, .inr (.inr (.inr (.inr f)))))) (hap : τ.1 ap = some (.inl (8, 6, .inr (.inr (.inr (.inr fp))))))
    (hs : ∀ s, s < 3 → scF G τ g f sa ha ma bs s) (hb0 : bs 0 = hd) (hp : ∀ p, p < 6 → pcF τ g n0 fp pa p) (hpm : ∀ p p', p < p' → p' < 6 → pa p < pa p')
    (o1 : n0 ≤ a ∧ n0 ≤ m ∧ n0 ≤ d ∧ n0 ≤ as ∧ n0 ≤ ap) (o2 : m < lx ∧ d < lx ∧ lx ≤ hx ∧ hx ≤ hd) : ∃ o A, A 0 = a ∧ LG G τ n0 o A md es g := by
  obtain ⟨u1, u2, u3, u4, u5⟩ := o1
  obtain ⟨v1, v2, v3, v4⟩ := o2
  have b01 : bs 0 ≤ bs 1 := (hs 0 (by omega)).2.2.2.1
  have b12 : bs 1 ≤ bs 2 := (hs 1 (by omega)).2.2.2.1
  have b23 : bs 2 ≤ bs 3 := (hs 2 (by omega)).2.2.2.1
  have hm0 : ∃ e, τ.1 m = some e ∧ kd e = 13 := by
    obtain ⟨t, th, ⟨-, k0, k1, k3, h1⟩, -⟩ := hM
    exact ⟨_, h1, rfl⟩
  have hd0 : ∃ e, τ.1 d = some e ∧ kd e = 12 := by
    obtain ⟨pr, N, E, ⟨t, mdd, th, ⟨-, k0, k1, k3, h1⟩, -⟩, -⟩ := hD
    exact ⟨_, h1, rfl⟩
  have hmd : m ≠ d := by
    rintro rfl
    obtain ⟨e, h1, h2⟩ := hm0
    obtain ⟨e', h3, h4⟩ := hd0
    rw [h1] at h3
    cases h3
    omega
  have a0 : cA a m d as ap sa ha ma pa 0 = a := rfl
  have a1 : cA a m d as ap sa ha ma pa 1 = m := rfl
  have a2 : cA a m d as ap sa ha ma pa 2 = d := rfl
  have a3 : cA a m d as ap sa ha ma pa 3 = as := rfl
  have a4 : cA a m d as ap sa ha ma pa 4 = ap := rfl
  have a5 : ∀ s, s < 3 → cA a m d as ap sa ha ma pa (5 + s) = sa s := fun s h => by
    unfold cA
    rw [if_neg (by omega), if_pos (by omega), show 5 + s - 5 = s by omega]
  have a8 : ∀ s, s < 3 → cA a m d as ap sa ha ma pa (8 + s) = ha s := fun s h => by
    unfold cA
    rw [if_neg (by omega), if_neg (by omega), if_pos (by omega), show 8 + s - 8 = s by omega]
  have a11 : ∀ s, s < 3 → cA a m d as ap sa ha ma pa (11 + s) = ma s := fun s h => by
    unfold cA
    rw [if_neg (by omega), if_neg (by omega), if_neg (by omega), if_pos (by omega), show 11 + s - 11 = s by omega]
  have a14 : ∀ p, cA a m d as ap sa ha ma pa (14 + p) = pa p := fun p => by
    unfold cA
    rw [if_neg (by omega), if_neg (by omega), if_neg (by omega), if_neg (by omega), show 14 + p - 14 = p by omega]
  -- every place has its kind and lies from n0 on
  have key : ∀ i, i < 20 → (∃ e, τ.1 (cA a m d as ap sa ha ma pa i) = some e ∧ kd e = cKd i) ∧ n0 ≤ cA a m d as ap sa ha ma pa i := by
    intro i hi
    have : i = 0 ∨ i = 1 ∨ i = 2 ∨ i = 3 ∨ i = 4 ∨ (∃ s, s < 3 ∧ i = 5 + s) ∨ (∃ s, s < 3 ∧ i = 8 + s) ∨ (∃ s, s < 3 ∧ i = 11 + s) ∨ ∃ p, p < 6 ∧ i = 14 + p := by
      rcases Nat.lt_or_ge i 5 with w | w
      · omega
      · rcases Nat.lt_or_ge i 8 with w2 | w2
        · exact Or.inr (Or.inr (Or.inr (Or.inr (Or.inr (Or.inl ⟨i - 5, by omega, by omega⟩)))))
        · rcases Nat.lt_or_ge i 11 with w3 | w3
          · exact Or.inr (Or.inr (Or.inr (Or.inr (Or.inr (Or.inr (Or.inl ⟨i - 8, by omega, by omega⟩))))))
          · rcases Nat.lt_or_ge i 14 with w4 | w4
            · exact Or.inr (Or.inr (Or.inr (Or.inr (Or.inr (Or.inr (Or.inr (Or.inl ⟨i - 11, by omega, by omega⟩)))))))
            · exact Or.inr (Or.inr (Or.inr (Or.inr (Or.inr (Or.inr (Or.inr (Or.inr ⟨i - 14, by omega, by omega⟩)))))))
    have hbs : ∀ s, s < 3 → n0 ≤ bs s := fun s hs3 => by
      have : s = 0 ∨ s = 1 ∨ s = 2 := by omega
      rcases this with rfl | rfl | rfl <;> omega
    rcases this with rfl | rfl | rfl | rfl | rfl | ⟨s, h, rfl⟩ | ⟨s, h, rfl⟩ | ⟨s, h, rfl⟩ | ⟨p, h, rfl⟩
    · exact ⟨⟨_, hL, rfl⟩, u1⟩
    · exact ⟨hm0, u2⟩
    · exact ⟨hd0, u3⟩
    · exact ⟨⟨_, has, rfl⟩, u4⟩
    · exact ⟨⟨_, hap, rfl⟩, u5⟩
    · rw [a5 s h]
      obtain ⟨q1, q2, q3, q4, q5, N, q6⟩ := hs s h
      have := hbs s h
      refine ⟨⟨_, q2, ?_⟩, by omega⟩
      unfold cKd
      rw [if_neg (by omega), if_pos (by omega)]
      rfl
    · rw [a8 s h]
      obtain ⟨q1, q2, q3, q4, q5, N, q6⟩ := hs s h
      have := hbs s h
      refine ⟨⟨_, q6.1, ?_⟩, by omega⟩
      unfold cKd
      rw [if_neg (by omega), if_neg (by omega), if_pos (by omega)]
      rfl
    · rw [a11 s h]
      obtain ⟨q1, q2, q3, q4, q5, N, -, E, ⟨t, mdd, th, ⟨-, k0, k1, k3, h1⟩, -⟩, -⟩ := hs s h
      have := hbs s h
      refine ⟨⟨_, h1, ?_⟩, by omega⟩
      unfold cKd
      rw [if_neg (by omega), if_neg (by omega), if_neg (by omega), if_pos (by omega)]
      rfl
    · rw [a14]
      obtain ⟨q1, q2, q3⟩ := hp p h
      refine ⟨⟨_, q2, ?_⟩, q3⟩
      unfold cKd
      rw [if_neg (by omega), if_neg (by omega), if_neg (by omega), if_neg (by omega)]
      rfl
  have smono : ∀ (w : Nat → Nat), (∀ s, s < 3 → bs s ≤ w s ∧ w s < bs (s + 1)) → ∀ s s', s < s' → s' < 3 → w s < w s' := by
    intro w hw s s' h1 h2
    have t0 : bs 0 ≤ w 0 ∧ w 0 < bs 1 := hw 0 (by omega)
    have t1 : bs 1 ≤ w 1 ∧ w 1 < bs 2 := hw 1 (by omega)
    have t2 : bs 2 ≤ w 2 ∧ w 2 < bs 3 := hw 2 (by omega)
    have : (s = 0 ∧ s' = 1) ∨ (s = 0 ∧ s' = 2) ∨ (s = 1 ∧ s' = 2) := by omega
    rcases this with ⟨rfl, rfl⟩ | ⟨rfl, rfl⟩ | ⟨rfl, rfl⟩ <;> omega
  have i1 := smono sa fun s h => ⟨(hs s h).2.2.1.1, (hs s h).2.2.2.2.1.1⟩
  have i2 := smono ha fun s h => ⟨(hs s h).2.2.1.2.1, (hs s h).2.2.2.2.1.2.1⟩
  have i3 := smono ma fun s h => ⟨(hs s h).2.2.1.2.2, (hs s h).2.2.2.2.1.2.2⟩
  have dma : ∀ s, s < 3 → d ≠ ma s := fun s h => by
    have := (hs s h).2.2.1.2.2
    have h3 : s = 0 ∨ s = 1 ∨ s = 2 := by omega
    rcases h3 with rfl | rfl | rfl <;> omega
  have inj : ∀ i j, i < 20 → j < 20 → cA a m d as ap sa ha ma pa i = cA a m d as ap sa ha ma pa j → i = j := by
    intro i j hi hj e
    obtain ⟨⟨x, x1, x2⟩, -⟩ := key i hi
    obtain ⟨⟨y, y1, y2⟩, -⟩ := key j hj
    rw [e, y1] at x1
    cases x1
    rcases cKd_eq i hi j hj (x2.symm.trans y2) with w | ⟨w1, w2, w3, w4⟩ | ⟨w1, w2, w3, w4⟩ | ⟨w1, w2, w3, w4⟩ | ⟨w1, w2⟩ | ⟨rfl, w1, w2⟩ | ⟨rfl, w1, w2⟩
    · exact w
    · obtain ⟨s, rfl⟩ : ∃ s, i = 5 + s := ⟨i - 5, by omega⟩
      obtain ⟨s', rfl⟩ : ∃ s, j = 5 + s := ⟨j - 5, by omega⟩
      rw [a5 s (by omega), a5 s' (by omega)] at e
      have := mono_in i1 (by omega) (by omega) e
      omega
    · obtain ⟨s, rfl⟩ : ∃ s, i = 8 + s := ⟨i - 8, by omega⟩
      obtain ⟨s', rfl⟩ : ∃ s, j = 8 + s := ⟨j - 8, by omega⟩
      rw [a8 s (by omega), a8 s' (by omega)] at e
      have := mono_in i2 (by omega) (by omega) e
      omega
    · obtain ⟨s, rfl⟩ : ∃ s, i = 11 + s := ⟨i - 11, by omega⟩
      obtain ⟨s', rfl⟩ : ∃ s, j = 11 + s := ⟨j - 11, by omega⟩
      rw [a11 s (by omega), a11 s' (by omega)] at e
      have := mono_in i3 (by omega) (by omega) e
      omega
    · obtain ⟨s, rfl⟩ : ∃ s, i = 14 + s := ⟨i - 14, by omega⟩
      obtain ⟨s', rfl⟩ : ∃ s, j = 14 + s := ⟨j - 14, by omega⟩
      rw [a14, a14] at e
      have := mono_in hpm (by omega) (by omega) e
      omega
    · obtain ⟨s', rfl⟩ : ∃ s, j = 11 + s := ⟨j - 11, by omega⟩
      rw [a11 s' (by omega), a2] at e
      exact absurd e (dma s' (by omega))
    · obtain ⟨s', rfl⟩ : ∃ s, i = 11 + s := ⟨i - 11, by omega⟩
      rw [a11 s' (by omega), a2] at e
      exact absurd e.symm (dma s' (by omega))
  refine ⟨cO' d hx hd (bs 1) (bs 2), cA a m d as ap sa ha ma pa, rfl, hg, ⟨inj, fun i hi => (key i hi).2, hnd⟩, hL, ⟨f, fp, has, fun s h => ?_, hap, fun p h => ?_⟩, fun s h => ?_, fun p h => ?_, ⟨hM.mono fun x hx1 => ?_, hlen⟩, hX, ?_, fun s h => ?_⟩
  · rw [a5 s h]; exact (hs s h).1
  · rw [a14]; exact (hp p h).1
  · rw [a5 s h, a8 s h]; exact (hs s h).2.1
  · rw [a14]; exact (hp p h).2.1
  · obtain ⟨w1, w2⟩ := hx1
    have hxd : x ≠ d := by
      rcases w1 with rfl | w1
      · exact hmd
      · omega
    refine ⟨?_, by rcases w1 with rfl | w1 <;> omega⟩
    unfold cO'
    rw [if_neg hxd, if_pos w2]
  · obtain ⟨pr, N, E, h1, h2⟩ := hD
    refine ⟨pr, N, E, h1.mono fun x hx1 => ?_, h2⟩
    obtain ⟨w1, w2⟩ := hx1
    refine ⟨?_, by rcases w1 with rfl | w1 <;> omega⟩
    unfold cO'
    by_cases e : x = d
    · rw [if_pos e]
    · have : hx ≤ x := w1.resolve_left e
      rw [if_neg e, if_neg (by omega), if_pos w2]
  · obtain ⟨q1, q2, q3, q4, q5, N, q6⟩ := hs s h
    rw [a8 s h, a11 s h]
    refine ⟨N, q6.mono fun x hx1 => ?_⟩
    obtain ⟨w1, w2⟩ := hx1
    have h3 : s = 0 ∨ s = 1 ∨ s = 2 := by omega
    unfold oD cO'
    rcases h3 with rfl | rfl | rfl
    · rw [if_neg (by omega), if_neg (by omega), if_neg (by omega), if_pos w2]
      exact ⟨rfl, by omega⟩
    · rw [if_neg (by omega), if_neg (by omega), if_neg (by omega), if_neg (by omega), if_pos w2]
      exact ⟨rfl, by omega⟩
    · rw [if_neg (by omega), if_neg (by omega), if_neg (by omega), if_neg (by omega), if_neg (by omega)]
      exact ⟨rfl, by omega⟩
