/-! a ledger's cell changed -/
set_option maxRecDepth 100000
theorem ok_congr {g g' : Nat → Int32} (h : gOK g) (hg : ∀ i, i < 30 ∨ (54 ≤ i ∧ i < 78) → g' i = g i) : gOK g' := by
  obtain ⟨⟨h1, h2⟩, h3⟩ := h
  have hc : cnt g' = cnt g := by
    unfold cnt
    rw [hg 0 (by omega)]
  refine ⟨⟨by rw [hc]; exact h1, by rw [hc, hg 0 (by omega)]; exact h2⟩, fun e he => ?_⟩
  rw [hc] at he
  unfold kOf tOf oOf dOf
  rw [hg (6 + e) (by omega), hg (18 + e) (by omega), hg (54 + e) (by omega), hg (66 + e) (by omega)]
  exact h3 e he
section UPD
variable {G : gE} {σ τ : hSt} {c n0 : Nat} {o A : Nat → Nat} {md : Int32} {es : List eT} {g g' : Nat → Int32}
theorem LG.Ai (h : LG G σ n0 o A md es g) {i j : Nat} (hi : i < 20) (hj : j < 20) (e : A i = A j) : i = j := h.2.1.1 i j hi hj e
theorem setP_ {p : Nat} (hp : p < 6) (h : LG G σ n0 o A md es g) (e : ev G (W1 (A (14 + p)) 3) c σ τ) (hc : τ.1 (A (14 + p)) = some (.inr (3, [.int (g' (114 + p)), .int (g' (120 + p)), .int (g' (126 + p))]))) (hg : ∀ i, i ≠ 114 + p → i ≠ 120 + p → i ≠ 126 + p → g' i = g i) : LG G τ n0 o A md es g' := by
  have hin := h.2.1.1
  have hl12 := h.le12
  obtain ⟨h1, h2, h3, h4, h5, h6, ⟨h7, h7'⟩, h8, h9, h10⟩ := h
  have nk : ∀ k, k ≠ 3 → ∀ b, ¬ W1 (A (14 + p)) 3 b k := fun k hk b w => hk w.2
  have hcn : cnt g' = cnt g := by
    unfold cnt
    rw [hg 0 (by omega) (by omega) (by omega)]
  refine ⟨ok_congr h1 fun i hi => hg i (by omega) (by omega) (by omega), h2, h3.ev e (nk _ (by omega) _) fun i _ _ => hg i (by omega) (by omega) (by omega), h4.ev e (nk _ (by omega) _) (nk _ (by omega) _), h5.ev e (fun s _ => nk _ (by omega) _) fun i _ _ => hg i (by omega) (by omega) (by omega), fun q hq => ?_, ⟨h7.ev e (W1_k (by omega)) fun a k _ hk => nk _ (by unfold mkd at hk; omega) _, by rw [hcn]; exact h7'⟩, h8.ev hl12 e (fun q hq x hx => nk _ (by omega) _) fun i _ _ => hg i (by omega) (by omega) (by omega), h9.ev e (W1_k (by omega)) (fun a k _ hk => nk _ (by unfold mkd at hk; omega) _) fun i _ _ => hg i (by omega) (by omega) (by omega), h10.ev e (W1_k (by omega)) (fun s _ a k _ hk => nk _ (by unfold mkd at hk; omega) _) (fun s _ => nk _ (by omega) _) fun i _ _ => hg i (by omega) (by omega) (by omega)⟩
  by_cases hqp : q = p
  · subst hqp; exact hc
  · rw [hg _ (by omega) (by omega) (by omega), hg (120 + q) (by omega) (by omega) (by omega), hg (126 + q) (by omega) (by omega) (by omega)]
    exact e.o (h6 q hq) (fun w => by have := hin _ _ (by omega) (by omega) w.1; omega) (by decide) (by decide)
theorem setS_ {s : Nat} (hs : s < 3) (h : LG G σ n0 o A md es g) (e : ev G (W1 (A (5 + s)) 2) c σ τ) (hc : τ.1 (A (5 + s)) = some (.inr (2, [va_rf (some (A (8 + s))), .int (g' (132 + s)), .int (g' (135 + s)), .int (g' (138 + s))]))) (hg : ∀ i, i ≠ 132 + s → i ≠ 135 + s → i ≠ 138 + s → g' i = g i) : LG G τ n0 o A md es g' := by
  have hin := h.2.1.1
  have hl12 := h.le12
  obtain ⟨h1, h2, h3, h4, h5, h6, ⟨h7, h7'⟩, h8, h9, h10⟩ := h
  have nk : ∀ k, k ≠ 2 → ∀ b, ¬ W1 (A (5 + s)) 2 b k := fun k hk b w => hk w.2
  have hcn : cnt g' = cnt g := by
    unfold cnt
    rw [hg 0 (by omega) (by omega) (by omega)]
  refine ⟨ok_congr h1 fun i hi => hg i (by omega) (by omega) (by omega), h2, h3.ev e (nk _ (by omega) _) fun i _ _ => hg i (by omega) (by omega) (by omega), h4.ev e (nk _ (by omega) _) (nk _ (by omega) _), fun q hq => ?_, h6.ev e (fun s _ => nk _ (by omega) _) fun i _ _ => hg i (by omega) (by omega) (by omega), ⟨h7.ev e (W1_k (by omega)) fun a k _ hk => nk _ (by unfold mkd at hk; omega) _, by rw [hcn]; exact h7'⟩, h8.ev hl12 e (fun q hq x hx => nk _ (by omega) _) fun i _ _ => hg i (by omega) (by omega) (by omega), h9.ev e (W1_k (by omega)) (fun a k _ hk => nk _ (by unfold mkd at hk; omega) _) fun i _ _ => hg i (by omega) (by omega) (by omega), h10.ev e (W1_k (by omega)) (fun s _ a k _ hk => nk _ (by unfold mkd at hk; omega) _) (fun s _ => nk _ (by omega) _) fun i _ _ => hg i (by omega) (by omega) (by omega)⟩
  by_cases hqs : q = s
  · subst hqs; exact hc
  · rw [hg _ (by omega) (by omega) (by omega), hg (135 + q) (by omega) (by omega) (by omega), hg (138 + q) (by omega) (by omega) (by omega)]
    exact e.o (h5 q hq) (fun w => by have := hin _ _ (by omega) (by omega) w.1; omega) (by decide) (by decide)
theorem setL_ (h : LG G σ n0 o A md es g) (e : ev G (W1 (A 0) 1) c σ τ) (hc : τ.1 (A 0) = some (.inr (1, [va_rf (some (A 1)), va_rf (some (A 2)), va_rf (some (A 3)), va_rf (some (A 4)), .int (g' 1), .int (g' 2 - 1), .int (g' 3), .int (g' 4), .int (g' 5)]))) (hg : ∀ i, i = 0 ∨ 6 ≤ i → g' i = g i) (hok : gOK g') : LG G τ n0 o A md es g' := by
  have hl12 := h.le12
  obtain ⟨h1, h2, h3, h4, h5, h6, ⟨h7, h7'⟩, h8, h9, h10⟩ := h
  have nk : ∀ k, k ≠ 1 → ∀ b, ¬ W1 (A 0) 1 b k := fun k hk b w => hk w.2
  have hcn : cnt g' = cnt g := by
    unfold cnt
    rw [hg 0 (by omega)]
  exact ⟨hok, h2, hc, h4.ev e (nk _ (by omega) _) (nk _ (by omega) _), h5.ev e (fun s _ => nk _ (by omega) _) fun i _ _ => hg i (by omega), h6.ev e (fun s _ => nk _ (by omega) _) fun i _ _ => hg i (by omega), ⟨h7.ev e (W1_k (by omega)) fun a k _ hk => nk _ (by unfold mkd at hk; omega) _, by rw [hcn]; exact h7'⟩, h8.ev hl12 e (fun q hq x hx => nk _ (by omega) _) fun i _ _ => hg i (by omega), h9.ev e (W1_k (by omega)) (fun a k _ hk => nk _ (by unfold mkd at hk; omega) _) fun i _ _ => hg i (by omega), h10.ev e (W1_k (by omega)) (fun s _ a k _ hk => nk _ (by unfold mkd at hk; omega) _) (fun s _ => nk _ (by omega) _) fun i _ _ => hg i (by omega)⟩
/-- gOK of numbers of which only the ledger's own changed -/
theorem ok_L {g g' : Nat → Int32} (h : gOK g) (hg : ∀ i, i = 0 ∨ 6 ≤ i → g' i = g i) : gOK g' := by
  obtain ⟨⟨h1, h2⟩, h3⟩ := h
  have hc : cnt g' = cnt g := by
    unfold cnt
    rw [hg 0 (by omega)]
  refine ⟨⟨by rw [hc]; exact h1, by rw [hc, hg 0 (by omega)]; exact h2⟩, fun e he => ?_⟩
  rw [hc] at he
  unfold kOf tOf oOf dOf
  rw [hg (6 + e) (by omega), hg (18 + e) (by omega), hg (54 + e) (by omega), hg (66 + e) (by omega)]
  exact h3 e he
theorem setX_ {x ei : Nat} {q : eT} (h : LG G σ n0 o A md es g) (hq : es[ei]? = some q) (hx : q.2.2.2 = some x) (e : ev G (W1 x 7) c σ τ) (hc : τ.1 x = some (.inr (7, excF q.2.2.1 g' ei))) (hg : ∀ i, (i < 30 ∨ 114 ≤ i ∨ (i - 6) % 12 ≠ ei) → g' i = g i) (hok : gOK g') : LG G τ n0 o A md es g' := by
  have hl12 := h.le12
  have hel := (List.getElem?_eq_some_iff.mp hq).1
  have hxi : ∀ {i j : Nat}, i < cnt g → j < cnt g → xa es i = xa es j → i = j := h.xinj
  have hlen := h.len
  have hlt : ∀ {i : Nat} {q : eT}, es[i]? = some q → i < cnt g := h.lt
  obtain ⟨h1, h2, h3, h4, h5, h6, ⟨h7, h7'⟩, h8, h9, h10⟩ := h
  have nk : ∀ k, k ≠ 7 → ∀ b, ¬ W1 x 7 b k := fun k hk b w => hk w.2
  have hcn : cnt g' = cnt g := by
    unfold cnt
    rw [hg 0 (by omega)]
  refine ⟨hok, h2, h3.ev e (nk _ (by omega) _) fun i _ _ => hg i (by omega), h4.ev e (nk _ (by omega) _) (nk _ (by omega) _), h5.ev e (fun s _ => nk _ (by omega) _) fun i _ _ => hg i (by omega), h6.ev e (fun s _ => nk _ (by omega) _) fun i _ _ => hg i (by omega), ⟨h7.ev e (W1_k (by omega)) fun a k _ hk => nk _ (by unfold mkd at hk; omega) _, by rw [hcn]; exact h7'⟩, fun i q' hq' => ?_, h9.ev e (W1_k (by omega)) (fun a k _ hk => nk _ (by unfold mkd at hk; omega) _) fun i _ _ => hg i (by omega), h10.ev e (W1_k (by omega)) (fun s _ a k _ hk => nk _ (by unfold mkd at hk; omega) _) (fun s _ => nk _ (by omega) _) fun i _ _ => hg i (by omega)⟩
  obtain ⟨w1, x', w2, w3, w4⟩ := h8 i q' hq'
  have hil := (List.getElem?_eq_some_iff.mp hq').1
  have hkt : kOf g' i = kOf g i ∧ tOf g' i = tOf g i := by
    unfold kOf tOf
    rw [hg (6 + i) (by omega), hg (18 + i) (by omega)]
    exact ⟨rfl, rfl⟩
  rw [hkt.1, hkt.2]
  by_cases hie : i = ei
  · subst hie
    rw [hq] at hq'
    cases hq'
    rw [hx] at w2
    cases w2
    exact ⟨w1, x, hx, w3, hc⟩
  · refine ⟨w1, x', w2, w3, ?_⟩
    have hne : x' ≠ x := fun w => by
      refine hie (hxi (hlt hq') (hlt hq) ?_)
      rw [xa_of hq' w2, xa_of hq hx, w]
    unfold excF at *
    rw [hg (30 + i) (by omega), hg (54 + i) (by omega), hg (66 + i) (by omega), hg (42 + i) (by omega), hg (78 + i) (by omega), hg (90 + i) (by omega), hg (102 + i) (by omega)]
    exact e.o w4 (fun w => hne w.1) (by decide) (by decide)
end UPD
