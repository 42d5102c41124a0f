/-! a list cleared; its last taken -/
set_option maxRecDepth 100000
section LS3
variable {G : gE} {σ : hSt} {PX : Nat → Nat → hSt → Prop} {K : hSt → Prop} {a arr : Nat} {md : Int32} {l : List Nat}
theorem al_clear (hS : SI G σ) (h : AL G σ a arr md l) (hK : ∀ τ, ev G (Wl G a arr) 0 σ τ → AL G τ a arr (md + 1) [] → K τ) : wJ7_clear G K PX (some a) σ := by
  obtain ⟨cap, f, q1, q2, q3, q4, q5, q6⟩ := h
  have hne : arr ≠ a := fun w => by rw [w, q1] at q2; exact nomatch q2
  have up : ∀ {z z' : hSt}, ev G (W1 a 15) 0 z z' → ev G (Wl G a arr) 0 z z' := fun e => e.mono (fun x k _ w => Or.inl w) (Nat.le_refl _)
  unfold wJ7_clear wJ7_clearb0
  refine gI q1 (by decide) rfl (pO hS q1 (by decide) (by simp) (by decide) fun τ1 w1 e1 => gR w1.1 (by decide) rfl (gI w1.1 (by decide) rfl (pO e1.t w1.1 (by decide) (by simp) (by decide) fun τ2 w2 e2 => ?_)))
  have e12 := (up e1).tr (up e2)
  have q22 := (e1.tr e2).a q2 fun w => hne w.1
  refine lp_n (fun n y => ∃ i z f, i ≤ l.length ∧ n = l.length - i ∧ y = (some arr, Int32.ofNat l.length, Int32.ofNat i, z) ∧ ev G (Wl G a arr) 0 σ z ∧ z.1 a = some (.inr (15, [.int (md + 1), va_rf (some arr), .int (Int32.ofNat 0)])) ∧ z.1 arr = some (.inl (5, cap, .inr (.inr (.inr (.inr f)))))) l.length ⟨0, τ2, f, by omega, rfl, rfl, e12.le' (by omega), w2.1, q22⟩ ?_
  rintro n y ⟨i, z, f', hi, rfl, rfl, ez, hz1, hz2⟩ K' hK'
  unfold wJ7_clearb27
  dsimp only
  rw [i_le (by omega) (by omega)]
  refine ⟨fun w => hK z ez ⟨cap, f', hz1, hz2, by simp, q4, fun j x hx => by simp at hx, q6⟩, fun w => ?_⟩
  have hX : ¬ gX G arr := by
    rcases q6 with ⟨h1, -⟩ | ⟨-, h2⟩
    · exact h1
    · omega
  refine sR (L := [1, 6, 7]) ez.t hz2 (by decide) hX (by omega) (i := i) (by omega) (Or.inl rfl) fun τ4 w4 e4 => ?_
  rw [i_succ]
  refine hK' (l.length - (i + 1)) _ (by omega) ⟨i + 1, τ4, _, by omega, rfl, rfl, (ez.tr (e4.mono (fun x k _ w => Or.inr ⟨w.1, w.2, hX⟩) (Nat.le_refl _))).le' (by omega), e4.o hz1 (fun w => hne w.1.symm) (by decide) (by decide), w4.1⟩
theorem al_pop {P : Option Nat → hSt → Prop} {x : Nat} {l0 : List Nat} (hS : SI G σ) (h : AL G σ a arr md l) (hl : l = l0 ++ [x]) (hP : ∀ τ, ev G (Wl G a arr) 0 σ τ → AL G τ a arr (md + 1) l0 → P (some x) τ) : wJ7_remove G P PX (some a) (Int32.ofNat l0.length) σ := by
  obtain ⟨cap, f, q1, q2, q3, q4, q5, q6⟩ := h
  subst hl
  have hne : arr ≠ a := fun w => by rw [w, q1] at q2; exact nomatch q2
  have hll : (l0 ++ [x]).length = l0.length + 1 := by simp
  have hX : ¬ gX G arr := by
    rcases q6 with ⟨h1, -⟩ | ⟨-, h2⟩
    · exact h1
    · omega
  have up : ∀ {z z' : hSt}, ev G (W1 a 15) 0 z z' → ev G (Wl G a arr) 0 z z' := fun e => e.mono (fun x k _ w => Or.inl w) (Nat.le_refl _)
  have hx : f l0.length = some x := (q5 l0.length x (by simp)).1
  unfold wJ7_remove wJ7_removeb0
  rw [hll] at q1 q3
  refine gI q1 (by decide) rfl (ck_k (by omega) (by omega) (gR q1 (by decide) rfl (aR q2 (by decide) (by omega) (by omega) ⟨rco q1, ?_⟩)))
  rw [hx]
  unfold wJ7_fastRemove wJ7_fastRemoveb0 wJ7_fastRemoveb34
  refine gI q1 (by decide) rfl (pO hS q1 (by decide) (by simp) (by decide) fun τ1 w1 e1 => gI w1.1 (by decide) rfl ?_)
  rw [show (1 : Int32) = Int32.ofNat 1 from rfl, i_sub (by omega), show l0.length + 1 - 1 = l0.length by omega]
  refine ⟨fun _ => pO e1.t w1.1 (by decide) (by simp) (by decide) fun τ2 w2 e2 => ?_, fun w => absurd (Int32.le_refl _) w⟩
  have q22 := (e1.tr e2).a q2 fun w => hne w.1
  refine sR (L := [1, 6, 7]) e2.t q22 (by decide) hX (by omega) (i := l0.length) (by omega) (Or.inl rfl) fun τ3 w3 e3 => ?_
  have e13 : ev G (Wl G a arr) 0 σ τ3 := (((up e1).tr (up e2)).tr (e3.mono (fun x k _ w => Or.inr ⟨w.1, w.2, hX⟩) (Nat.le_refl _))).le' (by omega)
  refine hP τ3 e13 ⟨cap, _, e3.o w2.1 (fun w => hne w.1.symm) (by decide) (by decide), w3.1, by omega, q4, fun j y hy => ?_, q6⟩
  have hj := (List.getElem?_eq_some_iff.mp hy).1
  obtain ⟨r1, r2⟩ := q5 j y (by rw [List.getElem?_append_left hj]; exact hy)
  exact ⟨(if_neg (by omega)).trans r1, r2.ev e13 (by decide)⟩
end LS3
