/-! a list's first taken -/
set_option maxRecDepth 100000
section LS4
variable {G : gE} {σ : hSt} {PX : Nat → Nat → hSt → Prop} {a arr : Nat} {md : Int32} {l : List Nat}
theorem al_shift {P : Option Nat → hSt → Prop} {x : Nat} {r : List Nat} (hS : SI G σ) (h : AL G σ a arr md (x :: r)) (hr : r ≠ []) (hP : ∀ τ, ev G (Wl G a arr) 0 σ τ → AL G τ a arr (md + 1) r → P (some x) τ) : wJ7_remove G P PX (some a) 0 σ := by
  obtain ⟨cap, f, q1, q2, q3, q4, q5, q6⟩ := h
  have hne : arr ≠ a := fun w => by rw [w, q1] at q2; exact nomatch q2
  have hr0 : 0 < r.length := List.length_pos_iff.mpr hr
  rw [List.length_cons] at q1 q3
  have hX : ¬ gX G arr := by
    rcases q6 with ⟨h1, -⟩ | ⟨-, h2⟩
    · exact h1
    · omega
  have up : ∀ {z z' : hSt}, ev G (W1 a 15) 0 z z' → ev G (Wl G a arr) 0 z z' := fun e => e.mono (fun x k _ w => Or.inl w) (Nat.le_refl _)
  have upr : ∀ {z z' : hSt}, ev G (W1 arr 105) 0 z z' → ev G (Wl G a arr) 0 z z' := fun e => e.mono (fun x k _ w => Or.inr ⟨w.1, w.2, hX⟩) (Nat.le_refl _)
  have hx : f 0 = some x := (q5 0 x rfl).1
  unfold wJ7_remove wJ7_removeb0
  rw [show (0 : Int32) = Int32.ofNat 0 from rfl]
  refine gI q1 (by decide) rfl (ck_k (by omega) (by omega) (gR q1 (by decide) rfl (aR q2 (by decide) (by omega) (by omega) ⟨rco q1, ?_⟩)))
  rw [hx]
  unfold wJ7_fastRemove wJ7_fastRemoveb0 wJ7_fastRemoveb34
  refine gI q1 (by decide) rfl (pO hS q1 (by decide) (by simp) (by decide) fun τ1 w1 e1 => gI w1.1 (by decide) rfl ?_)
  rw [show (1 : Int32) = Int32.ofNat 1 from rfl, i_sub (by omega), show r.length + 1 - 1 = r.length by omega, i_add, i_sub (by omega), i_le (by omega) (by omega)]
  refine ⟨fun w => by omega, fun _ => ?_⟩
  have q21 := e1.a q2 fun w => hne w.1
  have n1 : (Int32.ofNat (0 + 1)).toNatClampNeg = 1 := i_nat (by omega)
  have n0 : (Int32.ofNat 0).toNatClampNeg = 0 := i_nat (by omega)
  have nr : (Int32.ofNat (r.length - 0)).toNatClampNeg = r.length := i_nat (by omega)
  refine Or.inr (Or.inr (Or.inr ⟨arr, cap, f, arr, cap, f, rfl, q21, rfl, q21, hX, i_nn (by omega), i_nn (by omega), i_nn (by omega), by rw [n1, nr]; omega, by rw [n0, nr]; omega, fun i hi => ?_, ?_⟩))
  · rw [nr] at hi
    rw [n1]
    obtain ⟨y, hy⟩ : ∃ y, (x :: r)[1 + i]? = some y := ⟨_, List.getElem?_eq_getElem (by rw [List.length_cons]; omega)⟩
    obtain ⟨s1, s2⟩ := q5 (1 + i) y hy
    rw [s1]
    exact s2.ev e1 (by decide)
  · rw [n1, n0, nr]
    have hw : wr τ1 (hset τ1 arr (.inl (5, cap, .inr (.inr (.inr (.inr (va_cpy f f 1 0 r.length))))))) arr (.inl (5, cap, .inr (.inr (.inr (.inr (va_cpy f f 1 0 r.length)))))) := wr_set
    have e2 : ev G (W1 arr 105) 0 τ1 (hset τ1 arr (.inl (5, cap, .inr (.inr (.inr (.inr (va_cpy f f 1 0 r.length))))))) := wr_ev e1.t q21 hw rfl (fun ci1 fs1 e1 => nomatch e1) (fun x _ => hX) fun ci1 fs1 e1 => nomatch e1
    have q12 := e2.o w1.1 (fun w => hne w.1.symm) (by decide) (by decide)
    refine pO e2.t q12 (by decide) (by simp) (by decide) fun τ3 w3 e3 => ?_
    have q23 := e3.a hw.1 fun w => hne w.1
    refine sR (L := [1, 6, 7]) e3.t q23 (by decide) hX (by omega) (i := r.length) (by omega) (Or.inl rfl) fun τ4 w4 e4 => ?_
    have e14 : ev G (Wl G a arr) 0 σ τ4 := ((up e1).tr ((upr e2).tr ((up e3).tr (upr e4)))).le' (by omega)
    refine hP τ4 e14 ⟨cap, _, e4.o w3.1 (fun w => hne w.1.symm) (by decide) (by decide), w4.1, by omega, q4, fun j y hy => ?_, q6⟩
    have hj := (List.getElem?_eq_some_iff.mp hy).1
    obtain ⟨s1, s2⟩ := q5 (j + 1) y (by rw [List.getElem?_cons_succ]; exact hy)
    refine ⟨(if_neg (by omega)).trans ?_, s2.ev e14 (by decide)⟩
    unfold va_cpy
    rw [← s1]
    simp [hj]
    congr 1
    omega
end LS4
