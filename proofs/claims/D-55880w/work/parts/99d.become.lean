/-! a changed copy takes the ledger's place -/
set_option maxRecDepth 100000
/-- what the object's own work may touch: itself, its history -/
abbrev Wc (x H : Nat) : Nat → Nat → Prop := fun a k => (a = x ∧ k = 0) ∨ (a = H ∧ k = 15) ∨ k = 105
section BEC
variable {G : gE} {σ : hSt} {PX : Nat → Nat → hSt → Prop} {P : Int32 → hSt → Prop}
theorem become_k {x H arr c l0 : Nat} {v md : Int32} {hs : List Nat} {fs lf : List Value} (hS : SI G σ) (hx : σ.1 x = some (.inr (0, fs))) (h7 : fs.length = 7) (h0 : fs[0]? = some (va_rf (some l0))) (h2 : fs[2]? = some (va_rf (some H))) (hA : AL G σ H arr md hs) (hl : hs.length ≤ 6) (hl0 : σ.1 l0 = some (.inr (1, lf))) (hb : bd G σ 100)
    (hP : ∀ τ arr' md', ev G (Wc x H) 30 σ τ → τ.1 x = some (.inr (0, fs.set 0 (va_rf (some c)))) → AL G τ H arr' md' ((if hs.length = 6 then hs.tail else hs) ++ [l0]) → P v τ) : wX1_become G P PX (some x) (some c) v σ := by
  have upl : ∀ {n a' : Nat} {z z' : hSt}, ev G (Wl G H a') n z z' → ev G (Wc x H) n z z' := fun e => e.mono (fun y k _ w => by
    rcases w with w | w
    · exact Or.inr (Or.inl w)
    · exact Or.inr (Or.inr w.2.1)) (Nat.le_refl _)
  have kx : ∀ {n a' : Nat} {z z' : hSt} {y ci : Nat} {gs : List Value}, ev G (Wl G H a') n z z' → (ci = 0 ∨ ci = 1) → z.1 y = some (.inr (ci, gs)) → z'.1 y = some (.inr (ci, gs)) := fun e hc hy => e.o hy (fun w => by
    rcases w with w | w
    · have := w.2; omega
    · have := w.2.1; omega) (by omega) (by omega)
  have go : ∀ (τ : hSt) (arr1 : Nat) (md1 : Int32) (hs1 : List Nat), ev G (Wc x H) 0 σ τ → τ.1 x = some (.inr (0, fs)) → τ.1 l0 = some (.inr (1, lf)) → AL G τ H arr1 md1 hs1 → hs1.length ≤ 6 → hs1 = (if hs.length = 6 then hs.tail else hs) → wX1_becomeb21 G P PX (some x) (some c) v τ := by
    intro τ arr1 md1 hs1 e1 hx1 hl1 hA1 hl hhs
    unfold wX1_becomeb21
    refine gR hx1 (by decide) h2 (gR hx1 (by decide) h0 ⟨hA1.rc, al_add e1.t hA1 (by omega) (Or.inr ⟨l0, 1, _, rfl, hl1, by decide⟩) (e1.rm hb (by omega)) fun τ2 arr2 e2 hA2 _ => ?_⟩)
    have hx2 := kx e2 (Or.inl rfl) hx1
    refine pO e2.t hx2 (by decide) (by omega) (by decide) fun τ3 w3 e3 => ?_
    refine hP τ3 arr2 (md1 + 1) ((e1.tr ((upl e2).tr (e3.mono (fun y k _ w => Or.inl w) (Nat.le_refl _)))).le' (by omega)) w3.1 ?_
    rw [← hhs]
    exact hA2.ev e3 (fun w => by have := w.2; omega) fun w => by have := w.2; omega
  unfold wX1_become wX1_becomeb0
  refine gR hx (by decide) h2 ⟨hA.rc, al_size hA ?_⟩
  rw [show (6 : Int32) = Int32.ofNat 6 from rfl, i_eq (by omega) (by omega)]
  refine ⟨fun w => go σ arr md hs (ev.refl hS) hx hl0 hA hl (if_neg w).symm, fun w => gR hx (by decide) h2 ⟨hA.rc, ?_⟩⟩
  cases hs with
  | nil => exact absurd w (by decide)
  | cons y r =>
    have hr : r ≠ [] := by
      rintro rfl
      simp at w
    refine al_shift hS hA hr fun τ e hA' => go τ arr (md + 1) r (upl e) (kx e (Or.inl rfl) hx) (kx e (Or.inr rfl) hl0) hA' (by simp at w; omega) ?_
    rw [if_pos w]
    rfl
end BEC
