/-! the object is asked: the freshest, the strongest, the worn -/
set_option maxRecDepth 100000
theorem nat_m1 {n : Nat} (h : n < 2147483648) : Int32.ofNat n ≠ -1 := fun w => by
  have h2 := congrArg Int32.toInt w
  rw [i_toInt h] at h2
  have h3 : (-1 : Int32).toInt = -1 := rfl
  omega
theorem sBest_n {g : Nat → Int32} : ∀ k, ∃ j, j ≤ k ∧ sBest g k = Int32.ofNat j := by
  intro k
  induction k with
  | zero => exact ⟨0, Nat.le_refl _, rfl⟩
  | succ k ih =>
    obtain ⟨j, hj, e⟩ := ih
    show ∃ j, j ≤ k + 1 ∧ (if k = 0 then 0 else if nStr g (Int32.ofNat k) ≤ nStr g (sBest g k) then sBest g k else Int32.ofNat k) = Int32.ofNat j
    by_cases h : k = 0
    · rw [if_pos h]; exact ⟨0, by omega, rfl⟩
    · rw [if_neg h]
      by_cases w : nStr g (Int32.ofNat k) ≤ nStr g (sBest g k)
      · rw [if_pos w]; exact ⟨j, by omega, e⟩
      · rw [if_neg w]; exact ⟨k, by omega, rfl⟩
section PU3
variable {G : gE} {σ : hSt} {PX : Nat → Nat → hSt → Prop} {P : Int32 → hSt → Prop} {n0 : Nat} {o A : Nat → Nat} {md : Int32} {es : List eT} {g : Nat → Int32} {x : Nat}
theorem q_fresh {N : Nat} {v : Int32} (hS : SI G σ) (hO : OB σ x (A 0)) (h : LG G σ n0 o A md es g) (hg : GI N g) (hN : N < 1000000) (hb : bd G σ 600) (hX : (∀ p, p < cnt g → fkn g p ≠ v) → ∀ τ q, ev G W0 507 σ τ → τ.1 q = some (.inr (28, [])) → PX 28 q τ) (hP : ∀ p τ, p < cnt g → fkn g p = v → ev G W0 500 σ τ → P (Int32.ofNat p) τ) : wX1_freshest G P PX (some x) v σ := by
  have h12 := h.ok.1.1
  unfold wX1_freshest wX1_freshestb0
  refine hO.L ⟨h.rc, freshest_k hS h hb fun τ e => ?_⟩
  by_cases w : ∃ p, p < cnt g ∧ fkn g p = v
  · obtain ⟨p, hp, hv⟩ := w
    rw [lastI_1 (cnt g) (fun a b ha hb e => fkn_1 hg hN ha hb e) hp hv]
    exact found_k e.t (e.rm hb (by omega)) (fun _ => hP p τ hp hv e) fun u => absurd u (nat_m1 (by omega))
  · have hno : ∀ p, p < cnt g → fkn g p ≠ v := fun p hp hv => w ⟨p, hp, hv⟩
    rw [lastI_0 (cnt g) hno]
    exact found_k e.t (e.rm hb (by omega)) (fun u => absurd rfl u) fun _ τ2 q e2 hq => hX hno τ2 q (e.tr e2) hq
theorem q_strong (hS : SI G σ) (hO : OB σ x (A 0)) (h : LG G σ n0 o A md es g) (hb : bd G σ 40) (hX : cnt g = 0 → ∀ τ q, ev G W0 37 σ τ → τ.1 q = some (.inr (28, [])) → PX 28 q τ) (hP : cnt g ≠ 0 → ∀ τ, ev G W0 30 σ τ → P (sBest g 4) τ) : wX1_strongest G P PX (some x) σ := by
  unfold wX1_strongest wX1_strongestb0
  refine hO.L ⟨h.rc, strong_k hS h (hb.mono (by omega)) (fun w τ e => found_k e.t (e.rm hb (by omega)) (fun u => absurd rfl u) fun _ τ2 q e2 hq => hX w τ2 q (e.tr e2) hq) fun w τ e => found_k e.t (e.rm hb (by omega)) (fun _ => hP w τ e) fun u => absurd u ?_⟩
  obtain ⟨j, hj, ej⟩ := sBest_n (g := g) 4
  rw [ej]
  exact nat_m1 (by omega)
theorem q_worn (hS : SI G σ) (hO : OB σ x (A 0)) (h : LG G σ n0 o A md es g) (hb : bd G σ 600) (hP : ∀ τ, ev G W0 510 σ τ → P (nWorn g) τ) : wX1_worn G P PX (some x) σ := by
  unfold wX1_worn wX1_wornb0
  refine hO.L ⟨h.rc, all_k hS h hb fun τ a arr md' e ha hA => worn_k (l := List.range (cnt g)) h e hA (fun e he => List.mem_range.mp he) hb fun τ2 e2 => ?_⟩
  rw [← pl_all, lS_pl]
  have : sN (fun e => twl True (tw (lft g e = 0))) (cnt g) = nWorn g := sN_congr fun e _ => twl_1 trivial
  rw [this]
  exact hP τ2 e2
end PU3
