/-! the object is asked: counts -/
set_option maxRecDepth 100000
section PU2
variable {G : gE} {σ : hSt} {PX : Nat → Nat → hSt → Prop} {P : Int32 → hSt → Prop} {n0 : Nat} {o A : Nat → Nat} {md : Int32} {es : List eT} {g : Nat → Int32} {x : Nat}
theorem q_dog {v : Int32} (hS : SI G σ) (hO : OB σ x (A 0)) (h : LG G σ n0 o A md es g) (hb : bd G σ 7) (hX : ¬ isE v → XC G σ PX 29) (hP : ∀ t, v = Int32.ofNat t → t < 10 → P (g (141 + t)) σ) : wX1_dog G P PX (some x) v σ := by
  unfold wX1_dog wX1_dogb0
  refine isTop_k (fun w => chkA_k hS hb (fun _ => hO.L ⟨h.rc, ?_⟩) fun u => absurd u n10) fun w => chkA_k hS hb (fun u => absurd rfl u) fun _ => hX w
  obtain ⟨t, ht, rfl⟩ := i_of (n := 9) w.1 w.2 (by omega)
  exact dog_k hS h (by omega) (hP t rfl (by omega))
theorem q_left {v : Int32} (hS : SI G σ) (hO : OB σ x (A 0)) (h : LG G σ n0 o A md es g) (hb : bd G σ 600) (hX : ¬ isP v → XC G σ PX 32) (hP : isP v → ∀ τ, ev G W0 510 σ τ → P (nLeft g v) τ) : wX1_left G P PX (some x) v σ := by
  unfold wX1_left wX1_leftb0
  exact isPup_k (fun w => chkI_k hS (hb.mono (by omega)) (fun _ => hO.L ⟨h.rc, left_k hS h hb (hP w)⟩) fun u => absurd u n10) fun w => chkI_k hS (hb.mono (by omega)) (fun u => absurd rfl u) fun _ => hX w
theorem q_chances (hS : SI G σ) (hO : OB σ x (A 0)) (h : LG G σ n0 o A md es g) (hb : bd G σ 120) (hP : ∀ τ, ev G W0 120 σ τ → P (nCh g) τ) : wX1_chances G P PX (some x) σ := by
  unfold wX1_chances wX1_chancesb0
  exact hO.L ⟨h.rc, chances_k hS h hb hP⟩
theorem q_leftA {v : Int32} (hS : SI G σ) (hO : OB σ x (A 0)) (h : LG G σ n0 o A md es g) (hb : bd G σ 130) (hX : ¬ isP v → XC G σ PX 32) (hP : isP v → ∀ τ, ev G W0 130 σ τ → P (nLeft g v) τ) : wX1_leftAgain G P PX (some x) v σ := by
  unfold wX1_leftAgain wX1_leftAgainb0
  exact isPup_k (fun w => chkI_k hS (hb.mono (by omega)) (fun _ => hO.L ⟨h.rc, leftA_k hS h hb (hP w)⟩) fun u => absurd u n10) fun w => chkI_k hS (hb.mono (by omega)) (fun u => absurd rfl u) fun _ => hX w
theorem q_chancesA (hS : SI G σ) (hO : OB σ x (A 0)) (h : LG G σ n0 o A md es g) (hb : bd G σ 200) (hP : ∀ τ, ev G W0 200 σ τ → P (nCh g) τ) : wX1_chancesAgain G P PX (some x) σ := by
  unfold wX1_chancesAgain wX1_chancesAgainb0
  exact hO.L ⟨h.rc, chancesA_k hS h hb hP⟩
theorem q_due (hS : SI G σ) (hO : OB σ x (A 0)) (h : LG G σ n0 o A md es g) (hb : bd G σ 9) (hP : ∀ τ, ev G W0 9 σ τ → P (nDue g) τ) : wX1_due G P PX (some x) σ := by
  unfold wX1_due wX1_dueb0
  exact hO.L ⟨h.rc, due_k hS h hb hP⟩
theorem q_fair {N : Nat} (hS : SI G σ) (hO : OB σ x (A 0)) (h : LG G σ n0 o A md es g) (hg : GI N g) (hN : N < 1000000) (hb : bd G σ 6000) (hP : ∀ τ, ev G W0 5000 σ τ → P 1 τ) : wX1_isFair G P PX (some x) σ := by
  unfold wX1_isFair wX1_isFairb0
  exact hO.L ⟨h.rc, fair_k hS h hb (GI_coins hg) (GI_strictness hg) (GI_uses hg hN) fun τ e => ⟨ok_b1, hP τ e⟩⟩
theorem q_ranked {N : Nat} {v : Int32} (hS : SI G σ) (hO : OB σ x (A 0)) (h : LG G σ n0 o A md es g) (hg : GI N g) (hb : bd G σ 37100) (hX : (∀ p, p < 6 → rkn g p ≠ v) → ∀ τ q, ev G W0 36007 σ τ → τ.1 q = some (.inr (28, [])) → PX 28 q τ) (hP : ∀ p τ, p < 6 → rkn g p = v → ev G W0 36000 σ τ → P (Int32.ofNat p) τ) : wX1_ranked G P PX (some x) v σ := by
  unfold wX1_ranked wX1_rankedb0
  refine hO.L ⟨h.rc, ranked_k hS h hb fun τ e => ?_⟩
  by_cases w : ∃ p, p < 6 ∧ rkn g p = v
  · obtain ⟨p, hp, hv⟩ := w
    rw [lastI_1 6 (fun a b ha hb e => rkn_1 hg ha hb e) hp hv]
    refine found_k e.t (e.rm hb (by omega)) (fun _ => hP p τ hp hv e) fun u => absurd u ?_
    have : p = 0 ∨ p = 1 ∨ p = 2 ∨ p = 3 ∨ p = 4 ∨ p = 5 := by omega
    rcases this with rfl | rfl | rfl | rfl | rfl | rfl <;> decide
  · have hno : ∀ p, p < 6 → rkn g p ≠ v := fun p hp hv => w ⟨p, hp, hv⟩
    rw [lastI_0 6 hno]
    exact found_k e.t (e.rm hb (by omega)) (fun u => absurd rfl u) fun _ τ2 q e2 hq => hX hno τ2 q (e.tr e2) hq
end PU2
