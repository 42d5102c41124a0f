/-! the dogs' map cleared -/
set_option maxRecDepth 100000
section CLR
variable {G : gE} {σ : hSt} {PX : Nat → Nat → hSt → Prop} {K : hSt → Prop} {D : Nat → Prop} {d : Nat} {g : Nat → Int32}
theorem clear_k (hS : SI G σ) (h : lgD G σ D d g) (hK : ∀ τ, ev G (Wm D) 0 σ τ → lgD G τ D d (dogG g 10) → K τ) : wJ1_clear G K PX (some d) σ := by
  obtain ⟨pr, N, E, hH, h1, h2, h3⟩ := h
  have hz : ∀ t, t < 10 → dogG g 10 (141 + t) = 0 := fun t ht => by
    unfold dogG
    rw [if_pos (by omega)]
  have mk : ∀ {τ : hSt} {t : Option Nat} {md th : Int32} {N : Nat}, mm τ d 12 t 0 md th [] → D d → ((t = none ∧ N = 0 ∧ (th = 0 ∨ ∃ T, pw T ∧ th = Int32.ofNat T)) ∨ ∃ ta, t = some ta ∧ D ta ∧ ¬ gX G ta ∧ pw N ∧ th = Int32.ofNat (N * 3 / 4) ∧ BK τ 25 ta N fun _ => []) → lgD G τ D d (dogG g 10) := by
    intro τ t md th N hm hD hor
    refine ⟨fun _ => false, N, fun _ => False, ?_, fun t => ⟨fun w => (nomatch w), fun ⟨_, w, _⟩ => w.elim⟩, fun _ w => w.elim, fun t ht _ => hz t ht⟩
    rw [cntB_f fun _ => rfl]
    refine ⟨t, md, th, hm, hD, fun _ _ w => w, ?_⟩
    rcases hor with ⟨a1, a2, a3⟩ | ⟨ta, a1, a2, a3, a4, a5, a6⟩
    · exact Or.inl ⟨a1, a2, fun _ w => w, a3⟩
    · exact Or.inr ⟨ta, fun _ => [], a1, a2, a3, a4, a5, a6, fun i _ => ⟨fun q hq => (nomatch hq), List.nodup_nil⟩, fun i _ q hq => (nomatch hq), fun q => ⟨fun w => w.elim, fun ⟨_, _, w⟩ => nomatch w⟩⟩
  obtain ⟨t, md, th, hm, hDm, h0, hor⟩ := id hH
  obtain ⟨-, k0, k1, k3, hmc⟩ := id hm
  have hn := cntB_le (p := pr) (n := 10)
  unfold wJ1_clear wJ1_clearb0
  refine gI hmc (by decide) rfl (pM hS hmc (by decide) (by simp) (Or.inl rfl) (by decide) (by decide) (by decide) fun τ w e => ?_)
  have hm1 : mm τ d 12 t (Int32.ofNat (cntB pr 10)) (md + 1) th [] := ⟨Or.inl rfl, _, _, _, w.1⟩
  have e' : ev G (Wm D) 0 σ τ := e.up hDm (Or.inl rfl)
  refine gR w.1 (by decide) rfl ⟨fun ht => ?_, fun ht => gI w.1 (by decide) rfl ⟨fun hn0 => ?_, fun hn0 => pM e.t w.1 (by decide) (by simp) (Or.inl rfl) (by decide) (by decide) (by decide) fun τ2 w2 e2 => ?_⟩⟩
  · rcases hor with ⟨a1, a2, a3, a4⟩ | ⟨ta, B, a1, -⟩
    · have hc : cntB pr 10 = 0 := cntB_f fun t => by
        cases hp : pr t
        · rfl
        · obtain ⟨q, hq, -⟩ := (h1 t).mp hp
          exact absurd hq (a3 q)
      rw [hc] at hm1
      exact hK τ e' (mk hm1 hDm (Or.inl ⟨a1, a2, a4⟩))
    · rw [ht] at a1; exact nomatch a1
  · rw [show (0 : Int32) = Int32.ofNat 0 from rfl, i_le (by omega) (by omega)] at hn0
    have hc : cntB pr 10 = 0 := by omega
    have hE := h0 hc
    rcases hor with ⟨a1, -⟩ | ⟨ta, B, a1, a2, a3, a4, a5, a6, a7, a8, a9⟩
    · exact absurd a1 ht
    · rw [hc] at hm1
      refine hK τ e' (mk (N := N) hm1 hDm (Or.inr ⟨ta, a1, a2, a3, a4, a5, ?_⟩))
      have hta : ta ≠ d := by
        obtain ⟨f, hf, -⟩ := a6
        rintro rfl
        rw [hmc] at hf
        exact nomatch hf
      have hB := a6.ev (G := G) (W := W1 d 12) e (W1_k (by omega)) (fun w => hta w.1) fun i hi q hq => ⟨fun w => by have := w.2; omega, fun w => by have := w.2; omega⟩
      obtain ⟨f, hf, hc2⟩ := hB
      refine ⟨f, hf, fun i hi => ?_⟩
      have : B i = [] := by
        cases hBi : B i with
        | nil => rfl
        | cons q l => exact absurd ((a9 q).mpr ⟨i, hi, by rw [hBi]; exact List.mem_cons_self⟩) (hE q)
      have h9 := hc2 i hi
      rw [this] at h9
      exact h9
  · rcases hor with ⟨a1, -⟩ | ⟨ta, B, rfl, a2, a3, a4, a5, a6, a7, a8, a9⟩
    · exact absurd a1 ht
    · have hNb := pw_b a4
      have hta : ta ≠ d := by
        obtain ⟨f, hf, -⟩ := a6
        rintro rfl
        rw [hmc] at hf
        exact nomatch hf
      obtain ⟨f, hf, -⟩ := id a6
      have e02 : ev G (Wm D) 0 σ τ2 := (e'.tr (e2.up hDm (Or.inl rfl))).le' (by omega)
      have hf2 := (e.tr e2).a hf fun w => by have := w.2; omega
      refine lp_n (fun n y => ∃ i z f, i ≤ N ∧ n = N - i ∧ y = (some ta, Int32.ofNat i, z) ∧ ev G (W1 ta 106) 0 τ2 z ∧ z.1 ta = some (.inl (6, N, .inr (.inr (.inr (.inr f))))) ∧ ∀ j, j < i → f j = none) N ⟨0, τ2, f, by omega, rfl, rfl, ev.refl e2.t, hf2, fun j hj => by omega⟩ ?_
      rintro n y ⟨i, z, f3, hi, rfl, rfl, ez, hz3, hnone⟩ K' hK'
      unfold wJ1_clearb33
      dsimp only
      refine aL hz3 ?_
      rw [i_le (by omega) (by omega)]
      refine ⟨fun wi => ?_, fun wi => sR (L := [26, 27]) ez.t hz3 (by decide) a3 (by omega) (i := i) (by omega) (Or.inl rfl) fun τ4 w4 e4 => ?_⟩
      · have : i = N := by omega
        subst this
        have hmz : mm τ2 d 12 (some ta) 0 (md + 1) th [] := ⟨Or.inl rfl, _, _, _, w2.1⟩
        refine hK z ((e02.tr (ez.up a2 (by unfold mkd; omega))).le' (by omega)) (mk (hmz.ev ez fun w => hta w.1.symm) hDm (Or.inr ⟨ta, rfl, a2, a3, a4, a5, f3, hz3, fun j hj => ?_⟩))
        exact hnone j hj
      · rw [i_succ]
        refine hK' (N - (i + 1)) _ (by omega) ⟨i + 1, τ4, _, by omega, rfl, rfl, (ez.tr e4).le' (by omega), w4.1, fun j hj => ?_⟩
        by_cases hji : j = i
        · exact if_pos hji
        · exact (if_neg hji).trans (hnone j (by omega))
end CLR
