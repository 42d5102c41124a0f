/-! a ledger's set grows; its dogs' map -/
set_option maxRecDepth 100000
section GRW
variable {G : gE} {σ : hSt} {PX : Nat → Nat → hSt → Prop} {n0 : Nat} {o A : Nat → Nat} {md : Int32} {es : List eT} {g : Nat → Int32}
theorem ok_151 {g g' : Nat → Int32} (h : gOK g) (hg : ∀ i, i < 141 → g' i = g i) : gOK g' := ok_congr h fun i hi => hg i (by omega)
theorem mapS {c s : Nat} {τ : hSt} {g' : Nat → Int32} (h : LG G σ n0 o A md es g) (e : ev G (Wm (oD o n0 (2 + s))) c σ τ) (hH : ∃ N, HS G τ (oD o n0 (2 + s)) (A (8 + s)) (A (11 + s)) (cntB (hb g' s) 240) N (fun x => hb g' s x = true)) (hg : ∀ i, i < 151 → g' i = g i) (ho : ∀ s', s' ≠ s → hb g' s' = hb g s') : LG G τ n0 o A md es g' := by
  have hl12 := h.le12
  obtain ⟨h1, h2, h3, h4, h5, h6, ⟨h7, h7'⟩, h8, h9, h10⟩ := h
  have nk : ∀ k, ¬ mkd k → ∀ b, ¬ Wm (oD o n0 (2 + s)) b k := fun k hk b w => hk w.2
  have hcn : cnt g' = cnt g := by
    unfold cnt
    rw [hg 0 (by omega)]
  refine ⟨ok_151 h1 fun i hi => hg i (by omega), h2, h3.ev e (nk _ (by unfold mkd; omega) _) fun i _ _ => hg i (by omega), h4.ev e (nk _ (by unfold mkd; omega) _) (nk _ (by unfold mkd; omega) _), h5.ev e (fun s _ => nk _ (by unfold mkd; omega) _) fun i _ _ => hg i (by omega), h6.ev e (fun s _ => nk _ (by unfold mkd; omega) _) fun i _ _ => hg i (by omega), ⟨h7.ev e (Wm_k _) fun a k ha _ w => absurd (own_d ha w.1) (by omega), by rw [hcn]; exact h7'⟩, h8.ev hl12 e (fun q _ x _ => nk _ (by unfold mkd; omega) _) fun i _ _ => hg i (by omega), h9.ev e (Wm_k _) (fun a k ha _ w => absurd (own_d ha w.1) (by omega)) fun i _ _ => hg i (by omega), fun s' hs' => ?_⟩
  by_cases hss : s' = s
  · subst hss; exact hH
  · obtain ⟨N, q⟩ := h10 s' hs'
    rw [ho s' hss]
    exact ⟨N, q.ev e (Wm_k _) (fun a k ha _ w => absurd (own_d ha w.1) (by omega)) (nk _ (by unfold mkd; omega) _)⟩
theorem mapD {c : Nat} {τ : hSt} {g' : Nat → Int32} (h : LG G σ n0 o A md es g) (e : ev G (Wm (oD o n0 1)) c σ τ) (hD : lgD G τ (oD o n0 1) (A 2) g') (hg : ∀ i, i < 141 ∨ 151 ≤ i → g' i = g i) : LG G τ n0 o A md es g' := by
  have hl12 := h.le12
  obtain ⟨h1, h2, h3, h4, h5, h6, ⟨h7, h7'⟩, h8, h9, h10⟩ := h
  have nk : ∀ k, ¬ mkd k → ∀ b, ¬ Wm (oD o n0 1) b k := fun k hk b w => hk w.2
  have hcn : cnt g' = cnt g := by
    unfold cnt
    rw [hg 0 (by omega)]
  exact ⟨ok_151 h1 fun i hi => hg i (by omega), h2, h3.ev e (nk _ (by unfold mkd; omega) _) fun i _ _ => hg i (by omega), h4.ev e (nk _ (by unfold mkd; omega) _) (nk _ (by unfold mkd; omega) _), h5.ev e (fun s _ => nk _ (by unfold mkd; omega) _) fun i _ _ => hg i (by omega), h6.ev e (fun s _ => nk _ (by unfold mkd; omega) _) fun i _ _ => hg i (by omega), ⟨h7.ev e (Wm_k _) fun a k ha _ w => absurd (own_d ha w.1) (by omega), by rw [hcn]; exact h7'⟩, h8.ev hl12 e (fun q _ x _ => nk _ (by unfold mkd; omega) _) fun i _ _ => hg i (by omega), hD, h10.ev e (Wm_k _) (fun s _ a k ha _ w => absurd (own_d ha w.1) (by omega)) (fun s _ => nk _ (by unfold mkd; omega) _) fun i _ _ => hg i (by omega)⟩
theorem bool_eq {a b : Bool} (h : a = true ↔ b = true) : a = b := by
  cases a <;> cases b <;> simp at h <;> rfl
theorem hea_k {P : Int32 → hSt → Prop} {s p k t b : Nat} (hS : SI G σ) (h : LG G σ n0 o A md es g) (hn0 : n0 ≤ σ.2.1) (hs : s < 3) (hp : p < 6) (hk : k < 4) (ht : t < 10) (hky : KY σ 9 b (6 * (10 * k + t) + p)) (hb1 : bd G σ 1700) (hP : ∀ v τ o', ev G (Wm (oD o' n0 (2 + s))) 1600 σ τ → LG G τ n0 o' A md es (heaG g s p k t) → P v τ) : rcv σ (some (A (8 + s))) 14 ∧ wJ5_add G P PX (some (A (8 + s))) (some b) σ := by
  have h' := own_k (2 + s) hS h
  obtain ⟨N, hset⟩ := h'.set hs
  have hg : ∀ i, i < 151 → heaG g s p k t i = g i := fun i hi => gu_n (by omega)
  have ho : ∀ s', s' ≠ s → hb (heaG g s p k t) s' = hb g s' := fun s' hss => by
    funext x
    exact bool_eq ((hb_hea hp hk ht).trans ⟨fun w => w.resolve_right fun u => hss u.1, Or.inl⟩)
  have hx240 : 6 * (10 * k + t) + p < 240 := by omega
  refine ⟨rco hset.1, sadd_k hS hset hky cntB_le (fun a ha => own_n hn0 ha) hb1 (fun hx τ e hH => ?_) fun hx τ N' hN1 hN2 e hH => ?_⟩
  · have : hb (heaG g s p k t) s = hb g s := by
      funext x
      exact bool_eq ((hb_hea hp hk ht).trans ⟨fun w => w.elim id fun u => by rw [u.2]; exact hx, Or.inl⟩)
    exact hP 0 τ _ (e.le' (by omega)) (mapS h' e ⟨N, by rw [this]; exact hH⟩ hg ho)
  · have hx' : hb g s (6 * (10 * k + t) + p) = false := by
      cases hh : hb g s (6 * (10 * k + t) + p)
      · rfl
      · exact absurd hh hx
    have hc : cntB (hb (heaG g s p k t) s) 240 = cntB (hb g s) 240 + 1 := cntB_add hx240 hx' ((hb_hea hp hk ht).mpr (Or.inr ⟨rfl, rfl⟩)) fun y hy => bool_eq ((hb_hea hp hk ht).trans ⟨fun w => w.resolve_right fun u => hy u.2, Or.inl⟩)
    refine hP 1 τ _ (e.le' (by omega)) (mapS h' e ⟨N', ?_⟩ hg ho)
    rw [hc]
    exact hH.congr fun y => ((hb_hea hp hk ht).trans ⟨fun w => w.imp id fun u => u.2, fun w => w.imp id fun u => ⟨rfl, u⟩⟩).symm
theorem dput_k {P : Option Nat → hSt → Prop} {t v : Nat} (hS : SI G σ) (h : LG G σ n0 o A md es g) (hn0 : n0 ≤ σ.2.1) (ht : t < 10) (hv : v < 128) (hb1 : bd G σ 1700) (hP : ∀ r τ o', ev G (Wm (oD o' n0 1)) 1600 σ τ → LG G τ n0 o' A md es (gu g (141 + t) (Int32.ofNat v)) → P r τ) : rcv σ (some (A 2)) 12 ∧ wJ1_put G P PX (some (A 2)) (some (gA G (228 + t))) (some (gA G (228 + v))) σ := by
  have h' := own_k 1 hS h
  have hg : ∀ i, i < 141 ∨ 151 ≤ i → gu g (141 + t) (Int32.ofNat v) i = g i := fun i hi => gu_n (by omega)
  obtain ⟨pr, N, E, hH, h1, h2, h3⟩ := h'.2.2.2.2.2.2.2.2.1
  obtain ⟨-, hct⟩ := hS.2.2.2.2.2.2.2 t (by omega)
  obtain ⟨-, hcv⟩ := hS.2.2.2.2.2.2.2 v hv
  have hky : KY σ 25 (gA G (228 + t)) t := Or.inr (Or.inr ⟨rfl, by omega, hct⟩)
  have hn := cntB_le (p := pr) (n := 10)
  have h25 : ∀ {W : Nat → Prop} {c : Nat} {τ : hSt} {y : Nat} {fs : List Value}, ev G (Wm W) c σ τ → σ.1 y = some (.inr (25, fs)) → τ.1 y = some (.inr (25, fs)) := fun e hy => e.o hy (fun w => by have := w.2; unfold mkd at this; omega) (by decide) (by decide)
  refine ⟨hH.rc, puT_k hS hH hky (by omega) (fun a ha => own_n hn0 ha) hb1 (fun q hq hx τ e hH' => ?_) fun hno τ a N' hN1 hN2 e hH' hNa => ?_⟩
  · refine hP _ τ _ (e.le' (by omega)) (mapD h' e ⟨pr, N, _, hH', fun t' => ?_, fun q' hq' => ?_, fun t' ht' hpt => ?_⟩ hg)
    · rw [h1]
      constructor
      · rintro ⟨q2, u1, rfl⟩
        by_cases u2 : q2.2.1 = t
        · exact ⟨_, Or.inr rfl, by rw [u2]; exact hx⟩
        · exact ⟨q2, Or.inl ⟨u1, u2⟩, rfl⟩
      · rintro ⟨q2, ⟨u1, -⟩ | rfl, u3⟩
        · exact ⟨q2, u1, u3⟩
        · exact ⟨q, hq, u3⟩
    · rcases hq' with ⟨u1, u2⟩ | rfl
      · obtain ⟨w1, w2, v', w3, w4⟩ := h2 q' u1
        exact ⟨w1, w2.ev e, v', w3, by rw [gu_n (by omega)]; exact h25 e w4⟩
      · obtain ⟨w1, w2, -⟩ := h2 q hq
        refine ⟨w1, w2.ev e, _, rfl, ?_⟩
        rw [show 141 + (q.1, q.2.1, q.2.2.1, some (gA G (228 + v))).2.1 = 141 + t from congrArg _ hx, gu_s]
        exact h25 e hcv
    · have : t' ≠ t := by
        rintro rfl
        have := (h1 t').mpr ⟨q, hq, hx⟩
        rw [hpt] at this
        exact nomatch this
      rw [gu_n (by omega)]
      exact h3 t' ht' hpt
  · have hpt : pr t = false := by
      cases hh : pr t
      · rfl
      · obtain ⟨q, hq, hx⟩ := (h1 t).mp hh
        exact absurd hx (hno q hq)
    have hc : cntB (fun t' => pr t' || decide (t' = t)) 10 = cntB pr 10 + 1 := cntB_add ht hpt (by simp) fun y hy => by simp [hy]
    refine hP _ τ _ (e.le' (by omega)) (mapD h' e ⟨fun t' => pr t' || decide (t' = t), N', _, by rw [hc]; exact hH', fun t' => ?_, fun q' hq' => ?_, fun t' ht' hp' => ?_⟩ hg)
    · rw [Bool.or_eq_true, h1, decide_eq_true_iff]
      constructor
      · rintro (⟨q2, u1, u2⟩ | rfl)
        · exact ⟨q2, Or.inl u1, u2⟩
        · exact ⟨_, Or.inr rfl, rfl⟩
      · rintro ⟨q2, u1 | rfl, u3⟩
        · exact Or.inl ⟨q2, u1, u3⟩
        · exact Or.inr u3.symm
    · rcases hq' with u1 | rfl
      · obtain ⟨w1, w2, v', w3, w4⟩ := h2 q' u1
        have := hno q' u1
        exact ⟨w1, w2.ev e, v', w3, by rw [gu_n (by omega)]; exact h25 e w4⟩
      · refine ⟨ht, hNa, _, rfl, ?_⟩
        show τ.1 (gA G (228 + v)) = some (.inr (25, [.int (gu g (141 + t) (Int32.ofNat v) (141 + t))]))
        rw [gu_s]
        exact h25 e hcv
    · rw [Bool.or_eq_false_iff] at hp'
      have : t' ≠ t := by simpa using hp'.2
      rw [gu_n (by omega)]
      exact h3 t' ht' hp'.1
end GRW
