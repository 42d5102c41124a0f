/-! the object is asked: an excuse's numbers, a pupil's, what stands at a place -/
set_option maxRecDepth 100000
section PU5
variable {G : gE} {σ : hSt} {PX : Nat → Nat → hSt → Prop} {P : Int32 → hSt → Prop} {n0 : Nat} {o A : Nat → Nat} {md : Int32} {es : List eT} {g : Nat → Int32} {x : Nat}
theorem num_k {e a : Nat} {w : Int32} (h : xE σ es g e a) (h0 : ¬ w < 0) (h7 : ¬ 7 < w) (hP : ∀ r, exc g e w r → P r σ) : wX8_number G P PX (some a) w (Int32.ofNat e) σ := by
  obtain ⟨q, -, -, hc⟩ := h
  obtain ⟨j, hj, rfl⟩ := i_of (n := 7) h0 h7 (by omega)
  unfold wX8_number wX8_numberb0
  have hj6 : ∀ i, i < 6 → Int32.ofNat j = Int32.ofNat i → exc g e (Int32.ofNat j) (g (30 + 12 * i + e)) := fun i hi he => Or.inr (Or.inr ⟨i, hi, he, rfl⟩)
  refine ⟨fun u => gI hc (by decide) rfl (hP _ (hj6 0 (by omega) u)), fun u => gI hc (by decide) rfl (hP _ (hj6 1 (by omega) u)), fun u => gI hc (by decide) rfl (hP _ (hj6 2 (by omega) u)), fun u => gI hc (by decide) rfl (hP _ (hj6 3 (by omega) u)), fun u => gI hc (by decide) rfl (hP _ (hj6 4 (by omega) u)), fun u => gI hc (by decide) rfl (hP _ (hj6 5 (by omega) u)), fun u => gI hc (by decide) rfl (hP _ (Or.inr (Or.inl ⟨u, rfl⟩))), fun u => hP _ (Or.inl ⟨?_, rfl⟩)⟩
  have : j = 0 ∨ j = 1 ∨ j = 2 ∨ j = 3 ∨ j = 4 ∨ j = 5 ∨ j = 6 ∨ j = 7 := by omega
  rcases this with rfl | rfl | rfl | rfl | rfl | rfl | rfl | rfl
  · exact absurd (by decide) u
  · exact absurd (by decide) u
  · exact absurd (by decide) u
  · exact absurd (by decide) u
  · exact absurd (by decide) u
  · exact absurd (by decide) u
  · exact absurd (by decide) u
  · rfl
theorem q_excuseOf {k t w : Int32} (hS : SI G σ) (hO : OB σ x (A 0)) (h : LG G σ n0 o A md es g) (hb : bd G σ 700) (hX : ¬ (isX k t ∧ (¬ w < 0 ∧ ¬ 7 < w)) → XC G σ PX 29) (hE : isX k t → ¬ w < 0 → ¬ 7 < w → noF g k t → ∀ τ q, ev G W0 10 σ τ → τ.1 q = some (.inr (28, [])) → PX 28 q τ) (hP : ∀ e r τ, isX k t → ¬ w < 0 → ¬ 7 < w → isF g k t e → exc g e w r → ev G W0 503 σ τ → P r τ) : wX1_excuseOf G P PX (some x) k t w σ := by
  unfold wX1_excuseOf wX1_excuseOfb0
  refine isIn_k (fun c1 => chkA_k hS (hb.mono (by omega)) (fun _ => ⟨hO.rc, cexc_k hS hO h (hb.mono (by omega)) (fun c2 => hX fun u => c2 u.1) (fun hx hno => hE hx c1.1 c1.2 hno) fun e τ hx he e1 h1 hxE => ?_⟩) fun u => absurd u n10) fun c1 => chkA_k hS (hb.mono (by omega)) (fun u => absurd rfl u) fun _ => hX fun u => c1 u.2
  have hO1 : OB τ x (A 0) := by
    obtain ⟨fs, a1, a2, a3⟩ := hO
    exact ⟨fs, e1.o a1 (fun w => w) (by decide) (by decide), a2, a3⟩
  refine hO1.L ⟨h1.rc, place_k e1.t h1 (e1.rm hb (by omega)) he.1 fun τ2 e2 => ?_⟩
  have h2 := h1.ev e2 W0_g
  have hx2 := h2.xae he.1
  obtain ⟨q, -, -, hc⟩ := id hx2
  exact ⟨rco hc, num_k hx2 c1.1 c1.2 fun r hr => hP e r τ2 hx c1.1 c1.2 he hr ((e1.tr e2).le' (by omega))⟩
theorem q_pupilOf {v w : Int32} (hS : SI G σ) (hO : OB σ x (A 0)) (h : LG G σ n0 o A md es g) (hb : bd G σ 600) (hX : ¬ isP v → XC G σ PX 32) (hA : isP v → w ∉ ([0, 1, 2, 3, 4, 5] : List Int32) → XC G σ PX 29) (hP : ∀ p r τ, v = Int32.ofNat p → p < 6 → pup g p w r → ev G W0 510 σ τ → P r τ) : wX1_pupilOf G P PX (some x) v w σ := by
  unfold wX1_pupilOf wX1_pupilOfb0
  refine isPup_k (fun c1 => chkI_k hS (hb.mono (by omega)) (fun _ => isIn_k (fun c2 => chkA_k hS (hb.mono (by omega)) (fun _ => ?_) fun u => absurd u n10) fun c2 => chkA_k hS (hb.mono (by omega)) (fun u => absurd rfl u) fun _ => hA c1 fun u => c2 ?_) fun u => absurd u n10) fun c1 => chkI_k hS (hb.mono (by omega)) (fun u => absurd rfl u) fun _ => hX c1
  · obtain ⟨p, hp, rfl⟩ := i_of (n := 5) c1.1 c1.2 (by omega)
    have hp6 : p < 6 := by omega
    have hpu := h.pup hp6
    have hP' := fun r τ => hP p r τ rfl hp6
    have e0 : ev G W0 510 σ σ := (ev.refl hS).le' (by omega)
    refine hO.L (h.aP hp6 ⟨fun u => gI hpu (by decide) rfl (hP' _ σ (Or.inl ⟨u, rfl⟩) e0), fun u => hO.L ⟨h.rc, owned_k hS h (hb.mono (by omega)) fun τ e => hP' _ τ (Or.inr (Or.inl ⟨u, rfl⟩)) (e.le' (by omega))⟩, fun u => hO.L ⟨h.rc, held_k hS h hb fun τ a arr md' e ha hA => ⟨hA.rc, al_size hA ?_⟩⟩, fun u => gI hpu (by decide) rfl (hP' _ σ (Or.inr (Or.inr (Or.inr (Or.inl ⟨u, rfl⟩)))) e0), fun u => gI hpu (by decide) rfl (hP' _ σ (Or.inr (Or.inr (Or.inr (Or.inr (Or.inl ⟨u, rfl⟩))))) e0), fun u => hO.L ⟨h.rc, held_k hS h hb fun τ a arr md' e ha hA => worn_k h e hA (fun e he => (pl_in.mp he).1) hb fun τ2 e2 => ?_⟩⟩)
    · rw [List.length_map, len_pl]
      refine hP' _ τ (Or.inr (Or.inr (Or.inl ⟨u, ?_⟩))) (e.le' (by omega))
      exact sN_congr fun i _ => by
        by_cases z : g (66 + i) = Int32.ofNat p
        · rw [tw_1 z, tw_1 ⟨z, fun y => absurd rfl y⟩]
        · rw [tw_0 z, tw_0 fun y => z y.1]
    · rw [lS_pl]
      refine hP' _ τ2 (Or.inr (Or.inr (Or.inr (Or.inr (Or.inr ⟨?_, ?_⟩))))) e2
      · obtain ⟨j, hj, rfl⟩ := i_of (n := 5) c2.1 c2.2 (by omega)
        have : j = 0 ∨ j = 1 ∨ j = 2 ∨ j = 3 ∨ j = 4 ∨ j = 5 := by omega
        rcases this with rfl | rfl | rfl | rfl | rfl | rfl
        · exact absurd (by decide) u
        · exact absurd (by decide) u
        · exact absurd (by decide) u
        · exact absurd (by decide) u
        · exact absurd (by decide) u
        · rfl
      · exact sN_congr fun i _ => by
          by_cases z : g (66 + i) = Int32.ofNat p
          · rw [twl_1 z]
            by_cases y : lft g i = 0
            · rw [tw_1 y, tw_1 ⟨z, fun _ => y⟩]
            · rw [tw_0 y, tw_0 fun q => y (q.2 (by decide))]
          · rw [twl_0 z, tw_0 fun q => z q.1]
  · have hw : w = 0 ∨ w = 1 ∨ w = 2 ∨ w = 3 ∨ w = 4 ∨ w = 5 := by simpa using u
    rcases hw with rfl | rfl | rfl | rfl | rfl | rfl <;> exact ⟨by decide, by decide⟩
end PU5
