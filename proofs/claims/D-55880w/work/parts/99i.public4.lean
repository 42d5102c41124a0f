/-! the object is asked: the best, who would believe -/
set_option maxRecDepth 100000
section PU4
variable {G : gE} {σ : hSt} {PX : Nat → Nat → hSt → Prop} {P : Int32 → hSt → Prop} {n0 : Nat} {o A : Nat → Nat} {md : Int32} {es : List eT} {g : Nat → Int32} {x : Nat}
theorem q_best {v w : Int32} (hS : SI G σ) (hO : OB σ x (A 0)) (h : LG G σ n0 o A md es g) (hb : bd G σ 1200) (hX : ¬ (isP v ∧ isS w) → XC G σ PX 32) (hN : ∀ p s : Nat, v = Int32.ofNat p → p < 6 → w = Int32.ofNat s → s < 3 → bsN g p s (cnt g) = none → ∀ τ q, ev G W0 1107 σ τ → τ.1 q = some (.inr (28, [])) → PX 28 q τ) (hP : ∀ p s e τ, v = Int32.ofNat p → p < 6 → w = Int32.ofNat s → s < 3 → bsN g p s (cnt g) = some e → ev G W0 1100 σ τ → P (Int32.ofNat e) τ) : wX1_best G P PX (some x) v w σ := by
  have h12 := h.ok.1.1
  have no : ¬ (isP v ∧ isS w) → wX1_bestb18 G P PX (some x) v w σ := fun u => by
    unfold wX1_bestb18 wX1_bestb19
    exact chkI_k hS (hb.mono (by omega)) (fun z => absurd rfl z) fun _ => hX u
  unfold wX1_best wX1_bestb0
  refine isPup_k (fun c1 => ⟨fun u => absurd u n10, fun _ => isSch_k (fun c2 => ⟨fun u => absurd u n10, fun _ => ?_⟩) fun c2 => ⟨fun _ => no fun u => c2 u.2, fun u => absurd rfl u⟩⟩) fun c1 => ⟨fun _ => no fun u => c1 u.1, fun u => absurd rfl u⟩
  obtain ⟨p, hp, rfl⟩ := i_of (n := 5) c1.1 c1.2 (by omega)
  obtain ⟨s, hs, rfl⟩ := i_of (n := 2) c2.1 c2.2 (by omega)
  unfold wX1_bestb19
  refine chkI_k hS (hb.mono (by omega)) (fun _ => hO.L ⟨h.rc, best_k hS h hb (by omega) (by omega) fun τ e => ?_⟩) fun u => absurd u n10
  cases hbs : bsN g p s (cnt g) with
  | none => exact found_k e.t (e.rm hb (by omega)) (fun u => absurd rfl u) fun _ τ2 q e2 hq => hN p s rfl (by omega) rfl (by omega) hbs τ2 q (e.tr e2) hq
  | some i =>
    have := bsN_lt _ _ hbs
    exact found_k e.t (e.rm hb (by omega)) (fun _ => hP p s i τ rfl (by omega) rfl (by omega) hbs e) fun u => absurd u (nat_m1 (by omega))
theorem q_believers {v k t : Int32} (hS : SI G σ) (hO : OB σ x (A 0)) (h : LG G σ n0 o A md es g) (hb : bd G σ 40) (hX : ¬ isP v → XC G σ PX 32) (hA : isP v → ¬ isX k t → XC G σ PX 29) (hE : isP v → isX k t → noF g k t → ∀ τ q, ev G W0 10 σ τ → τ.1 q = some (.inr (28, [])) → PX 28 q τ) (hP : ∀ p e τ, v = Int32.ofNat p → p < 6 → isX k t → isF g k t e → ev G W0 12 σ τ → P (nBel g p e) τ) : wX1_believers G P PX (some x) v k t σ := by
  unfold wX1_believers wX1_believersb0
  refine isPup_k (fun c1 => chkI_k hS (hb.mono (by omega)) (fun _ => hO.L ⟨hO.rc, cexc_k hS hO h (hb.mono (by omega)) (hA c1) (hE c1) fun e τ hx he e1 h1 hxE => ⟨h1.rc, ?_⟩⟩) fun u => absurd u n10) fun c1 => chkI_k hS (hb.mono (by omega)) (fun u => absurd rfl u) fun _ => hX c1
  obtain ⟨p, hp, rfl⟩ := i_of (n := 5) c1.1 c1.2 (by omega)
  exact believers_k e1.t h1 (by omega) hxE (e1.rm hb (by omega)) fun τ2 e2 => hP p e τ2 rfl (by omega) hx he (e1.tr e2)
end PU4
