/-! the first ledger -/
set_option maxRecDepth 100000
/-- the first numbers -/
def g00 : Nat → Int32 := fun i => if 114 ≤ i ∧ i < 120 then 20 else if 132 ≤ i ∧ i < 135 then 5 else 0
theorem hb_0 {s x : Nat} (hs : s < 3) : hb g00 s x = false := by
  cases h : hb g00 s x
  · rfl
  · obtain ⟨h1, h2⟩ := hb_iff.mp h
    unfold hbit g00 at h2
    rw [if_neg (by omega), if_neg (by omega)] at h2
    have : ∀ k : Int32, ¬ ((0 : Int32) >>> k) &&& 1 = 1 := fun k => by
      rw [Int32.zero_shiftRight]; decide
    exact absurd h2 (this _)
theorem cntB_f {p : Nat → Bool} {n : Nat} (h : ∀ x, p x = false) : cntB p n = 0 := by
  induction n with
  | zero => rfl
  | succ n ih => rw [cntB_s, ih, h n]; rfl
section FST
variable {G : gE} {σ : hSt} {PX : Nat → Nat → hSt → Prop} {P : Option Nat → hSt → Prop} {a m d as ap c0 : Nat} {z0 : hSt}
theorem fsP_k {v4 v5 v6 v7 v8 : Value} (e0 : ev G W0 c0 σ z0) (hL : z0.1 a = some (.inr (1, [va_rf (some m), va_rf (some d), va_rf (some as), va_rf (some ap), v4, v5, v6, v7, v8])))
    (hap : z0.1 ap = some (.inl (8, 6, .inr (.inr (.inr (.inr fun _ => none)))))) (hapσ : σ.2.1 ≤ ap) (hX : ¬ gX G ap) (hb : bd G σ (c0 + 100))
    (hK : ∀ z pa f, ev G W0 (c0 + 24) σ z → ev G (W1 ap 108) 24 z0 z → z.1 ap = some (.inl (8, 6, .inr (.inr (.inr (.inr f))))) → (∀ p, p < 6 → pcF z g00 σ.2.1 f pa p) → (∀ p p', p < p' → p' < 6 → pa p < pa p') → P (some a) z) : lpI (fun (K36 : (Option Nat × Int32 × hSt) → Prop) (y : (Option Nat × Int32 × hSt)) => wX2_firstb36 G P PX K36 (y.1) (y.2.1) (y.2.2)) (some a, 0, z0) := by
  refine lp_n (fun n y => ∃ j z pa f, j ≤ 6 ∧ n = 6 - j ∧ y = (some a, Int32.ofNat j, z) ∧ ev G W0 (c0 + 4 * j) σ z ∧ ev G (W1 ap 108) (4 * j) z0 z ∧ z.1 ap = some (.inl (8, 6, .inr (.inr (.inr (.inr f))))) ∧ (∀ p, p < j → pcF z g00 σ.2.1 f pa p) ∧ ∀ p p', p < p' → p' < j → pa p < pa p') 6 ⟨0, z0, id, _, by omega, rfl, rfl, e0, (ev.refl e0.t).le' (by omega), hap, fun s hs => by omega, fun p p' _ w => by omega⟩ ?_
  rintro n y ⟨j, z, pa, f, hj, rfl, rfl, ez, ez0, hf, hpc, hpm⟩ K hK'
  unfold wX2_firstb36
  dsimp only
  have hLz := ez0.o hL (fun w => by have := w.2; omega) (by decide) (by decide)
  rw [show (6 : Int32) = Int32.ofNat 6 from rfl, i_le (by omega) (by omega)]
  refine ⟨fun w => ?_, fun w => gR hLz (by decide) rfl (nO ez.t (ez.rm hb (by omega)) (fun w => by omega) fun b τ n hXb e1 => ⟨⟨b, rfl⟩, ?_⟩)⟩
  · have : j = 6 := by omega
    subst this
    exact hK z pa f (ez.le' (by omega)) (ez0.le' (by omega)) hf hpc hpm
  · unfold wX4_init wX4_initb0
    have hbz : z.2.1 ≤ b := by rw [n.1]; exact Nat.le_refl _
    refine ⟨⟨b, rfl⟩, pO e1.t n.2.1 (by decide) (by simp) (by decide) fun τ1 w1 e2 => ?_⟩
    have e12' : ev G W0 4 z τ1 := (e1.f1 e2 hbz).le' (by omega)
    have hbc := w1.1
    have hf1 := e12'.a hf fun w => w
    refine sR (L := [3]) e2.t hf1 (by decide) hX (by omega) (i := j) (by omega) (Or.inr ⟨b, 3, _, rfl, hbc, by decide⟩) fun τ2 w2 e3 => ?_
    have e12 : ev G (W1 ap 108) 4 z τ2 := (e12'.up0.tr e3).le' (by omega)
    have hle := ez.le
    rw [i_succ]
    refine hK' (6 - (j + 1)) _ (by omega) ⟨j + 1, τ2, un pa j b, _, by omega, rfl, rfl, ((ez.tr e12').fr e3 fun b k w => by rw [w.1]; exact hapσ).le' (by omega), (ez0.tr e12).le' (by omega), w2.1, fun p hp => ?_, fun p p' h1 h2 => ?_⟩
    · by_cases hpj : p = j
      · subst hpj
        unfold pcF
        rw [un_s]
        refine ⟨if_pos rfl, ?_, by omega⟩
        have hv : g00 (114 + p) = 20 ∧ g00 (120 + p) = 0 ∧ g00 (126 + p) = 0 := by
          unfold g00
          rw [if_pos (by omega), if_neg (by omega), if_neg (by omega), if_neg (by omega), if_neg (by omega)]
          exact ⟨rfl, rfl, rfl⟩
        rw [hv.1, hv.2.1, hv.2.2]
        exact e3.o hbc (fun w => by have := w.2; omega) (by decide) (by decide)
      · obtain ⟨q1, q2, q3⟩ := (hpc p (by omega)).ev e12 fun w => by have := w.2; omega
        unfold pcF
        rw [un_n hpj]
        exact ⟨(if_neg hpj).trans q1, q2, q3⟩
    · by_cases hpj : p' = j
      · subst hpj
        rw [un_s, un_n (by omega)]
        have := ez.t.lt (hpc p (by omega)).2.1
        omega
      · rw [un_n hpj, un_n (by omega)]
        exact hpm p p' h1 (by omega)
theorem fsS_k {v4 v5 v6 v7 v8 : Value} (e0 : ev G W0 c0 σ z0) (hL : z0.1 a = some (.inr (1, [va_rf (some m), va_rf (some d), va_rf (some as), va_rf (some ap), v4, v5, v6, v7, v8])))
    (has : z0.1 as = some (.inl (7, 3, .inr (.inr (.inr (.inr fun _ => none)))))) (hasσ : σ.2.1 ≤ as) (hX : ¬ gX G as) (hb : bd G σ (c0 + 100))
    (hK : ∀ z sa ha ma bs f, ev G W0 (c0 + 48) σ z → ev G (W1 as 107) 48 z0 z → z.1 as = some (.inl (7, 3, .inr (.inr (.inr (.inr f))))) → (∀ s, s < 3 → scF G z g00 f sa ha ma bs s) → bs 0 = z0.2.1 → bs 3 ≤ z.2.1 → lpI (fun (K36 : (Option Nat × Int32 × hSt) → Prop) (y : (Option Nat × Int32 × hSt)) => wX2_firstb36 G P PX K36 (y.1) (y.2.1) (y.2.2)) (some a, 0, z)) : lpI (fun (K10 : (Option Nat × Int32 × hSt) → Prop) (y : (Option Nat × Int32 × hSt)) => wX2_firstb10 G P PX K10 (y.1) (y.2.1) (y.2.2)) (some a, 0, z0) := by
  refine lp_n (fun n y => ∃ j z sa ha ma bs f, j ≤ 3 ∧ n = 3 - j ∧ y = (some a, Int32.ofNat j, z) ∧ ev G W0 (c0 + 16 * j) σ z ∧ ev G (W1 as 107) (16 * j) z0 z ∧ z.1 as = some (.inl (7, 3, .inr (.inr (.inr (.inr f))))) ∧ (∀ s, s < j → scF G z g00 f sa ha ma bs s) ∧ bs 0 = z0.2.1 ∧ bs j ≤ z.2.1) 3 ⟨0, z0, id, id, id, fun _ => z0.2.1, _, by omega, rfl, rfl, e0, (ev.refl e0.t).le' (by omega), has, fun s hs => by omega, rfl, Nat.le_refl _⟩ ?_
  rintro n y ⟨j, z, sa, ha, ma, bs, f, hj, rfl, rfl, ez, ez0, hf, hsc, hb0, hbj⟩ K hK'
  unfold wX2_firstb10
  dsimp only
  have hLz := ez0.o hL (fun w => by have := w.2; omega) (by decide) (by decide)
  rw [show (3 : Int32) = Int32.ofNat 3 from rfl, i_le (by omega) (by omega)]
  refine ⟨fun w => ?_, fun w => gR hLz (by decide) rfl (nO ez.t (ez.rm hb (by omega)) (fun w => by omega) fun b τ0 n hXb e1 => ⟨⟨b, rfl⟩, ?_⟩)⟩
  · have : j = 3 := by omega
    subst this
    exact hK z sa ha ma bs f (ez.le' (by omega)) (ez0.le' (by omega)) hf hsc hb0 hbj
  · have hbz : z.2.1 ≤ b := by rw [n.1]; exact Nat.le_refl _
    refine schI (D := fun x => z.2.1 ≤ x) e1.t n.2.1 ((ez.tr e1).rm hb (by omega)) (fun x hx => Nat.le_trans e1.le hx) fun τ h' m' e2 hh1 hm1 hbc hS1 => ?_
    have e12' : ev G W0 16 z τ := (e1.f1 e2 hbz).le' (by omega)
    have hf1 := e12'.a hf fun w => w
    refine sR (L := [2]) e2.t hf1 (by decide) hX (by omega) (i := j) (by omega) (Or.inr ⟨b, 2, _, rfl, hbc, by decide⟩) fun τ2 w2 e3 => ?_
    have e12 : ev G (W1 as 107) 16 z τ2 := (e12'.up0.tr e3).le' (by omega)
    have hasz := ez.le
    have he1 := e1.le
    rw [i_succ]
    have hbt : b < τ.2.1 := e2.t.lt hbc
    have hht : h' < τ.2.1 := e2.t.lt hS1.1
    have hmt : m' < τ.2.1 := by
      obtain ⟨-, E, ⟨t, mdd, th, ⟨-, k0, k1, k3, h1⟩, -⟩, -⟩ := hS1
      exact e2.t.lt h1
    have nmk : ∀ k, mkd k → k ≠ 107 := fun k hk => by unfold mkd at hk; omega
    refine hK' (3 - (j + 1)) _ (by omega) ⟨j + 1, τ2, un sa j b, un ha j h', un ma j m', un bs (j + 1) τ.2.1, _, by omega, rfl, rfl, ((ez.tr e12').fr e3 fun b k w => by rw [w.1]; exact hasσ).le' (by omega), (ez0.tr e12).le' (by omega), w2.1, fun s hs => ?_, ?_, ?_⟩
    · by_cases hsj : s = j
      · subst hsj
        unfold scF
        rw [un_s, un_s, un_s, un_s, un_n (by omega)]
        have h2 := (hS1.res e2.t).ev e3 (W1_k (by omega)) (fun x k _ hk w => nmk k hk w.2) fun w => by have := w.2; omega
        have hv : g00 (132 + s) = 5 ∧ g00 (135 + s) = 0 ∧ g00 (138 + s) = 0 := by
          unfold g00
          rw [if_neg (by omega), if_pos (by omega), if_neg (by omega), if_neg (by omega), if_neg (by omega), if_neg (by omega)]
          exact ⟨rfl, rfl, rfl⟩
        rw [hv.1, hv.2.1, hv.2.2, cntB_f fun x => hb_0 (by omega)]
        exact ⟨if_pos rfl, e3.o hbc (fun w => by have := w.2; omega) (by decide) (by decide), ⟨by omega, by omega, by omega⟩, by have := e12'.le; omega, ⟨hbt, hht, hmt⟩, 0, (h2.mono fun x hx => ⟨by have := hx.1; omega, hx.2⟩).congr fun x => ⟨fun w => w.elim, fun w => by rw [hb_0 (by omega)] at w; exact nomatch w⟩⟩
      · refine ((hsc s (by omega)).ev e12 (W1_k (by omega)) fun b _ _ => ⟨fun w => by have := w.2; omega, fun w => by have := w.2; omega, fun k hk w => nmk k hk w.2⟩).un (by omega) (if_neg hsj)
    · rw [un_n (by omega)]; exact hb0
    · rw [un_s]; exact e3.le
theorem ok_00 : gOK g00 := ⟨⟨by decide, by decide⟩, fun e he => by
  have : cnt g00 = 0 := by decide
  omega⟩
theorem first_k (hS : SI G σ) (hb : bd G σ 300) (hP : ∀ τ o' A' md' es', ev G W0 200 σ τ → LG G τ σ.2.1 o' A' md' es' g00 → P (some (A' 0)) τ) : wX2_first G P PX σ := by
  unfold wX2_first wX2_firstb0
  refine nO hS (hb.mono (by omega)) (fun w => by omega) fun a τ n hX e1 => ⟨⟨a, rfl⟩, linit_k e1.t n.2.1 (e1.rm hb (by omega)) fun z0 m d as ap e2 hm hd has hap hL hmm hdd hasc hapc hXs hXp => ?_⟩
  have ha : σ.2.1 ≤ a := by rw [n.1]; exact Nat.le_refl _
  have e0 : ev G W0 50 σ z0 := (e1.f1 e2 ha).le' (by omega)
  have hmlt : m < z0.2.1 := by
    obtain ⟨-, k0, k1, k3, h1⟩ := hmm
    exact e2.t.lt h1
  have hdlt : d < z0.2.1 := by
    obtain ⟨-, k0, k1, k3, h1⟩ := hdd
    exact e2.t.lt h1
  have hσ1 := e1.le
  refine fsS_k e0 hL hasc (by omega) hXs (hb.mono (by omega)) fun z3 sa ha' ma bs f g3 g23 hf3 hsc hb0 hb3 => ?_
  have hL3 := g23.o hL (fun w => by have := w.2; omega) (by decide) (by decide)
  have hap3 := g23.a hapc fun w => by have := w.2; omega
  refine fsP_k g3 hL3 hap3 (by omega) hXp (hb.mono (by omega)) fun z4 pa fp g4 g34 hf4 hpc hpm => ?_
  have hL4 := g34.o hL3 (fun w => by have := w.2; omega) (by decide) (by decide)
  have hm4 := (hmm.ev g23 fun w => by have := w.2; omega).ev g34 fun w => by have := w.2; omega
  have hd4 := (hdd.ev g23 fun w => by have := w.2; omega).ev g34 fun w => by have := w.2; omega
  have hz : ∀ t, t < 10 → g00 (141 + t) = 0 := by decide
  obtain ⟨o', A', hA', hLG⟩ := mkLG (G := G) (τ := z4) (n0 := σ.2.1) (a := a) (m := m) (d := d) (as := as) (ap := ap) (lx := z0.2.1) (hx := z0.2.1) (hd := z0.2.1) (sa := sa) (ha := ha') (ma := ma) (bs := bs) (pa := pa) (f := f) (fp := fp) (md := 0) (es := []) (g := g00) ok_00 hL4 (hm4.LM ⟨Or.inl rfl, hmlt⟩) (by decide) (fun i q hq => by simp at hq) List.nodup_nil ⟨fun _ => false, 0, _, hd4.HM ⟨Or.inl rfl, hdlt⟩, fun t => ⟨fun w => (nomatch w), fun ⟨_, w, _⟩ => w.elim⟩, fun _ w => w.elim, fun t ht _ => hz t ht⟩ (g34.a hf3 fun w => by have := w.2; omega) hf4 (fun s hs => (hsc s hs).ev g34 (W1_k (by omega)) fun b _ _ => ⟨fun w => by have := w.2; omega, fun w => by have := w.2; omega, fun k hk w => by have := w.2; unfold mkd at hk; omega⟩) hb0 hpc hpm ⟨ha, by omega, by omega, by omega, by omega⟩ ⟨hmlt, hdlt, Nat.le_refl _, Nat.le_refl _⟩
  rw [← hA']
  exact hP z4 o' A' 0 [] (g4.le' (by omega)) hLG
end FST
