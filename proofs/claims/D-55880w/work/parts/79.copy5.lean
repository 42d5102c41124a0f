/-! copies: the schools, the pupils, one after another -/
set_option maxRecDepth 100000
def un (f : Nat → Nat) (i v : Nat) : Nat → Nat := fun j => if j = i then v else f j
theorem un_s {f : Nat → Nat} {i v : Nat} : un f i v i = v := if_pos rfl
theorem un_n {f : Nat → Nat} {i j v : Nat} (h : j ≠ i) : un f i v j = f j := if_neg h
theorem scF.un {G : gE} {z : hSt} {g : Nat → Int32} {f f' : Nat → Option Nat} {sa ha ma bs : Nat → Nat} {s j a h m b : Nat} (hh : scF G z g f sa ha ma bs s) (hs : s < j) (hf : f' s = f s) : scF G z g f' (un sa j a) (un ha j h) (un ma j m) (un bs (j + 1) b) s := by
  unfold scF at *
  rw [un_n (by omega), un_n (by omega), un_n (by omega), un_n (by omega), un_n (by omega), hf]
  exact hh
section CP5
variable {G : gE} {σ : hSt} {PX : Nat → Nat → hSt → Prop} {P : Option Nat → hSt → Prop} {n0 : Nat} {o A : Nat → Nat} {md : Int32} {es : List eT} {g : Nat → Int32} {a m d as ap c0 : Nat} {z0 : hSt}
theorem hb_240 {s x : Nat} (h : hb g s x = true) : x < 240 := (hb_iff.mp h).1
theorem cpS_k {v4 v5 v6 v7 v8 : Value} (e0 : ev G W0 c0 σ z0) (h : LG G σ n0 o A md es g) (hL : z0.1 a = some (.inr (1, [va_rf (some m), va_rf (some d), va_rf (some as), va_rf (some ap), v4, v5, v6, v7, v8])))
    (has : z0.1 as = some (.inl (7, 3, .inr (.inr (.inr (.inr fun _ => none)))))) (hasσ : σ.2.1 ≤ as) (hX : ¬ gX G as) (hb : bd G σ (c0 + 16000))
    (hK : ∀ z sa ha ma bs f, ev G W0 (c0 + 8400) σ z → ev G (W1 as 107) 8400 z0 z → z.1 as = some (.inl (7, 3, .inr (.inr (.inr (.inr f))))) → (∀ s, s < 3 → scF G z g f sa ha ma bs s) → bs 0 = z0.2.1 → bs 3 ≤ z.2.1 → lpI (fun (K100 : (Option Nat × Option Nat × Int32 × hSt) → Prop) (y : (Option Nat × Option Nat × Int32 × hSt)) => wX2_copyb100 G P PX K100 (y.1) (y.2.1) (y.2.2.1) (y.2.2.2)) (some (A 0), some a, 0, z)) : lpI (fun (K72 : (Option Nat × Option Nat × Int32 × hSt) → Prop) (y : (Option Nat × Option Nat × Int32 × hSt)) => wX2_copyb72 G P PX K72 (y.1) (y.2.1) (y.2.2.1) (y.2.2.2)) (some (A 0), some a, 0, z0) := by
  refine lp_n (fun n y => ∃ j z sa ha ma bs f, j ≤ 3 ∧ n = 3 - j ∧ y = (some (A 0), some a, Int32.ofNat j, z) ∧ ev G W0 (c0 + 2800 * j) σ z ∧ ev G (W1 as 107) (2800 * j) z0 z ∧ z.1 as = some (.inl (7, 3, .inr (.inr (.inr (.inr f))))) ∧ (∀ s, s < j → scF G z g f sa ha ma bs s) ∧ bs 0 = z0.2.1 ∧ bs j ≤ z.2.1) 3 ⟨0, z0, id, id, id, fun _ => z0.2.1, _, by omega, rfl, rfl, e0, (ev.refl e0.t).le' (by omega), has, fun s hs => by omega, rfl, Nat.le_refl _⟩ ?_
  rintro n y ⟨j, z, sa, ha, ma, bs, f, hj, rfl, rfl, ez, ez0, hf, hsc, hb0, hbj⟩ K hK'
  unfold wX2_copyb72
  dsimp only
  have hz := h.ev ez W0_g
  have hLz := ez0.o hL (fun w => by have := w.2; omega) (by decide) (by decide)
  rw [show (3 : Int32) = Int32.ofNat 3 from rfl, i_le (by omega) (by omega)]
  refine ⟨fun w => ?_, fun w => gR hLz (by decide) rfl (hz.aS (s := j) (by omega) ⟨rco (hz.sch (by omega)), ?_⟩)⟩
  · have : j = 3 := by omega
    subst this
    exact hK z sa ha ma bs f (ez.le' (by omega)) (ez0.le' (by omega)) hf hsc hb0 hbj
  · obtain ⟨N, hset⟩ := hz.set (s := j) (by omega)
    refine scopy_k ez.t (hz.sch (by omega)) hset (fun x hx => hb_240 hx) (ez.rm hb (by omega)) fun τ b h' m' N' e1 hb1 hh1 hm1 hbc hS1 => ?_
    have hf1 := e1.a hf fun w => w
    refine sR (L := [2]) e1.t hf1 (by decide) hX (by omega) (i := j) (by omega) (Or.inr ⟨b, 2, _, rfl, hbc, by decide⟩) fun τ2 w2 e2 => ?_
    have e12 : ev G (W1 as 107) 2800 z τ2 := (e1.up0.tr e2).le' (by omega)
    have hasz := ez.le
    rw [i_succ]
    have hbt : b < τ.2.1 := e1.t.lt hbc
    have hht : h' < τ.2.1 := e1.t.lt hS1.1
    have hmt : m' < τ.2.1 := by
      obtain ⟨-, E, ⟨t, mdd, th, ⟨-, k0, k1, k3, h1⟩, -⟩, -⟩ := hS1
      exact e1.t.lt h1
    have nmk : ∀ k, mkd k → k ≠ 107 := fun k hk => by unfold mkd at hk; omega
    refine hK' (3 - (j + 1)) _ (by omega) ⟨j + 1, τ2, un sa j b, un ha j h', un ma j m', un bs (j + 1) τ.2.1, _, by omega, rfl, rfl, ((ez.tr e1).fr e2 fun b k w => by rw [w.1]; exact hasσ).le' (by omega), (ez0.tr e12).le' (by omega), w2.1, fun s hs => ?_, ?_, ?_⟩
    · by_cases hsj : s = j
      · subst hsj
        unfold scF
        rw [un_s, un_s, un_s, un_s, un_n (by omega)]
        have h2 := hS1.ev e2 (W1_k (by omega)) (fun x k _ hk w => nmk k hk w.2) fun w => by have := w.2; omega
        exact ⟨if_pos rfl, e2.o hbc (fun w => by have := w.2; omega) (by decide) (by decide), ⟨by omega, by omega, by omega⟩, by have := e1.le; omega, ⟨hbt, hht, hmt⟩, N', h2.mono fun x hx => ⟨by have := hx.1; omega, hx.2⟩⟩
      · refine ((hsc s (by omega)).ev e12 (W1_k (by omega)) fun b _ _ => ⟨fun w => by have := w.2; omega, fun w => by have := w.2; omega, fun k hk w => nmk k hk w.2⟩).un (by omega) (if_neg hsj)
    · rw [un_n (by omega)]; exact hb0
    · rw [un_s]; exact e2.le
theorem cpP_k {v4 v5 v6 v7 v8 : Value} (e0 : ev G W0 c0 σ z0) (h : LG G σ n0 o A md es g) (hL : z0.1 a = some (.inr (1, [va_rf (some m), va_rf (some d), va_rf (some as), va_rf (some ap), v4, v5, v6, v7, v8])))
    (hap : z0.1 ap = some (.inl (8, 6, .inr (.inr (.inr (.inr fun _ => none)))))) (hapσ : σ.2.1 ≤ ap) (hX : ¬ gX G ap) (hb : bd G σ (c0 + 100))
    (hK : ∀ z pa f, ev G W0 (c0 + 24) σ z → ev G (W1 ap 108) 24 z0 z → z.1 ap = some (.inl (8, 6, .inr (.inr (.inr (.inr f))))) → (∀ p, p < 6 → pcF z g σ.2.1 f pa p) → (∀ p p', p < p' → p' < 6 → pa p < pa p') → gtI z (some (A 0)) [1] 4 (fun x28 => ptV G z (some a) [1] 4 (.int x28) (fun z29 => gtI z29 (some (A 0)) [1] 5 (fun x30 => ptV G z29 (some a) [1] 5 (.int x30) (fun z31 => gtI z31 (some (A 0)) [1] 6 (fun x32 => ptV G z31 (some a) [1] 6 (.int x32) (fun z33 => gtI z33 (some (A 0)) [1] 7 (fun x34 => ptV G z33 (some a) [1] 7 (.int x34) (fun z35 => gtI z35 (some (A 0)) [1] 8 (fun x36 => ptV G z35 (some a) [1] 8 (.int x36) (fun z37 => P (some a) z37))))))))))) : lpI (fun (K100 : (Option Nat × Option Nat × Int32 × hSt) → Prop) (y : (Option Nat × Option Nat × Int32 × hSt)) => wX2_copyb100 G P PX K100 (y.1) (y.2.1) (y.2.2.1) (y.2.2.2)) (some (A 0), some a, 0, z0) := by
  refine lp_n (fun n y => ∃ j z pa f, j ≤ 6 ∧ n = 6 - j ∧ y = (some (A 0), some a, Int32.ofNat j, z) ∧ ev G W0 (c0 + 4 * j) σ z ∧ ev G (W1 ap 108) (4 * j) z0 z ∧ z.1 ap = some (.inl (8, 6, .inr (.inr (.inr (.inr f))))) ∧ (∀ p, p < j → pcF z g σ.2.1 f pa p) ∧ ∀ p p', p < p' → p' < j → pa p < pa p') 6 ⟨0, z0, id, _, by omega, rfl, rfl, e0, (ev.refl e0.t).le' (by omega), hap, fun s hs => by omega, fun p p' _ w => by omega⟩ ?_
  rintro n y ⟨j, z, pa, f, hj, rfl, rfl, ez, ez0, hf, hpc, hpm⟩ K hK'
  unfold wX2_copyb100
  dsimp only
  have hz := h.ev ez W0_g
  have hLz := ez0.o hL (fun w => by have := w.2; omega) (by decide) (by decide)
  rw [show (6 : Int32) = Int32.ofNat 6 from rfl, i_le (by omega) (by omega)]
  refine ⟨fun w => ?_, fun w => gR hLz (by decide) rfl (hz.aP (p := j) (by omega) ⟨rco (hz.pup (by omega)), ?_⟩)⟩
  · have : j = 6 := by omega
    subst this
    exact hK z pa f (ez.le' (by omega)) (ez0.le' (by omega)) hf hpc hpm
  · refine pcopy_k ez.t (ez.rm hb (by omega)) (hz.pup (by omega)) fun τ b e1 hb1 hbc => ?_
    have hf1 := e1.a hf fun w => w
    refine sR (L := [3]) e1.t hf1 (by decide) hX (by omega) (i := j) (by omega) (Or.inr ⟨b, 3, _, rfl, hbc, by decide⟩) fun τ2 w2 e2 => ?_
    have e12 : ev G (W1 ap 108) 4 z τ2 := (e1.up0.tr e2).le' (by omega)
    have hle := ez.le
    rw [i_succ]
    refine hK' (6 - (j + 1)) _ (by omega) ⟨j + 1, τ2, un pa j b, _, by omega, rfl, rfl, ((ez.tr e1).fr e2 fun b k w => by rw [w.1]; exact hapσ).le' (by omega), (ez0.tr e12).le' (by omega), w2.1, fun p hp => ?_, fun p p' h1 h2 => ?_⟩
    · by_cases hpj : p = j
      · subst hpj
        unfold pcF
        rw [un_s]
        exact ⟨if_pos rfl, e2.o hbc (fun w => by have := w.2; omega) (by decide) (by decide), by omega⟩
      · obtain ⟨q1, q2, q3⟩ := (hpc p (by omega)).ev e12 fun w => by have := w.2; omega
        unfold pcF
        rw [un_n hpj]
        exact ⟨(if_neg hpj).trans q1, q2, q3⟩
    · by_cases hpj : p' = j
      · subst hpj
        rw [un_s, un_n (by omega)]
        have := ez.t.lt (hpc p (by omega)).2.1
        omega
      · rw [un_n hpj, un_n (by omega)]
        exact hpm p p' h1 (by omega)
end CP5
