/-! the law, whole: its beginning, its rounds -/
set_option maxRecDepth 100000
section LAWK
variable {G : gE} {σ z : hSt} {a sc L : Nat} {M : mSt} {xs : Nat → Int32}
theorem A0_le {b k : Nat} : b ≤ A0 b k := by
  unfold A0
  split
  · omega
  split
  · omega
  split
  · omega
  split
  · omega
  split
  · omega
  split
  · omega
  · omega
/-- the model made -/
theorem mi_ev {fs : List Value} (hS : SI G σ) (ha : σ.1 a = some (.inr (4, fs))) (hok : mOK G a (A0 σ.2.1)) (hlo : ∀ b, b < σ.2.1 → b ≠ a → z.1 b = σ.1 b) (hhi : ∀ b, σ.2.1 + 7 ≤ b → z.1 b = σ.1 b) (h1 : z.2.1 = σ.2.1 + 7) (h2 : z.2.2 = σ.2.2 + 2427) : ev G (W1 a 4) 2427 σ (mz z a (A0 σ.2.1) M) := by
  have hal := hS.lt ha
  have keep : ∀ b e, b ≠ a → σ.1 b = some e → (mz z a (A0 σ.2.1) M).1 b = some e := by
    intro b e hb he
    have hlt := hS.lt he
    rw [mz_n hb (fun q _ w => by have := A0_le (b := σ.2.1) (k := q.1); omega), hlo b hlt hb]
    exact he
  have hcase : ∀ b e, (mz z a (A0 σ.2.1) M).1 b = some e → b < σ.2.1 + 7 ∧ ((b ≠ a ∧ σ.1 b = some e) ∨ e = .inr (4, mFs (A0 σ.2.1) M) ∨ ∃ y, e = .inl y) := by
    intro b e he
    rcases mz_or (z := z) (M := M) (M' := M) hok b with ⟨q1, -, q2, q3⟩ | ⟨q0, q1, -⟩ | ⟨q, hq, q0, q1, -⟩
    · rw [q1] at he
      by_cases hb : b < σ.2.1
      · exact ⟨by omega, Or.inl ⟨q2, by rw [← hlo b hb q2]; exact he⟩⟩
      · by_cases hb7 : σ.2.1 + 7 ≤ b
        · rw [hhi b hb7] at he
          have := hS.lt he
          omega
        · exfalso
          have g0 : b ≠ σ.2.1 := q3 (0, 0, 223) (by decide)
          have g1 : b ≠ σ.2.1 + 1 := q3 (1, 0, 223) (by decide)
          have g2 : b ≠ σ.2.1 + 2 := q3 (2, 0, 1338) (by decide)
          have g3 : b ≠ σ.2.1 + 3 := q3 (4, 0, 223) (by decide)
          have g4 : b ≠ σ.2.1 + 4 := q3 (6, 3, 60) (by decide)
          have g5 : b ≠ σ.2.1 + 5 := q3 (12, 3, 60) (by decide)
          have g6 : b ≠ σ.2.1 + 6 := q3 (17, 0, 300) (by decide)
          omega
    · rw [q1] at he
      injection he with he
      exact ⟨by omega, Or.inr (Or.inl he.symm)⟩
    · rw [q1] at he
      injection he with he
      refine ⟨?_, Or.inr (Or.inr ⟨_, he.symm⟩)⟩
      simp only [mArr, List.mem_cons, List.not_mem_nil, or_false] at hq
      rcases hq with rfl | rfl | rfl | rfl | rfl | rfl | rfl <;> (simp [A0] at q0; omega)
  have keepv : ∀ b fs, vwC σ.1 b fs → vwC (mz z a (A0 σ.2.1) M).1 b fs := by
    have hn : ∀ v ci fs, ci ≠ 4 → σ.1 v = some (.inr (ci, fs)) → (mz z a (A0 σ.2.1) M).1 v = some (.inr (ci, fs)) := fun v ci fs hc hv => keep v _ (by
      rintro rfl
      rw [ha] at hv
      injection hv with hv; injection hv with hv; injection hv with hv
      exact hc hv.symm) hv
    rintro b fs ⟨q1, q2, q3⟩
    refine ⟨q1.imp id ?_, q2.imp id ?_, q3.imp id ?_⟩
    · rintro ⟨v, w1, w2⟩; exact ⟨v, w1, hn _ _ _ (by decide) w2⟩
    · rintro ⟨v, w1, w2⟩; exact ⟨v, w1, hn _ _ _ (by decide) w2⟩
    · rintro ⟨v, w1, w2⟩; exact ⟨v, w1, hn _ _ _ (by decide) w2⟩
  have e1 : (mz z a (A0 σ.2.1) M).2.1 = σ.2.1 + 7 := h1
  have e2 : (mz z a (A0 σ.2.1) M).2.2 = σ.2.2 + 2427 := h2
  refine ⟨hS, ⟨fun b e hb => by rw [e1]; exact (hcase b e hb).1, fun b ci fs hb hc => ?_, ?_⟩, by rw [e1]; omega, fun b e hb => ?_, fun n hn => ?_⟩
  · rcases (hcase b _ hb).2 with ⟨-, h⟩ | h | ⟨y, h⟩
    · exact keepv _ _ (hS.2.1 b ci fs h hc)
    · injection h with h; injection h with h
      omega
    · exact nomatch h
  · refine cst_keep hS.2.2 fun b e hX hb _ => keep b e ?_ hb
    rintro rfl
    exact hok.2 b List.mem_cons_self hX
  · by_cases q : b = a
    · subst q
      rw [ha] at hb
      injection hb with hb
      subst hb
      exact ⟨_, mz_a, rfl, fun w => absurd ⟨rfl, rfl⟩ w⟩
    · exact ⟨e, keep b e q hb, rfl, fun _ => simE_refl _⟩
  · obtain ⟨n1, n2⟩ := hn
    refine ⟨?_, ?_⟩
    · rw [e1]; omega
    · rw [e2]; omega
theorem lawlt : ∀ L, L < 121 → ∀ r, r < 25 → ((Int32.ofNat L - 5 < Int32.ofNat (5 * r)) ↔ L < 5 * r + 5) := by decide +kernel
theorem MS_0 : MS (M0 6 3) [] none [] [] (-1) 0 0 := ⟨⟨rfl, by decide, fun j gg h => by simp at h⟩, Or.inl ⟨rfl, rfl⟩, ⟨rfl, by decide, fun i c h => by simp at h⟩, ⟨rfl, fun i c h => by simp at h⟩, rfl, rfl, rfl⟩
theorem law_k (hS : SI G σ) (hsc : σ.1 sc = some (.inl (0, L, .inl xs))) (hL : L ≤ 120) (hb : bd G σ 1180000) : wL_law G lawP lawX (some sc) σ := by
  unfold wL_law wL_lawb0
  refine nO hS (hb.mono (by omega)) (fun w => by omega) fun x z1 n1 hX1 e1 => ⟨⟨x, rfl⟩, ?_⟩
  refine c_init e1.t n1.2.1 (e1.rm hb (by omega)) fun z2 e2 hC2 => ?_
  have e02 : ev G (W1 x 0) 308 σ z2 := (e1.up0.tr e2).le' (by omega)
  refine nO e2.t (e02.rm hb (by omega)) (fun w => by omega) fun a z3 n3 hX3 e3 => ⟨⟨a, rfl⟩, ?_⟩
  have e03 : ev G (W1 x 0) 327 σ z3 := (e02.tr e3.up0).le' (by omega)
  have hb3 : bd G z3 2427 := e03.rm hb (by omega)
  refine X_init n3.2.1 (e3.t.lt n3.2.1) hX3 (by have := hb3.1; omega) hb3.2 fun z hok hlo hhi h1 h2 => ?_
  have e4 : ev G (W1 a 4) 2427 z3 (mz z a (A0 z3.2.1) (M0 6 3)) := mi_ev e3.t n3.2.1 hok hlo hhi h1 h2
  have hz4 : mz (mz z a (A0 z3.2.1) (M0 6 3)) a (A0 z3.2.1) (M0 6 3) = mz z a (A0 z3.2.1) (M0 6 3) := mz_self hok
  have hA : ∀ q, sc ≠ A0 z3.2.1 q := fun q w => by
    have h9 := hS.lt hsc
    have h8 := e03.2.2.1
    have h7 := A0_le (b := z3.2.1) (k := q)
    omega
  generalize mz z a (A0 z3.2.1) (M0 6 3) = τ at e4 hz4 ⊢
  generalize A0 z3.2.1 = A at hz4 hA hok
  have hb4 : bd G τ 1177000 := e4.rm (e03.rm hb (m := 1177000 + 2427) (by omega)) (by omega)
  refine nA (n := 1) e4.t (by omega) (hb4.mono (by omega)) fun oL z5 n5 hX5 e5 => ?_
  refine nA (n := 1) e5.t (by omega) (e5.rm hb4 (by omega)) fun oD z6 n6 hX6 e6 => ?_
  have e46 : ev G W0 4 τ z6 := (e5.tr e6).le' (by omega)
  have e26 : ev G (W1 a 4) 2450 z2 z6 := (e3.up0.tr (e4.tr e46.up0)).le' (by omega)
  have hsc6 : z6.1 sc = some (.inl (0, L, .inl xs)) := e26.a (e02.a hsc (fun w => by have := w.2; omega)) (fun w => by have := w.2; omega)
  refine lp_n (fun n y => ∃ r z, n = 24 - r ∧ r ≤ 24 ∧ y = (some sc, some x, some a, some oL, some oD, Int32.ofNat (5 * r), z) ∧ RS G z x a oL oD sc L A xs r) 24 ⟨0, z6, rfl, by omega, rfl, ?_⟩ ?_
  · refine ⟨0, M0 6 3, [], none, [], [], -1, 0, 0, ⟨e6.t, mz_keep hz4 hok e46 (fun _ _ w => w.elim), hok⟩, cs_congr e6.t (hC2.ev e26 (fun b k w => Or.inl w.2)) (fun i hi => rfl), MS_0, ⟨⟨_, n6.o n5.2.1⟩, hX5, ⟨_, n6.2.1⟩, hX6, hsc6, fun q _ => hA q.1⟩, e46.rm hb4 (by simp), by simp⟩
  · rintro k y ⟨r, z, rfl, hr, rfl, N, M, hg, sg, T, U, er, wy, dt, hB⟩ K hK
    show wL_lawb28 G lawP lawX K (some sc) (some x) (some a) (some oL) (some oD) (Int32.ofNat (5 * r)) z
    obtain ⟨⟨hSz, hz, hok'⟩, -, hMS, ⟨-, -, -, -, hsz, -⟩, -, -⟩ := id hB
    have key := lawlt L (by omega) r (by omega)
    unfold wL_lawb28
    refine aL hsz ⟨fun _ => rfl, fun hn => ?_⟩
    rw [key] at hn
    have h5 : 5 * r + 5 ≤ L := by omega
    have hr24 : r < 24 := by omega
    have hK' : ∀ z', RS G z' x a oL oD sc L A xs (r + 1) → K (some sc, some x, some a, some oL, some oD, Int32.ofNat (5 * r) + 5, z') := fun z' h => by
      rw [show (5 : Int32) = Int32.ofNat 5 from rfl, i_add, show 5 * r + 5 = 5 * (r + 1) by omega]
      exact hK (24 - (r + 1)) _ (by omega) ⟨r + 1, z', rfl, by omega, rfl, h⟩
    refine aI hsz (by omega) (by omega) ?_
    refine ⟨fun _ => cs_0 hB hr24 h5 hL hK', fun _ => cs_1 hB hr24 h5 hL hK', fun _ => cs_2 hB hr24 h5 hL hK', fun _ => cs_3 hB hr24 h5 hL hK', fun _ => cs_4 hB hr24 h5 hL hK', fun _ => cs_5 hB hr24 h5 hL hK', fun _ => cs_6 hB hr24 h5 hL hK', fun _ => cs_7 hB hr24 h5 hL hK', fun _ => cs_8 hB hr24 h5 hL hK', fun _ => cs_9 hB hr24 h5 hL hK', fun _ => cs_10 hB hr24 h5 hL hK', fun _ => cs_11 hB hr24 h5 hL hK', fun _ => cs_12 hB hr24 h5 hL hK', fun _ => cs_13 hB hr24 h5 hL hK', fun _ => cs_14 hB hr24 h5 hL hK', fun _ => cs_15 hB hr24 h5 hL hK', fun _ => cs_16 hB hr24 h5 hL hK', fun _ => cs_17 hB hr24 h5 hL hK', fun _ => cs_18 hB hr24 h5 hL hK', fun _ => cs_19 hB hr24 h5 hL hK', fun _ => cs_20 hB hr24 h5 hL hK', fun _ => cs_21 hB hr24 h5 hL hK', fun _ => cs_22 hB hr24 h5 hL hK', fun _ => cs_23 hB hr24 h5 hL hK', fun _ => cs_24 hB hr24 h5 hL hK', fun _ => cs_25 hB hr24 h5 hL hK', fun _ => cs_26 hB hr24 h5 hL hK', fun _ => cs_27 hB hr24 h5 hL hK', fun _ => cs_28 hB hr24 h5 hL hK', fun _ => cs_29 hB hr24 h5 hL hK', fun _ => cs_30 hB hr24 h5 hL hK', fun _ => cs_31 hB hr24 h5 hL hK', fun _ => cs_32 hB hr24 h5 hL hK', fun _ => cs_33 hB hr24 h5 hL hK', fun _ => cs_34 hB hr24 h5 hL hK', fun _ => cs_35 hB hr24 h5 hL hK', fun _ => cs_36 hB hr24 h5 hL hK', fun _ => cs_37 hB hr24 h5 hL hK', fun _ => cs_38 hB hr24 h5 hL hK', fun _ => cs_39 hB hr24 h5 hL hK', fun _ => cs_40 hB hr24 h5 hL hK', fun _ => ?_⟩
    have h9 := md_end (rb_mq hB hr24 (ev.refl hSz) (by omega)) (fun _ _ => rfl) hMS
    rw [hz] at h9
    exact hK' z h9
end LAWK
