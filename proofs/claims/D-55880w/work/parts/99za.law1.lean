/-! the law: changes -/
set_option maxRecDepth 100000
section LC1
variable {G : gE} {σ : hSt} {x a oL oD sc L r N : Nat} {A : Nat → Nat} {xs : Nat → Int32} {M : mSt} {hg : List (Nat → Int32)} {sg : Option (Nat → Int32)} {T U : List Nat} {er wy dt : Int32} {PX : Nat → Nat → hSt → Prop} {P : Int32 → hSt → Prop} {K28 : (Option Nat × Option Nat × Option Nat × Option Nat × Option Nat × Int32 × hSt) → Prop}
theorem cs_0 (hB : RB G σ x a oL oD sc L A xs r N M hg sg T U er wy dt) (hr : r < 24) (h5 : 5 * r + 5 ≤ L) (hL : L ≤ 120) (hK : ∀ z, RS G z x a oL oD sc L A xs (r + 1) → K28 (some sc, some x, some a, some oL, some oD, Int32.ofNat (5 * r) + 5, z)) : alI σ (some sc) 0 ((Int32.ofNat (5 * r)) + 1) (fun x13 => alI σ (some sc) 0 ((Int32.ofNat (5 * r)) + 2) (fun x14 => alI σ (some sc) 0 ((Int32.ofNat (5 * r)) + 3) (fun x15 => alI σ (some sc) 0 ((Int32.ofNat (5 * r)) + 4) (fun x16 => wX0_enter G (fun x18 z17 => alI z17 (some sc) 0 ((Int32.ofNat (5 * r)) + 1) (fun x19 => alI z17 (some sc) 0 ((Int32.ofNat (5 * r)) + 2) (fun x20 => alI z17 (some sc) 0 ((Int32.ofNat (5 * r)) + 3) (fun x21 => alI z17 (some sc) 0 ((Int32.ofNat (5 * r)) + 4) (fun x22 => (rcv z17 (some a) 4 ∧ wX5_enter G (fun x24 z23 => (rcv z23 (some a) 4 ∧ wX5_thrown G (fun x26 z25 => ((x26 = x18 → ((¬ x18 = 0 → wL_lawb313 G P PX K28 (some sc) (some x) (some a) (some oL) (some oD) (Int32.ofNat (5 * r)) z25) ∧ (x18 = 0 → alL z25 (some oL) 0 (fun x27 => (((lg_cmp x27 ((x24 : Int32).toInt64)) = 0 → wL_lawb313 G P PX K28 (some sc) (some x) (some a) (some oL) (some oD) (Int32.ofNat (5 * r)) z25) ∧ (¬ (lg_cmp x27 ((x24 : Int32).toInt64)) = 0 → P 0 z25)))))) ∧ (¬ x26 = x18 → P 0 z25))) PX (some a)  z23)) PX (some a) x19 x20 x21 x22 z17)))))) PX (some x) x13 x14 x15 x16 (some oL) σ)))) := by
  obtain ⟨⟨hS, hz, hok⟩, hC, hMS, hF, hbd, hNT⟩ := id hB
  obtain ⟨hJ, n0, o0, A0, md0, es0, hLG, hO⟩ := cs_lg hC
  have hgo := hLG.ok
  have h12 := hgo.1.1
  have hbz : bd G σ 49000 := hbd.mono (by omega)
  have hc6 := hMS.1.2.1
  have h3 := hMS.1.1
  have hNX : ∀ z, RS G z x a oL oD sc L A xs (r + 1) → wL_lawb2581 G P PX K28 (some sc) (some x) (some a) (some oL) (some oD) (Int32.ofNat (5 * r)) z := fun z h => hK z h
  refine sc_1 hF (i := 5 * r) (j := 1) (by omega) hL (sc_1 hF (i := 5 * r) (j := 2) (by omega) hL (sc_1 hF (i := 5 * r) (j := 3) (by omega) hL (sc_1 hF (i := 5 * r) (j := 4) (by omega) hL (?_))))
  unfold wX0_enter wX0_enterb0
  refine ⟨hC.rc, c_enter hS hC (hbz.mono (by omega)) (fun w τ e e1 he => ?_) (fun w1 w2 τ e e1 he => ?_) fun k' t' w1 w2 hk hk4 ht ht10 => ⟨fun rs d τ e ho e1 hC1 he => ?_, fun v g' τ ho e1 hC1 => ?_⟩⟩
  · refine Or.inr (Or.inr (Or.inl ⟨rfl, ?_⟩))
    unfold wX0_enterb17
    have hM := rb_mq hB hr e1 (by omega)
    refine sc_1 hM.2.2.1 (i := 5 * r) (j := 1) (by omega) hL (sc_1 hM.2.2.1 (i := 5 * r) (j := 2) (by omega) hL (sc_1 hM.2.2.1 (i := 5 * r) (j := 3) (by omega) hL (sc_1 hM.2.2.1 (i := 5 * r) (j := 4) (by omega) hL (?_))))
    rw [← hM.1.2.1]
    exact ⟨m_rcv, X_enter hok hgo hc6 h3 (fun _ => mch_f hM hMS (by decide) hNX) (fun w' _ => absurd w' w) fun w' _ _ _ _ => absurd w' w⟩
  · refine Or.inl ⟨rfl, ?_⟩
    unfold wX0_enterb21
    have hM := rb_mq hB hr e1 (by omega)
    refine sc_1 hM.2.2.1 (i := 5 * r) (j := 1) (by omega) hL (sc_1 hM.2.2.1 (i := 5 * r) (j := 2) (by omega) hL (sc_1 hM.2.2.1 (i := 5 * r) (j := 3) (by omega) hL (sc_1 hM.2.2.1 (i := 5 * r) (j := 4) (by omega) hL (?_))))
    rw [← hM.1.2.1]
    exact ⟨m_rcv, X_enter hok hgo hc6 h3 (fun w' => absurd w1 w') (fun _ _ => mch_f hM hMS (by decide) hNX) fun _ wx wl _ _ => absurd ⟨wx, wl⟩ w2⟩
  · refine Or.inr (Or.inl ⟨rfl, ?_⟩)
    unfold wX0_enterb25
    have hM := rb_md hB hr e1 hC1 (by omega) (by omega)
    refine sc_1 hM.2.2.1 (i := 5 * r) (j := 1) (by omega) hL (sc_1 hM.2.2.1 (i := 5 * r) (j := 2) (by omega) hL (sc_1 hM.2.2.1 (i := 5 * r) (j := 3) (by omega) hL (sc_1 hM.2.2.1 (i := 5 * r) (j := 4) (by omega) hL (?_))))
    rw [← hM.1.2.1]
    exact ⟨m_rcv, X_enter hok hgo hc6 h3 (fun w' => absurd w1 w') (fun _ w' => absurd ⟨isX_n hk hk4 ht ht10, w2⟩ w') fun _ _ _ o ho' => mch_r hM hMS (by decide) hNX ho (Or.inl (⟨rfl, by rw [← hk, ← ht]; exact ho'⟩))⟩
  · refine md_L (rb_md hB hr e1 hC1 (by omega) (by omega)) fun υ f hM hf hv => ?_
    refine sc_1 hM.2.2.1 (i := 5 * r) (j := 1) (by omega) hL (sc_1 hM.2.2.1 (i := 5 * r) (j := 2) (by omega) hL (sc_1 hM.2.2.1 (i := 5 * r) (j := 3) (by omega) hL (sc_1 hM.2.2.1 (i := 5 * r) (j := 4) (by omega) hL (?_))))
    rw [← hM.1.2.1]
    exact ⟨m_rcv, X_enter hok hgo hc6 h3 (fun w' => absurd w1 w') (fun _ w' => absurd ⟨isX_n hk hk4 ht ht10, w2⟩ w') fun _ _ _ o ho' => mch_d hM hMS hf hv hNX ho (Or.inl (⟨rfl, by rw [← hk, ← ht]; exact ho'⟩))⟩
theorem cs_1 (hB : RB G σ x a oL oD sc L A xs r N M hg sg T U er wy dt) (hr : r < 24) (h5 : 5 * r + 5 ≤ L) (hL : L ≤ 120) (hK : ∀ z, RS G z x a oL oD sc L A xs (r + 1) → K28 (some sc, some x, some a, some oL, some oD, Int32.ofNat (5 * r) + 5, z)) : alI σ (some sc) 0 ((Int32.ofNat (5 * r)) + 1) (fun x28 => alI σ (some sc) 0 ((Int32.ofNat (5 * r)) + 2) (fun x29 => wX0_strike G (fun x31 z30 => alI z30 (some sc) 0 ((Int32.ofNat (5 * r)) + 1) (fun x32 => alI z30 (some sc) 0 ((Int32.ofNat (5 * r)) + 2) (fun x33 => (rcv z30 (some a) 4 ∧ wX5_strike G (fun x35 z34 => (rcv z34 (some a) 4 ∧ wX5_thrown G (fun x37 z36 => ((x37 = x31 → ((¬ x31 = 0 → wL_lawb381 G P PX K28 (some sc) (some x) (some a) (some oL) (some oD) (Int32.ofNat (5 * r)) z36) ∧ (x31 = 0 → alL z36 (some oL) 0 (fun x38 => (((lg_cmp x38 ((x35 : Int32).toInt64)) = 0 → wL_lawb381 G P PX K28 (some sc) (some x) (some a) (some oL) (some oD) (Int32.ofNat (5 * r)) z36) ∧ (¬ (lg_cmp x38 ((x35 : Int32).toInt64)) = 0 → P 0 z36)))))) ∧ (¬ x37 = x31 → P 0 z36))) PX (some a)  z34)) PX (some a) x32 x33 z30)))) PX (some x) x28 x29 (some oL) σ)) := by
  obtain ⟨⟨hS, hz, hok⟩, hC, hMS, hF, hbd, hNT⟩ := id hB
  obtain ⟨hJ, n0, o0, A0, md0, es0, hLG, hO⟩ := cs_lg hC
  have hgo := hLG.ok
  have h12 := hgo.1.1
  have hbz : bd G σ 49000 := hbd.mono (by omega)
  have hc6 := hMS.1.2.1
  have h3 := hMS.1.1
  have hNX : ∀ z, RS G z x a oL oD sc L A xs (r + 1) → wL_lawb2581 G P PX K28 (some sc) (some x) (some a) (some oL) (some oD) (Int32.ofNat (5 * r)) z := fun z h => hK z h
  refine sc_1 hF (i := 5 * r) (j := 1) (by omega) hL (sc_1 hF (i := 5 * r) (j := 2) (by omega) hL (?_))
  unfold wX0_strike wX0_strikeb0
  refine ⟨hC.rc, c_strike hS hC (hbz.mono (by omega)) (fun w τ e e1 he => ?_) fun k' t' hk hk4 ht ht10 => ⟨fun rs d τ e ho e1 hC1 he => ?_, fun v g' τ ho e1 hC1 => ?_⟩⟩
  · refine Or.inl ⟨rfl, ?_⟩
    unfold wX0_strikeb13
    have hM := rb_mq hB hr e1 (by omega)
    refine sc_1 hM.2.2.1 (i := 5 * r) (j := 1) (by omega) hL (sc_1 hM.2.2.1 (i := 5 * r) (j := 2) (by omega) hL (?_))
    rw [← hM.1.2.1]
    exact ⟨m_rcv, X_strike hok hgo hc6 h3 (fun _ => mch_f hM hMS (by decide) hNX) fun w' _ _ => absurd w' w⟩
  · refine Or.inr (Or.inl ⟨rfl, ?_⟩)
    unfold wX0_strikeb17
    have hM := rb_md hB hr e1 hC1 (by omega) (by omega)
    refine sc_1 hM.2.2.1 (i := 5 * r) (j := 1) (by omega) hL (sc_1 hM.2.2.1 (i := 5 * r) (j := 2) (by omega) hL (?_))
    rw [← hM.1.2.1]
    exact ⟨m_rcv, X_strike hok hgo hc6 h3 (fun w' => absurd (isX_n hk hk4 ht ht10) w') fun _ o ho' => mch_r hM hMS (by decide) hNX ho (Or.inr (Or.inl (⟨rfl, by rw [← hk, ← ht]; exact ho'⟩)))⟩
  · refine md_L (rb_md hB hr e1 hC1 (by omega) (by omega)) fun υ f hM hf hv => ?_
    refine sc_1 hM.2.2.1 (i := 5 * r) (j := 1) (by omega) hL (sc_1 hM.2.2.1 (i := 5 * r) (j := 2) (by omega) hL (?_))
    rw [← hM.1.2.1]
    exact ⟨m_rcv, X_strike hok hgo hc6 h3 (fun w' => absurd (isX_n hk hk4 ht ht10) w') fun _ o ho' => mch_d hM hMS hf hv hNX ho (Or.inr (Or.inl (⟨rfl, by rw [← hk, ← ht]; exact ho'⟩)))⟩
theorem cs_2 (hB : RB G σ x a oL oD sc L A xs r N M hg sg T U er wy dt) (hr : r < 24) (h5 : 5 * r + 5 ≤ L) (hL : L ≤ 120) (hK : ∀ z, RS G z x a oL oD sc L A xs (r + 1) → K28 (some sc, some x, some a, some oL, some oD, Int32.ofNat (5 * r) + 5, z)) : alI σ (some sc) 0 ((Int32.ofNat (5 * r)) + 1) (fun x39 => alI σ (some sc) 0 ((Int32.ofNat (5 * r)) + 2) (fun x40 => alI σ (some sc) 0 ((Int32.ofNat (5 * r)) + 3) (fun x41 => alI σ (some sc) 0 ((Int32.ofNat (5 * r)) + 4) (fun x42 => wX0_lend G (fun x44 z43 => alI z43 (some sc) 0 ((Int32.ofNat (5 * r)) + 1) (fun x45 => alI z43 (some sc) 0 ((Int32.ofNat (5 * r)) + 2) (fun x46 => alI z43 (some sc) 0 ((Int32.ofNat (5 * r)) + 3) (fun x47 => alI z43 (some sc) 0 ((Int32.ofNat (5 * r)) + 4) (fun x48 => (rcv z43 (some a) 4 ∧ wX5_lend G (fun x50 z49 => (rcv z49 (some a) 4 ∧ wX5_thrown G (fun x52 z51 => ((x52 = x44 → ((¬ x44 = 0 → wL_lawb473 G P PX K28 (some sc) (some x) (some a) (some oL) (some oD) (Int32.ofNat (5 * r)) z51) ∧ (x44 = 0 → alL z51 (some oL) 0 (fun x53 => (((lg_cmp x53 ((x50 : Int32).toInt64)) = 0 → wL_lawb473 G P PX K28 (some sc) (some x) (some a) (some oL) (some oD) (Int32.ofNat (5 * r)) z51) ∧ (¬ (lg_cmp x53 ((x50 : Int32).toInt64)) = 0 → P 0 z51)))))) ∧ (¬ x52 = x44 → P 0 z51))) PX (some a)  z49)) PX (some a) x45 x46 x47 x48 z43)))))) PX (some x) x39 x40 x41 x42 (some oL) σ)))) := by
  obtain ⟨⟨hS, hz, hok⟩, hC, hMS, hF, hbd, hNT⟩ := id hB
  obtain ⟨hJ, n0, o0, A0, md0, es0, hLG, hO⟩ := cs_lg hC
  have hgo := hLG.ok
  have h12 := hgo.1.1
  have hbz : bd G σ 49000 := hbd.mono (by omega)
  have hc6 := hMS.1.2.1
  have h3 := hMS.1.1
  have hNX : ∀ z, RS G z x a oL oD sc L A xs (r + 1) → wL_lawb2581 G P PX K28 (some sc) (some x) (some a) (some oL) (some oD) (Int32.ofNat (5 * r)) z := fun z h => hK z h
  refine sc_1 hF (i := 5 * r) (j := 1) (by omega) hL (sc_1 hF (i := 5 * r) (j := 2) (by omega) hL (sc_1 hF (i := 5 * r) (j := 3) (by omega) hL (sc_1 hF (i := 5 * r) (j := 4) (by omega) hL (?_))))
  unfold wX0_lend wX0_lendb0
  refine ⟨hC.rc, c_lend hS hC (hbz.mono (by omega)) (fun w τ e e1 he => ?_) (fun w0 w1 w2 τ e e1 he => ?_) fun k' t' w1 w2 hk hk4 ht ht10 => ⟨fun rs d τ e ho e1 hC1 he => ?_, fun v g' τ ho e1 hC1 => ?_⟩⟩
  · refine Or.inl ⟨rfl, ?_⟩
    unfold wX0_lendb17
    have hM := rb_mq hB hr e1 (by omega)
    refine sc_1 hM.2.2.1 (i := 5 * r) (j := 1) (by omega) hL (sc_1 hM.2.2.1 (i := 5 * r) (j := 2) (by omega) hL (sc_1 hM.2.2.1 (i := 5 * r) (j := 3) (by omega) hL (sc_1 hM.2.2.1 (i := 5 * r) (j := 4) (by omega) hL (?_))))
    rw [← hM.1.2.1]
    exact ⟨m_rcv, X_lend hok hgo hc6 h3 (fun _ => mch_f hM hMS (by decide) hNX) (fun wx wl _ => absurd ⟨wx, wl⟩ w) fun wx wl _ _ _ _ _ => absurd ⟨wx, wl⟩ w⟩
  · refine Or.inr (Or.inr (Or.inl ⟨rfl, ?_⟩))
    unfold wX0_lendb21
    have hM := rb_mq hB hr e1 (by omega)
    refine sc_1 hM.2.2.1 (i := 5 * r) (j := 1) (by omega) hL (sc_1 hM.2.2.1 (i := 5 * r) (j := 2) (by omega) hL (sc_1 hM.2.2.1 (i := 5 * r) (j := 3) (by omega) hL (sc_1 hM.2.2.1 (i := 5 * r) (j := 4) (by omega) hL (?_))))
    rw [← hM.1.2.1]
    exact ⟨m_rcv, X_lend hok hgo hc6 h3 (fun w' => absurd ⟨w0, w1⟩ w') (fun _ _ _ => mch_f hM hMS (by decide) hNX) fun _ _ to hto ht6 _ _ => absurd (isP_n hto ht6) w2⟩
  · refine Or.inr (Or.inl ⟨rfl, ?_⟩)
    unfold wX0_lendb25
    have hM := rb_md hB hr e1 hC1 (by omega) (by omega)
    refine sc_1 hM.2.2.1 (i := 5 * r) (j := 1) (by omega) hL (sc_1 hM.2.2.1 (i := 5 * r) (j := 2) (by omega) hL (sc_1 hM.2.2.1 (i := 5 * r) (j := 3) (by omega) hL (sc_1 hM.2.2.1 (i := 5 * r) (j := 4) (by omega) hL (?_))))
    rw [← hM.1.2.1]
    exact ⟨m_rcv, X_lend hok hgo hc6 h3 (fun w' => absurd ⟨isX_n hk hk4 ht ht10, w1⟩ w') (fun _ _ w' => absurd w2 w') fun _ _ to hto ht6 o ho' => mch_r hM hMS (by decide) hNX ho (Or.inr (Or.inr (Or.inl (⟨rfl, to, hto, ht6, by rw [← hk, ← ht]; exact ho'⟩))))⟩
  · refine md_L (rb_md hB hr e1 hC1 (by omega) (by omega)) fun υ f hM hf hv => ?_
    refine sc_1 hM.2.2.1 (i := 5 * r) (j := 1) (by omega) hL (sc_1 hM.2.2.1 (i := 5 * r) (j := 2) (by omega) hL (sc_1 hM.2.2.1 (i := 5 * r) (j := 3) (by omega) hL (sc_1 hM.2.2.1 (i := 5 * r) (j := 4) (by omega) hL (?_))))
    rw [← hM.1.2.1]
    exact ⟨m_rcv, X_lend hok hgo hc6 h3 (fun w' => absurd ⟨isX_n hk hk4 ht ht10, w1⟩ w') (fun _ _ w' => absurd w2 w') fun _ _ to hto ht6 o ho' => mch_d hM hMS hf hv hNX ho (Or.inr (Or.inr (Or.inl (⟨rfl, to, hto, ht6, by rw [← hk, ← ht]; exact ho'⟩))))⟩
theorem cs_3 (hB : RB G σ x a oL oD sc L A xs r N M hg sg T U er wy dt) (hr : r < 24) (h5 : 5 * r + 5 ≤ L) (hL : L ≤ 120) (hK : ∀ z, RS G z x a oL oD sc L A xs (r + 1) → K28 (some sc, some x, some a, some oL, some oD, Int32.ofNat (5 * r) + 5, z)) : alI σ (some sc) 0 ((Int32.ofNat (5 * r)) + 1) (fun x54 => alI σ (some sc) 0 ((Int32.ofNat (5 * r)) + 2) (fun x55 => wX0_back G (fun x57 z56 => alI z56 (some sc) 0 ((Int32.ofNat (5 * r)) + 1) (fun x58 => alI z56 (some sc) 0 ((Int32.ofNat (5 * r)) + 2) (fun x59 => (rcv z56 (some a) 4 ∧ wX5_back G (fun x61 z60 => (rcv z60 (some a) 4 ∧ wX5_thrown G (fun x63 z62 => ((x63 = x57 → ((¬ x57 = 0 → wL_lawb541 G P PX K28 (some sc) (some x) (some a) (some oL) (some oD) (Int32.ofNat (5 * r)) z62) ∧ (x57 = 0 → alL z62 (some oL) 0 (fun x64 => (((lg_cmp x64 ((x61 : Int32).toInt64)) = 0 → wL_lawb541 G P PX K28 (some sc) (some x) (some a) (some oL) (some oD) (Int32.ofNat (5 * r)) z62) ∧ (¬ (lg_cmp x64 ((x61 : Int32).toInt64)) = 0 → P 0 z62)))))) ∧ (¬ x63 = x57 → P 0 z62))) PX (some a)  z60)) PX (some a) x58 x59 z56)))) PX (some x) x54 x55 (some oL) σ)) := by
  obtain ⟨⟨hS, hz, hok⟩, hC, hMS, hF, hbd, hNT⟩ := id hB
  obtain ⟨hJ, n0, o0, A0, md0, es0, hLG, hO⟩ := cs_lg hC
  have hgo := hLG.ok
  have h12 := hgo.1.1
  have hbz : bd G σ 49000 := hbd.mono (by omega)
  have hc6 := hMS.1.2.1
  have h3 := hMS.1.1
  have hNX : ∀ z, RS G z x a oL oD sc L A xs (r + 1) → wL_lawb2581 G P PX K28 (some sc) (some x) (some a) (some oL) (some oD) (Int32.ofNat (5 * r)) z := fun z h => hK z h
  refine sc_1 hF (i := 5 * r) (j := 1) (by omega) hL (sc_1 hF (i := 5 * r) (j := 2) (by omega) hL (?_))
  unfold wX0_back wX0_backb0
  refine ⟨hC.rc, c_back hS hC (hbz.mono (by omega)) (fun w τ e e1 he => ?_) fun k' t' hk hk4 ht ht10 => ⟨fun rs d τ e ho e1 hC1 he => ?_, fun v g' τ ho e1 hC1 => ?_⟩⟩
  · refine Or.inl ⟨rfl, ?_⟩
    unfold wX0_backb13
    have hM := rb_mq hB hr e1 (by omega)
    refine sc_1 hM.2.2.1 (i := 5 * r) (j := 1) (by omega) hL (sc_1 hM.2.2.1 (i := 5 * r) (j := 2) (by omega) hL (?_))
    rw [← hM.1.2.1]
    exact ⟨m_rcv, X_back hok hgo hc6 h3 (fun _ => mch_f hM hMS (by decide) hNX) fun w' _ _ => absurd w' w⟩
  · refine Or.inr (Or.inl ⟨rfl, ?_⟩)
    unfold wX0_backb17
    have hM := rb_md hB hr e1 hC1 (by omega) (by omega)
    refine sc_1 hM.2.2.1 (i := 5 * r) (j := 1) (by omega) hL (sc_1 hM.2.2.1 (i := 5 * r) (j := 2) (by omega) hL (?_))
    rw [← hM.1.2.1]
    exact ⟨m_rcv, X_back hok hgo hc6 h3 (fun w' => absurd (isX_n hk hk4 ht ht10) w') fun _ o ho' => mch_r hM hMS (by decide) hNX ho (Or.inr (Or.inr (Or.inr (Or.inl (⟨rfl, by rw [← hk, ← ht]; exact ho'⟩)))))⟩
  · refine md_L (rb_md hB hr e1 hC1 (by omega) (by omega)) fun υ f hM hf hv => ?_
    refine sc_1 hM.2.2.1 (i := 5 * r) (j := 1) (by omega) hL (sc_1 hM.2.2.1 (i := 5 * r) (j := 2) (by omega) hL (?_))
    rw [← hM.1.2.1]
    exact ⟨m_rcv, X_back hok hgo hc6 h3 (fun w' => absurd (isX_n hk hk4 ht ht10) w') fun _ o ho' => mch_d hM hMS hf hv hNX ho (Or.inr (Or.inr (Or.inr (Or.inl (⟨rfl, by rw [← hk, ← ht]; exact ho'⟩)))))⟩
theorem cs_4 (hB : RB G σ x a oL oD sc L A xs r N M hg sg T U er wy dt) (hr : r < 24) (h5 : 5 * r + 5 ≤ L) (hL : L ≤ 120) (hK : ∀ z, RS G z x a oL oD sc L A xs (r + 1) → K28 (some sc, some x, some a, some oL, some oD, Int32.ofNat (5 * r) + 5, z)) : alI σ (some sc) 0 ((Int32.ofNat (5 * r)) + 1) (fun x65 => alI σ (some sc) 0 ((Int32.ofNat (5 * r)) + 2) (fun x66 => alI σ (some sc) 0 ((Int32.ofNat (5 * r)) + 3) (fun x67 => wX0_mend G (fun x69 z68 => alI z68 (some sc) 0 ((Int32.ofNat (5 * r)) + 1) (fun x70 => alI z68 (some sc) 0 ((Int32.ofNat (5 * r)) + 2) (fun x71 => alI z68 (some sc) 0 ((Int32.ofNat (5 * r)) + 3) (fun x72 => (rcv z68 (some a) 4 ∧ wX5_mend G (fun x74 z73 => (rcv z73 (some a) 4 ∧ wX5_thrown G (fun x76 z75 => ((x76 = x69 → ((¬ x69 = 0 → wL_lawb621 G P PX K28 (some sc) (some x) (some a) (some oL) (some oD) (Int32.ofNat (5 * r)) z75) ∧ (x69 = 0 → alL z75 (some oL) 0 (fun x77 => (((lg_cmp x77 ((x74 : Int32).toInt64)) = 0 → wL_lawb621 G P PX K28 (some sc) (some x) (some a) (some oL) (some oD) (Int32.ofNat (5 * r)) z75) ∧ (¬ (lg_cmp x77 ((x74 : Int32).toInt64)) = 0 → P 0 z75)))))) ∧ (¬ x76 = x69 → P 0 z75))) PX (some a)  z73)) PX (some a) x70 x71 x72 z68))))) PX (some x) x65 x66 x67 (some oL) σ))) := by
  obtain ⟨⟨hS, hz, hok⟩, hC, hMS, hF, hbd, hNT⟩ := id hB
  obtain ⟨hJ, n0, o0, A0, md0, es0, hLG, hO⟩ := cs_lg hC
  have hgo := hLG.ok
  have h12 := hgo.1.1
  have hbz : bd G σ 49000 := hbd.mono (by omega)
  have hc6 := hMS.1.2.1
  have h3 := hMS.1.1
  have hNX : ∀ z, RS G z x a oL oD sc L A xs (r + 1) → wL_lawb2581 G P PX K28 (some sc) (some x) (some a) (some oL) (some oD) (Int32.ofNat (5 * r)) z := fun z h => hK z h
  refine sc_1 hF (i := 5 * r) (j := 1) (by omega) hL (sc_1 hF (i := 5 * r) (j := 2) (by omega) hL (sc_1 hF (i := 5 * r) (j := 3) (by omega) hL (?_)))
  unfold wX0_mend wX0_mendb0
  refine ⟨hC.rc, c_mend hS hC (hbz.mono (by omega)) (fun w τ e e1 he => ?_) fun k' t' w1 hk hk4 ht ht10 => ⟨fun rs d τ e ho e1 hC1 he => ?_, fun v g' τ ho e1 hC1 => ?_⟩⟩
  · refine Or.inl ⟨rfl, ?_⟩
    unfold wX0_mendb15
    have hM := rb_mq hB hr e1 (by omega)
    refine sc_1 hM.2.2.1 (i := 5 * r) (j := 1) (by omega) hL (sc_1 hM.2.2.1 (i := 5 * r) (j := 2) (by omega) hL (sc_1 hM.2.2.1 (i := 5 * r) (j := 3) (by omega) hL (?_)))
    rw [← hM.1.2.1]
    exact ⟨m_rcv, X_mend hok hgo hc6 h3 (fun _ => mch_f hM hMS (by decide) hNX) fun wx wl _ _ => absurd ⟨wx, wl⟩ w⟩
  · refine Or.inr (Or.inl ⟨rfl, ?_⟩)
    unfold wX0_mendb19
    have hM := rb_md hB hr e1 hC1 (by omega) (by omega)
    refine sc_1 hM.2.2.1 (i := 5 * r) (j := 1) (by omega) hL (sc_1 hM.2.2.1 (i := 5 * r) (j := 2) (by omega) hL (sc_1 hM.2.2.1 (i := 5 * r) (j := 3) (by omega) hL (?_)))
    rw [← hM.1.2.1]
    exact ⟨m_rcv, X_mend hok hgo hc6 h3 (fun w' => absurd ⟨isX_n hk hk4 ht ht10, w1⟩ w') fun _ _ o ho' => mch_r hM hMS (by decide) hNX ho (Or.inr (Or.inr (Or.inr (Or.inr (Or.inl (⟨rfl, by rw [← hk, ← ht]; exact ho'⟩))))))⟩
  · refine md_L (rb_md hB hr e1 hC1 (by omega) (by omega)) fun υ f hM hf hv => ?_
    refine sc_1 hM.2.2.1 (i := 5 * r) (j := 1) (by omega) hL (sc_1 hM.2.2.1 (i := 5 * r) (j := 2) (by omega) hL (sc_1 hM.2.2.1 (i := 5 * r) (j := 3) (by omega) hL (?_)))
    rw [← hM.1.2.1]
    exact ⟨m_rcv, X_mend hok hgo hc6 h3 (fun w' => absurd ⟨isX_n hk hk4 ht ht10, w1⟩ w') fun _ _ o ho' => mch_d hM hMS hf hv hNX ho (Or.inr (Or.inr (Or.inr (Or.inr (Or.inl (⟨rfl, by rw [← hk, ← ht]; exact ho'⟩))))))⟩
end LC1
