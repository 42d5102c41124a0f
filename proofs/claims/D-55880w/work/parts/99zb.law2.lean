/-! the law: changes -/
set_option maxRecDepth 100000
section LC2
variable {G : gE} {σ : hSt} {x a oL oD sc L r N : Nat} {A : Nat → Nat} {xs : Nat → Int32} {M : mSt} {hg : List (Nat → Int32)} {sg : Option (Nat → Int32)} {T U : List Nat} {er wy dt : Int32} {PX : Nat → Nat → hSt → Prop} {P : Int32 → hSt → Prop} {K28 : (Option Nat × Option Nat × Option Nat × Option Nat × Option Nat × Int32 × hSt) → Prop}
theorem cs_5 (hB : RB G σ x a oL oD sc L A xs r N M hg sg T U er wy dt) (hr : r < 24) (h5 : 5 * r + 5 ≤ L) (hL : L ≤ 120) (hK : ∀ z, RS G z x a oL oD sc L A xs (r + 1) → K28 (some sc, some x, some a, some oL, some oD, Int32.ofNat (5 * r) + 5, z)) : alI σ (some sc) 0 ((Int32.ofNat (5 * r)) + 1) (fun x78 => alI σ (some sc) 0 ((Int32.ofNat (5 * r)) + 2) (fun x79 => alI σ (some sc) 0 ((Int32.ofNat (5 * r)) + 3) (fun x80 => alI σ (some sc) 0 ((Int32.ofNat (5 * r)) + 4) (fun x81 => wX0_use G (fun x83 z82 => alI z82 (some sc) 0 ((Int32.ofNat (5 * r)) + 1) (fun x84 => alI z82 (some sc) 0 ((Int32.ofNat (5 * r)) + 2) (fun x85 => alI z82 (some sc) 0 ((Int32.ofNat (5 * r)) + 3) (fun x86 => alI z82 (some sc) 0 ((Int32.ofNat (5 * r)) + 4) (fun x87 => (rcv z82 (some a) 4 ∧ wX5_use G (fun x89 z88 => (rcv z88 (some a) 4 ∧ wX5_thrown G (fun x91 z90 => ((x91 = x83 → ((¬ x83 = 0 → wL_lawb720 G P PX K28 (some sc) (some x) (some a) (some oL) (some oD) (Int32.ofNat (5 * r)) z90) ∧ (x83 = 0 → alL z90 (some oL) 0 (fun x92 => ((x89 = 0 → wL_lawb714 G P PX K28 (some sc) (some x) (some a) (some oL) (some oD) (Int32.ofNat (5 * r)) x92 0 z90) ∧ (¬ x89 = 0 → wL_lawb714 G P PX K28 (some sc) (some x) (some a) (some oL) (some oD) (Int32.ofNat (5 * r)) x92 1 z90)))))) ∧ (¬ x91 = x83 → P 0 z90))) PX (some a)  z88)) PX (some a) x84 x85 x86 x87 z82)))))) PX (some x) x78 x79 x80 x81 (some oL) σ)))) := by
  obtain ⟨⟨hS, hz, hok⟩, hC, hMS, hF, hbd, hNT⟩ := id hB
  obtain ⟨hJ, n0, o0, A0, md0, es0, hLG, hO⟩ := cs_lg hC
  have hgo := hLG.ok
  have h12 := hgo.1.1
  have hbz : bd G σ 49000 := hbd.mono (by omega)
  have hc6 := hMS.1.2.1
  have h3 := hMS.1.1
  have hNX : ∀ z, RS G z x a oL oD sc L A xs (r + 1) → wL_lawb2581 G P PX K28 (some sc) (some x) (some a) (some oL) (some oD) (Int32.ofNat (5 * r)) z := fun z h => hK z h
  unfold wL_lawb714
  refine sc_1 hF (i := 5 * r) (j := 1) (by omega) hL (sc_1 hF (i := 5 * r) (j := 2) (by omega) hL (sc_1 hF (i := 5 * r) (j := 3) (by omega) hL (sc_1 hF (i := 5 * r) (j := 4) (by omega) hL (?_))))
  unfold wX0_use wX0_useb0
  refine ⟨hC.rc, c_use hS hC (hbz.mono (by omega)) (fun w τ e e1 he => ?_) (fun w1 w2 w3 τ e e1 he => ?_) fun k' t' w1 w2 hk hk4 ht ht10 => ⟨fun rs d τ e ho e1 hC1 he => ?_, fun v g' τ ho e1 hC1 => ?_⟩⟩
  · refine Or.inr (Or.inr (Or.inl ⟨rfl, ?_⟩))
    unfold wX0_useb24
    have hM := rb_mq hB hr e1 (by omega)
    refine sc_1 hM.2.2.1 (i := 5 * r) (j := 1) (by omega) hL (sc_1 hM.2.2.1 (i := 5 * r) (j := 2) (by omega) hL (sc_1 hM.2.2.1 (i := 5 * r) (j := 3) (by omega) hL (sc_1 hM.2.2.1 (i := 5 * r) (j := 4) (by omega) hL (?_))))
    rw [← hM.1.2.1]
    exact ⟨m_rcv, X_use hok hgo hc6 h3 (fun _ => mch_fb hM hMS (by decide) hNX) (fun wp ws _ => absurd ⟨wp, ws⟩ w) fun _ _ _ _ hp hp6 _ _ _ _ hs hs3 _ _ => absurd ⟨isP_n hp hp6, isS_n hs hs3⟩ w⟩
  · refine Or.inl ⟨rfl, ?_⟩
    unfold wX0_useb28
    have hM := rb_mq hB hr e1 (by omega)
    refine sc_1 hM.2.2.1 (i := 5 * r) (j := 1) (by omega) hL (sc_1 hM.2.2.1 (i := 5 * r) (j := 2) (by omega) hL (sc_1 hM.2.2.1 (i := 5 * r) (j := 3) (by omega) hL (sc_1 hM.2.2.1 (i := 5 * r) (j := 4) (by omega) hL (?_))))
    rw [← hM.1.2.1]
    exact ⟨m_rcv, X_use hok hgo hc6 h3 (fun w' => absurd ⟨w1, w2⟩ w') (fun _ _ _ => mch_fb hM hMS (by decide) hNX) fun _ _ _ _ _ _ hk hk4 ht ht10 _ _ _ _ => absurd (isX_n hk hk4 ht ht10) w3⟩
  · refine Or.inr (Or.inl ⟨rfl, ?_⟩)
    unfold wX0_useb32
    have hM := rb_md hB hr e1 hC1 (by omega) (by omega)
    refine sc_1 hM.2.2.1 (i := 5 * r) (j := 1) (by omega) hL (sc_1 hM.2.2.1 (i := 5 * r) (j := 2) (by omega) hL (sc_1 hM.2.2.1 (i := 5 * r) (j := 3) (by omega) hL (sc_1 hM.2.2.1 (i := 5 * r) (j := 4) (by omega) hL (?_))))
    rw [← hM.1.2.1]
    exact ⟨m_rcv, X_use hok hgo hc6 h3 (fun w' => absurd ⟨w1, w2⟩ w') (fun _ _ w' => absurd (isX_n hk hk4 ht ht10) w') fun p' k'' t'' s' hp hp6 hk' hk4' ht' ht10' hs hs3 o ho' => mch_rb hM hMS (by decide) hNX ho (Or.inr (Or.inr (Or.inr (Or.inr (Or.inr (Or.inl (⟨rfl, p', s', hp, hp6, hs, hs3, by rw [n_eq hk hk' (by omega) (by omega), n_eq ht ht' (by omega) (by omega)]; exact ho'⟩)))))))⟩
  · have ev : (if v = 1 then (1 : Int32) else 0) = v := by rcases cDo_6 ho with q | q <;> rw [q] <;> rfl
    simp only [ev]
    unfold wX0_useb20
    refine md_LB (cDo_6 ho) (rb_md hB hr e1 hC1 (by omega) (by omega)) fun υ f hM hf hv => ?_
    refine sc_1 hM.2.2.1 (i := 5 * r) (j := 1) (by omega) hL (sc_1 hM.2.2.1 (i := 5 * r) (j := 2) (by omega) hL (sc_1 hM.2.2.1 (i := 5 * r) (j := 3) (by omega) hL (sc_1 hM.2.2.1 (i := 5 * r) (j := 4) (by omega) hL (?_))))
    rw [← hM.1.2.1]
    exact ⟨m_rcv, X_use hok hgo hc6 h3 (fun w' => absurd ⟨w1, w2⟩ w') (fun _ _ w' => absurd (isX_n hk hk4 ht ht10) w') fun p' k'' t'' s' hp hp6 hk' hk4' ht' ht10' hs hs3 o ho' => mch_db (cDo_6 ho) hM hMS hf hv hNX ho (Or.inr (Or.inr (Or.inr (Or.inr (Or.inr (Or.inl (⟨rfl, p', s', hp, hp6, hs, hs3, by rw [n_eq hk hk' (by omega) (by omega), n_eq ht ht' (by omega) (by omega)]; exact ho'⟩)))))))⟩
theorem cs_6 (hB : RB G σ x a oL oD sc L A xs r N M hg sg T U er wy dt) (hr : r < 24) (h5 : 5 * r + 5 ≤ L) (hL : L ≤ 120) (hK : ∀ z, RS G z x a oL oD sc L A xs (r + 1) → K28 (some sc, some x, some a, some oL, some oD, Int32.ofNat (5 * r) + 5, z)) : alI σ (some sc) 0 ((Int32.ofNat (5 * r)) + 1) (fun x93 => alI σ (some sc) 0 ((Int32.ofNat (5 * r)) + 2) (fun x94 => wX0_strict G (fun x96 z95 => alI z95 (some sc) 0 ((Int32.ofNat (5 * r)) + 1) (fun x97 => alI z95 (some sc) 0 ((Int32.ofNat (5 * r)) + 2) (fun x98 => (rcv z95 (some a) 4 ∧ wX5_strict G (fun x100 z99 => (rcv z99 (some a) 4 ∧ wX5_thrown G (fun x102 z101 => ((x102 = x96 → ((¬ x96 = 0 → wL_lawb788 G P PX K28 (some sc) (some x) (some a) (some oL) (some oD) (Int32.ofNat (5 * r)) z101) ∧ (x96 = 0 → alL z101 (some oL) 0 (fun x103 => (((lg_cmp x103 ((x100 : Int32).toInt64)) = 0 → wL_lawb788 G P PX K28 (some sc) (some x) (some a) (some oL) (some oD) (Int32.ofNat (5 * r)) z101) ∧ (¬ (lg_cmp x103 ((x100 : Int32).toInt64)) = 0 → P 0 z101)))))) ∧ (¬ x102 = x96 → P 0 z101))) PX (some a)  z99)) PX (some a) x97 x98 z95)))) PX (some x) x93 x94 (some oL) σ)) := by
  obtain ⟨⟨hS, hz, hok⟩, hC, hMS, hF, hbd, hNT⟩ := id hB
  obtain ⟨hJ, n0, o0, A0, md0, es0, hLG, hO⟩ := cs_lg hC
  have hgo := hLG.ok
  have h12 := hgo.1.1
  have hbz : bd G σ 49000 := hbd.mono (by omega)
  have hc6 := hMS.1.2.1
  have h3 := hMS.1.1
  have hNX : ∀ z, RS G z x a oL oD sc L A xs (r + 1) → wL_lawb2581 G P PX K28 (some sc) (some x) (some a) (some oL) (some oD) (Int32.ofNat (5 * r)) z := fun z h => hK z h
  refine sc_1 hF (i := 5 * r) (j := 1) (by omega) hL (sc_1 hF (i := 5 * r) (j := 2) (by omega) hL (?_))
  unfold wX0_strict wX0_strictb0
  refine ⟨hC.rc, c_strict hS hC (hbz.mono (by omega)) (fun w τ e e1 he => ?_) (fun w1 w2 τ e e1 he => ?_) fun w1 w2 => ⟨fun rs d τ e ho e1 hC1 he => ?_, fun v g' τ ho e1 hC1 => ?_⟩⟩
  · refine Or.inr (Or.inr (Or.inl ⟨rfl, ?_⟩))
    unfold wX0_strictb13
    have hM := rb_mq hB hr e1 (by omega)
    refine sc_1 hM.2.2.1 (i := 5 * r) (j := 1) (by omega) hL (sc_1 hM.2.2.1 (i := 5 * r) (j := 2) (by omega) hL (?_))
    rw [← hM.1.2.1]
    exact ⟨m_rcv, X_strict hok hc6 h3 (fun _ => mch_f hM hMS (by decide) hNX) (fun w' _ => absurd w' w) fun s hs hs3 _ _ _ => absurd (isS_n hs hs3) w⟩
  · refine Or.inl ⟨rfl, ?_⟩
    unfold wX0_strictb17
    have hM := rb_mq hB hr e1 (by omega)
    refine sc_1 hM.2.2.1 (i := 5 * r) (j := 1) (by omega) hL (sc_1 hM.2.2.1 (i := 5 * r) (j := 2) (by omega) hL (?_))
    rw [← hM.1.2.1]
    exact ⟨m_rcv, X_strict hok hc6 h3 (fun w' => absurd w1 w') (fun _ _ => mch_f hM hMS (by decide) hNX) fun _ _ _ w' _ _ => absurd w' w2⟩
  · refine Or.inr (Or.inl ⟨rfl, ?_⟩)
    unfold wX0_strictb21
    have hM := rb_md hB hr e1 hC1 (by omega) (by omega)
    refine sc_1 hM.2.2.1 (i := 5 * r) (j := 1) (by omega) hL (sc_1 hM.2.2.1 (i := 5 * r) (j := 2) (by omega) hL (?_))
    rw [← hM.1.2.1]
    exact ⟨m_rcv, X_strict hok hc6 h3 (fun w' => absurd w1 w') (fun _ w' => absurd w2 w') fun s hs hs3 _ o ho' => mch_r hM hMS (by decide) hNX ho (Or.inr (Or.inr (Or.inr (Or.inr (Or.inr (Or.inr (Or.inl (⟨rfl, s, hs, hs3, ho'⟩))))))))⟩
  · refine md_L (rb_md hB hr e1 hC1 (by omega) (by omega)) fun υ f hM hf hv => ?_
    refine sc_1 hM.2.2.1 (i := 5 * r) (j := 1) (by omega) hL (sc_1 hM.2.2.1 (i := 5 * r) (j := 2) (by omega) hL (?_))
    rw [← hM.1.2.1]
    exact ⟨m_rcv, X_strict hok hc6 h3 (fun w' => absurd w1 w') (fun _ w' => absurd w2 w') fun s hs hs3 _ o ho' => mch_d hM hMS hf hv hNX ho (Or.inr (Or.inr (Or.inr (Or.inr (Or.inr (Or.inr (Or.inl (⟨rfl, s, hs, hs3, ho'⟩))))))))⟩
theorem cs_7 (hB : RB G σ x a oL oD sc L A xs r N M hg sg T U er wy dt) (hr : r < 24) (h5 : 5 * r + 5 ≤ L) (hL : L ≤ 120) (hK : ∀ z, RS G z x a oL oD sc L A xs (r + 1) → K28 (some sc, some x, some a, some oL, some oD, Int32.ofNat (5 * r) + 5, z)) : alI σ (some sc) 0 ((Int32.ofNat (5 * r)) + 1) (fun x104 => wX0_weather G (fun x106 z105 => alI z105 (some sc) 0 ((Int32.ofNat (5 * r)) + 1) (fun x107 => (rcv z105 (some a) 4 ∧ wX5_weather G (fun x109 z108 => (rcv z108 (some a) 4 ∧ wX5_thrown G (fun x111 z110 => ((x111 = x106 → ((¬ x106 = 0 → wL_lawb844 G P PX K28 (some sc) (some x) (some a) (some oL) (some oD) (Int32.ofNat (5 * r)) z110) ∧ (x106 = 0 → alL z110 (some oL) 0 (fun x112 => (((lg_cmp x112 ((x109 : Int32).toInt64)) = 0 → wL_lawb844 G P PX K28 (some sc) (some x) (some a) (some oL) (some oD) (Int32.ofNat (5 * r)) z110) ∧ (¬ (lg_cmp x112 ((x109 : Int32).toInt64)) = 0 → P 0 z110)))))) ∧ (¬ x111 = x106 → P 0 z110))) PX (some a)  z108)) PX (some a) x107 z105))) PX (some x) x104 (some oL) σ) := by
  obtain ⟨⟨hS, hz, hok⟩, hC, hMS, hF, hbd, hNT⟩ := id hB
  obtain ⟨hJ, n0, o0, A0, md0, es0, hLG, hO⟩ := cs_lg hC
  have hgo := hLG.ok
  have h12 := hgo.1.1
  have hbz : bd G σ 49000 := hbd.mono (by omega)
  have hc6 := hMS.1.2.1
  have h3 := hMS.1.1
  have hNX : ∀ z, RS G z x a oL oD sc L A xs (r + 1) → wL_lawb2581 G P PX K28 (some sc) (some x) (some a) (some oL) (some oD) (Int32.ofNat (5 * r)) z := fun z h => hK z h
  refine sc_1 hF (i := 5 * r) (j := 1) (by omega) hL (?_)
  unfold wX0_weather wX0_weatherb0
  refine ⟨hC.rc, c_weather hS hC (hbz.mono (by omega)) (fun w τ e e1 he => ?_) fun w1 => ⟨fun rs d τ e ho e1 hC1 he => ?_, fun v g' τ ho e1 hC1 => ?_⟩⟩
  · refine Or.inl ⟨rfl, ?_⟩
    unfold wX0_weatherb12
    have hM := rb_mq hB hr e1 (by omega)
    refine sc_1 hM.2.2.1 (i := 5 * r) (j := 1) (by omega) hL (?_)
    rw [← hM.1.2.1]
    exact ⟨m_rcv, X_weather hok hc6 h3 (fun _ => mch_f hM hMS (by decide) hNX) fun w' _ _ => absurd w' w⟩
  · refine Or.inr (Or.inl ⟨rfl, ?_⟩)
    unfold wX0_weatherb15
    have hM := rb_md hB hr e1 hC1 (by omega) (by omega)
    refine sc_1 hM.2.2.1 (i := 5 * r) (j := 1) (by omega) hL (?_)
    rw [← hM.1.2.1]
    exact ⟨m_rcv, X_weather hok hc6 h3 (fun w' => absurd w1 w') fun _ o ho' => mch_r hM hMS (by decide) hNX ho (Or.inr (Or.inr (Or.inr (Or.inr (Or.inr (Or.inr (Or.inr (Or.inl (⟨rfl, ho'⟩)))))))))⟩
  · refine md_L (rb_md hB hr e1 hC1 (by omega) (by omega)) fun υ f hM hf hv => ?_
    refine sc_1 hM.2.2.1 (i := 5 * r) (j := 1) (by omega) hL (?_)
    rw [← hM.1.2.1]
    exact ⟨m_rcv, X_weather hok hc6 h3 (fun w' => absurd w1 w') fun _ o ho' => mch_d hM hMS hf hv hNX ho (Or.inr (Or.inr (Or.inr (Or.inr (Or.inr (Or.inr (Or.inr (Or.inl (⟨rfl, ho'⟩)))))))))⟩
theorem cs_8 (hB : RB G σ x a oL oD sc L A xs r N M hg sg T U er wy dt) (hr : r < 24) (h5 : 5 * r + 5 ≤ L) (hL : L ≤ 120) (hK : ∀ z, RS G z x a oL oD sc L A xs (r + 1) → K28 (some sc, some x, some a, some oL, some oD, Int32.ofNat (5 * r) + 5, z)) : (rcv σ (some x) 0 ∧ wX1_day G (fun x114 z113 => (rcv z113 (some a) 4 ∧ wX5_day G (fun x116 z115 => ((x114 = x116 → wL_lawb2581 G P PX K28 (some sc) (some x) (some a) (some oL) (some oD) (Int32.ofNat (5 * r)) z115) ∧ (¬ x114 = x116 → P 0 z115))) PX (some a)  z113)) PX (some x)  σ) := by
  obtain ⟨⟨hS, hz, hok⟩, hC, hMS, hF, hbd, hNT⟩ := id hB
  obtain ⟨hJ, n0, o0, A0, md0, es0, hLG, hO⟩ := cs_lg hC
  have hgo := hLG.ok
  have h12 := hgo.1.1
  have hbz : bd G σ 49000 := hbd.mono (by omega)
  have hc6 := hMS.1.2.1
  have h3 := hMS.1.1
  have hNX : ∀ z, RS G z x a oL oD sc L A xs (r + 1) → wL_lawb2581 G P PX K28 (some sc) (some x) (some a) (some oL) (some oD) (Int32.ofNat (5 * r)) z := fun z h => hK z h
  refine ⟨hC.rc, c_day hS hC (hbz.mono (by omega)) ⟨fun rs d τ e ho e1 hC1 he => (no_day ho).elim, fun v g' τ ho e1 hC1 => ?_⟩⟩
  · have hM := rb_md hB hr e1 hC1 (by omega) (by omega)
    rw [← hM.1.2.1]
    exact ⟨m_rcv, X_day hok hgo hc6 h3 fun o ho' => mch_e hM hMS hNX ho (Or.inr (Or.inr (Or.inr (Or.inr (Or.inr (Or.inr (Or.inr (Or.inr (⟨rfl, ho'⟩)))))))))⟩
end LC2
