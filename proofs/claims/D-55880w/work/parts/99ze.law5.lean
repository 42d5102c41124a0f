/-! the law: questions -/
set_option maxRecDepth 100000
section LC5
variable {G : gE} {σ : hSt} {x a oL oD sc L r N : Nat} {A : Nat → Nat} {xs : Nat → Int32} {M : mSt} {hg : List (Nat → Int32)} {sg : Option (Nat → Int32)} {T U : List Nat} {er wy dt : Int32} {PX : Nat → Nat → hSt → Prop} {P : Int32 → hSt → Prop} {K28 : (Option Nat × Option Nat × Option Nat × Option Nat × Option Nat × Int32 × hSt) → Prop}
theorem cs_24 (hB : RB G σ x a oL oD sc L A xs r N M hg sg T U er wy dt) (hr : r < 24) (h5 : 5 * r + 5 ≤ L) (hL : L ≤ 120) (hK : ∀ z, RS G z x a oL oD sc L A xs (r + 1) → K28 (some sc, some x, some a, some oL, some oD, Int32.ofNat (5 * r) + 5, z)) : alI σ (some sc) 0 ((Int32.ofNat (5 * r)) + 1) (fun x251 => wX0_ranked G (fun x253 z252 => alI z252 (some sc) 0 ((Int32.ofNat (5 * r)) + 1) (fun x254 => (rcv z252 (some a) 4 ∧ wX5_ranked G (fun x256 z255 => (rcv z255 (some a) 4 ∧ wX5_thrown G (fun x258 z257 => ((x258 = x253 → ((¬ x253 = 0 → wL_lawb1779 G P PX K28 (some sc) (some x) (some a) (some oL) (some oD) (Int32.ofNat (5 * r)) z257) ∧ (x253 = 0 → alL z257 (some oL) 0 (fun x259 => (((lg_cmp x259 ((x256 : Int32).toInt64)) = 0 → wL_lawb1779 G P PX K28 (some sc) (some x) (some a) (some oL) (some oD) (Int32.ofNat (5 * r)) z257) ∧ (¬ (lg_cmp x259 ((x256 : Int32).toInt64)) = 0 → P 0 z257)))))) ∧ (¬ x258 = x253 → P 0 z257))) PX (some a)  z255)) PX (some a) x254 z252))) PX (some x) x251 (some oL) σ) := by
  obtain ⟨⟨hS, hz, hok⟩, hC, hMS, hF, hbd, hNT⟩ := id hB
  obtain ⟨hJ, n0, o0, A0, md0, es0, hLG, hO⟩ := cs_lg hC
  have hgo := hLG.ok
  have h12 := hgo.1.1
  have hbz : bd G σ 49000 := hbd.mono (by omega)
  have hc6 := hMS.1.2.1
  have h3 := hMS.1.1
  have hNX : ∀ z, RS G z x a oL oD sc L A xs (r + 1) → wL_lawb2581 G P PX K28 (some sc) (some x) (some a) (some oL) (some oD) (Int32.ofNat (5 * r)) z := fun z h => hK z h
  refine sc_1 hF (i := 5 * r) (j := 1) (by omega) hL (?_)
  unfold wX0_ranked wX0_rankedb0
  refine ⟨hC.rc, q_ranked hS hO hLG hJ.1 (hbz.mono (by omega)) (fun w τ e e1 he => ?_) fun p τ w1 w2 e1 => ?_⟩
  · refine Or.inl ⟨rfl, ?_⟩
    unfold wX0_rankedb12
    have hM := rb_mq hB hr e1 (by omega)
    refine sc_1 hM.2.2.1 (i := 5 * r) (j := 1) (by omega) hL (?_)
    rw [← hM.1.2.1]
    exact ⟨m_rcv, x_ranked hok hgo (fun _ => tail_i hM (fun w9 => absurd w9 (by decide)) m14_F (hNX _ (md_end hM (fun _ _ => rfl) (MS_F hMS)))) fun p u1 u2 _ => absurd u2 (w p u1)⟩
  · refine md_L (rb_mq hB hr e1 (by omega)) fun υ f hM hf hv => ?_
    refine sc_1 hM.2.2.1 (i := 5 * r) (j := 1) (by omega) hL (?_)
    rw [← hM.1.2.1]
    exact ⟨m_rcv, x_ranked hok hgo (fun u => absurd w2 (u p w1)) fun p2 u1 u2 _ => by
      cases rkn_1 hJ.1 w1 u1 (w2.trans u2.symm)
      exact tail_i hM (fun _ => ⟨f, hf, hv⟩) m14_S (hNX _ (md_end hM (fun _ _ => rfl) (MS_14 hMS)))⟩
theorem cs_25 (hB : RB G σ x a oL oD sc L A xs r N M hg sg T U er wy dt) (hr : r < 24) (h5 : 5 * r + 5 ≤ L) (hL : L ≤ 120) (hK : ∀ z, RS G z x a oL oD sc L A xs (r + 1) → K28 (some sc, some x, some a, some oL, some oD, Int32.ofNat (5 * r) + 5, z)) : alI σ (some sc) 0 ((Int32.ofNat (5 * r)) + 1) (fun x260 => wX0_freshest G (fun x262 z261 => alI z261 (some sc) 0 ((Int32.ofNat (5 * r)) + 1) (fun x263 => (rcv z261 (some a) 4 ∧ wX5_freshest G (fun x265 z264 => (rcv z264 (some a) 4 ∧ wX5_thrown G (fun x267 z266 => ((x267 = x262 → ((¬ x262 = 0 → wL_lawb1835 G P PX K28 (some sc) (some x) (some a) (some oL) (some oD) (Int32.ofNat (5 * r)) z266) ∧ (x262 = 0 → alL z266 (some oL) 0 (fun x268 => (((lg_cmp x268 ((x265 : Int32).toInt64)) = 0 → wL_lawb1835 G P PX K28 (some sc) (some x) (some a) (some oL) (some oD) (Int32.ofNat (5 * r)) z266) ∧ (¬ (lg_cmp x268 ((x265 : Int32).toInt64)) = 0 → P 0 z266)))))) ∧ (¬ x267 = x262 → P 0 z266))) PX (some a)  z264)) PX (some a) x263 z261))) PX (some x) x260 (some oL) σ) := by
  obtain ⟨⟨hS, hz, hok⟩, hC, hMS, hF, hbd, hNT⟩ := id hB
  obtain ⟨hJ, n0, o0, A0, md0, es0, hLG, hO⟩ := cs_lg hC
  have hgo := hLG.ok
  have h12 := hgo.1.1
  have hbz : bd G σ 49000 := hbd.mono (by omega)
  have hc6 := hMS.1.2.1
  have h3 := hMS.1.1
  have hNX : ∀ z, RS G z x a oL oD sc L A xs (r + 1) → wL_lawb2581 G P PX K28 (some sc) (some x) (some a) (some oL) (some oD) (Int32.ofNat (5 * r)) z := fun z h => hK z h
  refine sc_1 hF (i := 5 * r) (j := 1) (by omega) hL (?_)
  unfold wX0_freshest wX0_freshestb0
  refine ⟨hC.rc, q_fresh hS hO hLG hJ.1 (by omega) (hbz.mono (by omega)) (fun w τ e e1 he => ?_) fun p τ w1 w2 e1 => ?_⟩
  · refine Or.inl ⟨rfl, ?_⟩
    unfold wX0_freshestb12
    have hM := rb_mq hB hr e1 (by omega)
    refine sc_1 hM.2.2.1 (i := 5 * r) (j := 1) (by omega) hL (?_)
    rw [← hM.1.2.1]
    exact ⟨m_rcv, x_freshest hok hgo (fun _ => tail_i hM (fun w9 => absurd w9 (by decide)) m14_F (hNX _ (md_end hM (fun _ _ => rfl) (MS_F hMS)))) fun p u1 u2 _ => absurd u2 (w p u1)⟩
  · refine md_L (rb_mq hB hr e1 (by omega)) fun υ f hM hf hv => ?_
    refine sc_1 hM.2.2.1 (i := 5 * r) (j := 1) (by omega) hL (?_)
    rw [← hM.1.2.1]
    exact ⟨m_rcv, x_freshest hok hgo (fun u => absurd w2 (u p w1)) fun p2 u1 u2 _ => by
      cases fkn_1 hJ.1 (by omega) w1 u1 (w2.trans u2.symm)
      exact tail_i hM (fun _ => ⟨f, hf, hv⟩) m14_S (hNX _ (md_end hM (fun _ _ => rfl) (MS_14 hMS)))⟩
theorem cs_26 (hB : RB G σ x a oL oD sc L A xs r N M hg sg T U er wy dt) (hr : r < 24) (h5 : 5 * r + 5 ≤ L) (hL : L ≤ 120) (hK : ∀ z, RS G z x a oL oD sc L A xs (r + 1) → K28 (some sc, some x, some a, some oL, some oD, Int32.ofNat (5 * r) + 5, z)) : wX0_strongest G (fun x270 z269 => (rcv z269 (some a) 4 ∧ wX5_strongest G (fun x272 z271 => (rcv z271 (some a) 4 ∧ wX5_thrown G (fun x274 z273 => ((x274 = x270 → ((¬ x270 = 0 → wL_lawb1879 G P PX K28 (some sc) (some x) (some a) (some oL) (some oD) (Int32.ofNat (5 * r)) z273) ∧ (x270 = 0 → alL z273 (some oL) 0 (fun x275 => (((lg_cmp x275 ((x272 : Int32).toInt64)) = 0 → wL_lawb1879 G P PX K28 (some sc) (some x) (some a) (some oL) (some oD) (Int32.ofNat (5 * r)) z273) ∧ (¬ (lg_cmp x275 ((x272 : Int32).toInt64)) = 0 → P 0 z273)))))) ∧ (¬ x274 = x270 → P 0 z273))) PX (some a)  z271)) PX (some a)  z269)) PX (some x) (some oL) σ := by
  obtain ⟨⟨hS, hz, hok⟩, hC, hMS, hF, hbd, hNT⟩ := id hB
  obtain ⟨hJ, n0, o0, A0, md0, es0, hLG, hO⟩ := cs_lg hC
  have hgo := hLG.ok
  have h12 := hgo.1.1
  have hbz : bd G σ 49000 := hbd.mono (by omega)
  have hc6 := hMS.1.2.1
  have h3 := hMS.1.1
  have hNX : ∀ z, RS G z x a oL oD sc L A xs (r + 1) → wL_lawb2581 G P PX K28 (some sc) (some x) (some a) (some oL) (some oD) (Int32.ofNat (5 * r)) z := fun z h => hK z h
  unfold wX0_strongest wX0_strongestb0
  refine ⟨hC.rc, q_strong hS hO hLG (hbz.mono (by omega)) (fun w τ e e1 he => ?_) fun w τ e1 => ?_⟩
  · refine Or.inl ⟨rfl, ?_⟩
    unfold wX0_strongestb11
    have hM := rb_mq hB hr e1 (by omega)
    rw [← hM.1.2.1]
    exact ⟨m_rcv, x_strongest hok hgo (fun _ => tail_i hM (fun w9 => absurd w9 (by decide)) m14_F (hNX _ (md_end hM (fun _ _ => rfl) (MS_F hMS)))) fun u => absurd w u⟩
  · refine md_L (rb_mq hB hr e1 (by omega)) fun υ f hM hf hv => ?_
    rw [← hM.1.2.1]
    exact ⟨m_rcv, x_strongest hok hgo (fun u => absurd u w) fun _ => tail_i hM (fun _ => ⟨f, hf, hv⟩) m14_S (hNX _ (md_end hM (fun _ _ => rfl) (MS_14 hMS)))⟩
theorem cs_27 (hB : RB G σ x a oL oD sc L A xs r N M hg sg T U er wy dt) (hr : r < 24) (h5 : 5 * r + 5 ≤ L) (hL : L ≤ 120) (hK : ∀ z, RS G z x a oL oD sc L A xs (r + 1) → K28 (some sc, some x, some a, some oL, some oD, Int32.ofNat (5 * r) + 5, z)) : (rcv σ (some x) 0 ∧ wX1_isFair G (fun x277 z276 => (rcv z276 (some a) 4 ∧ wX5_isFair G (fun x279 z278 => ((x277 = x279 → wL_lawb2581 G P PX K28 (some sc) (some x) (some a) (some oL) (some oD) (Int32.ofNat (5 * r)) z278) ∧ (¬ x277 = x279 → P 0 z278))) PX (some a)  z276)) PX (some x)  σ) := by
  obtain ⟨⟨hS, hz, hok⟩, hC, hMS, hF, hbd, hNT⟩ := id hB
  obtain ⟨hJ, n0, o0, A0, md0, es0, hLG, hO⟩ := cs_lg hC
  have hgo := hLG.ok
  have h12 := hgo.1.1
  have hbz : bd G σ 49000 := hbd.mono (by omega)
  have hc6 := hMS.1.2.1
  have h3 := hMS.1.1
  have hNX : ∀ z, RS G z x a oL oD sc L A xs (r + 1) → wL_lawb2581 G P PX K28 (some sc) (some x) (some a) (some oL) (some oD) (Int32.ofNat (5 * r)) z := fun z h => hK z h
  refine ⟨hC.rc, q_fair hS hO hLG hJ.1 (by omega) (hbz.mono (by omega)) fun τ e1 => ?_⟩
  · have hM := rb_mq hB hr e1 (by omega)
    rw [← hM.1.2.1]
    exact ⟨m_rcv, x_isFair hok ⟨fun _ => hNX _ (md_end hM (fun _ _ => rfl) (MS_14 hMS)), fun w9 => absurd rfl w9⟩⟩
theorem cs_28 (hB : RB G σ x a oL oD sc L A xs r N M hg sg T U er wy dt) (hr : r < 24) (h5 : 5 * r + 5 ≤ L) (hL : L ≤ 120) (hK : ∀ z, RS G z x a oL oD sc L A xs (r + 1) → K28 (some sc, some x, some a, some oL, some oD, Int32.ofNat (5 * r) + 5, z)) : alI σ (some sc) 0 ((Int32.ofNat (5 * r)) + 1) (fun x280 => alI σ (some sc) 0 ((Int32.ofNat (5 * r)) + 2) (fun x281 => wX0_tell G (fun x283 z282 => alI z282 (some sc) 0 ((Int32.ofNat (5 * r)) + 1) (fun x284 => alI z282 (some sc) 0 ((Int32.ofNat (5 * r)) + 2) (fun x285 => (rcv z282 (some a) 4 ∧ wX5_tell G (fun x287 z286 => (rcv z286 (some a) 4 ∧ wX5_thrown G (fun x289 z288 => ((x289 = x283 → ((¬ x283 = 0 → wL_lawb1960 G P PX K28 (some sc) (some x) (some a) (some oL) (some oD) (Int32.ofNat (5 * r)) z288) ∧ (x283 = 0 → alL z288 (some oL) 0 (fun x290 => (((lg_cmp x290 ((x287 : Int32).toInt64)) = 0 → wL_lawb1960 G P PX K28 (some sc) (some x) (some a) (some oL) (some oD) (Int32.ofNat (5 * r)) z288) ∧ (¬ (lg_cmp x290 ((x287 : Int32).toInt64)) = 0 → P 0 z288)))))) ∧ (¬ x289 = x283 → P 0 z288))) PX (some a)  z286)) PX (some a) x284 x285 z282)))) PX (some x) x280 x281 (some oL) σ)) := by
  obtain ⟨⟨hS, hz, hok⟩, hC, hMS, hF, hbd, hNT⟩ := id hB
  obtain ⟨hJ, n0, o0, A0, md0, es0, hLG, hO⟩ := cs_lg hC
  have hgo := hLG.ok
  have h12 := hgo.1.1
  have hbz : bd G σ 49000 := hbd.mono (by omega)
  have hc6 := hMS.1.2.1
  have h3 := hMS.1.1
  have hNX : ∀ z, RS G z x a oL oD sc L A xs (r + 1) → wL_lawb2581 G P PX K28 (some sc) (some x) (some a) (some oL) (some oD) (Int32.ofNat (5 * r)) z := fun z h => hK z h
  refine sc_1 hF (i := 5 * r) (j := 1) (by omega) hL (sc_1 hF (i := 5 * r) (j := 2) (by omega) hL (?_))
  unfold wX0_tell wX0_tellb0
  refine ⟨hC.rc, c_tell hS hC (hbz.mono (by omega)) (fun w τ e e1 he => ?_) (fun w1 w2 τ e e1 he => ?_) fun i τ w1 w2 e1 hC1 => ?_⟩
  · refine Or.inr (Or.inl ⟨rfl, ?_⟩)
    unfold wX0_tellb13
    have hM := rb_mq hB hr e1 (by omega)
    refine sc_1 hM.2.2.1 (i := 5 * r) (j := 1) (by omega) hL (sc_1 hM.2.2.1 (i := 5 * r) (j := 2) (by omega) hL (?_))
    rw [← hM.1.2.1]
    exact ⟨m_rcv, x_tell hok hgo hJ.1.gQ (fun _ => tail_i hM (fun w9 => absurd w9 (by decide)) m14_F (hNX _ (md_end hM (fun _ _ => rfl) (MS_F hMS)))) (fun u _ => absurd u w) fun _ u _ => absurd u w⟩
  · refine Or.inl ⟨rfl, ?_⟩
    unfold wX0_tellb17
    have hM := rb_mq hB hr e1 (by omega)
    refine sc_1 hM.2.2.1 (i := 5 * r) (j := 1) (by omega) hL (sc_1 hM.2.2.1 (i := 5 * r) (j := 2) (by omega) hL (?_))
    rw [← hM.1.2.1]
    exact ⟨m_rcv, x_tell hok hgo hJ.1.gQ (fun u => absurd w1 u) (fun _ _ => tail_i hM (fun w9 => absurd w9 (by decide)) m14_F (hNX _ (md_end hM (fun _ _ => rfl) (MS_F hMS)))) fun _ _ u => (no_F w2 u).elim⟩
  · refine md_L (rb_md hB hr e1 hC1 (by omega) (by omega)) fun υ f hM hf hv => ?_
    refine sc_1 hM.2.2.1 (i := 5 * r) (j := 1) (by omega) hL (sc_1 hM.2.2.1 (i := 5 * r) (j := 2) (by omega) hL (?_))
    rw [← hM.1.2.1]
    exact ⟨m_rcv, x_tell hok hgo hJ.1.gQ (fun u => absurd w1 u) (fun _ u => (no_F u w2).elim) fun i2 _ u => by
      cases f_un w2 u
      exact tail_i hM (fun _ => ⟨f, hf, hv⟩) m14_S (hNX _ (md_end hM (fun i _ => by rw [upS_1, txM_o (k := 0) (by decide)]) (MS_text hMS)))⟩
theorem cs_29 (hB : RB G σ x a oL oD sc L A xs r N M hg sg T U er wy dt) (hr : r < 24) (h5 : 5 * r + 5 ≤ L) (hL : L ≤ 120) (hK : ∀ z, RS G z x a oL oD sc L A xs (r + 1) → K28 (some sc, some x, some a, some oL, some oD, Int32.ofNat (5 * r) + 5, z)) : alI σ (some sc) 0 ((Int32.ofNat (5 * r)) + 1) (fun x291 => wX0_bag G (fun x293 z292 => alI z292 (some sc) 0 ((Int32.ofNat (5 * r)) + 1) (fun x294 => (rcv z292 (some a) 4 ∧ wX5_bag G (fun x296 z295 => (rcv z295 (some a) 4 ∧ wX5_thrown G (fun x298 z297 => ((x298 = x293 → ((¬ x293 = 0 → wL_lawb2016 G P PX K28 (some sc) (some x) (some a) (some oL) (some oD) (Int32.ofNat (5 * r)) z297) ∧ (x293 = 0 → alL z297 (some oL) 0 (fun x299 => (((lg_cmp x299 ((x296 : Int32).toInt64)) = 0 → wL_lawb2016 G P PX K28 (some sc) (some x) (some a) (some oL) (some oD) (Int32.ofNat (5 * r)) z297) ∧ (¬ (lg_cmp x299 ((x296 : Int32).toInt64)) = 0 → P 0 z297)))))) ∧ (¬ x298 = x293 → P 0 z297))) PX (some a)  z295)) PX (some a) x294 z292))) PX (some x) x291 (some oL) σ) := by
  obtain ⟨⟨hS, hz, hok⟩, hC, hMS, hF, hbd, hNT⟩ := id hB
  obtain ⟨hJ, n0, o0, A0, md0, es0, hLG, hO⟩ := cs_lg hC
  have hgo := hLG.ok
  have h12 := hgo.1.1
  have hbz : bd G σ 49000 := hbd.mono (by omega)
  have hc6 := hMS.1.2.1
  have h3 := hMS.1.1
  have hNX : ∀ z, RS G z x a oL oD sc L A xs (r + 1) → wL_lawb2581 G P PX K28 (some sc) (some x) (some a) (some oL) (some oD) (Int32.ofNat (5 * r)) z := fun z h => hK z h
  refine sc_1 hF (i := 5 * r) (j := 1) (by omega) hL (?_)
  unfold wX0_bag wX0_bagb0
  refine ⟨hC.rc, c_bag hS hC (hbz.mono (by omega)) (fun w τ e e1 he => ?_) fun w τ e1 hC1 => ?_⟩
  · refine Or.inl ⟨rfl, ?_⟩
    unfold wX0_bagb12
    have hM := rb_mq hB hr e1 (by omega)
    refine sc_1 hM.2.2.1 (i := 5 * r) (j := 1) (by omega) hL (?_)
    rw [← hM.1.2.1]
    exact ⟨m_rcv, x_bag hok hgo (fun _ => tail_i hM (fun w9 => absurd w9 (by decide)) m14_F (hNX _ (md_end hM (fun _ _ => rfl) (MS_F hMS)))) fun u => absurd u w⟩
  · refine md_L (rb_md hB hr e1 hC1 (by omega) (by omega)) fun υ f hM hf hv => ?_
    refine sc_1 hM.2.2.1 (i := 5 * r) (j := 1) (by omega) hL (?_)
    rw [← hM.1.2.1]
    exact ⟨m_rcv, x_bag hok hgo (fun u => absurd w u) fun _ => tail_i hM (fun _ => ⟨f, hf, hv⟩) m14_S (hNX _ (md_end hM (fun i _ => by rw [upS_1, txM_o (k := 0) (by decide)]) (MS_text hMS)))⟩
theorem cs_30 (hB : RB G σ x a oL oD sc L A xs r N M hg sg T U er wy dt) (hr : r < 24) (h5 : 5 * r + 5 ≤ L) (hL : L ≤ 120) (hK : ∀ z, RS G z x a oL oD sc L A xs (r + 1) → K28 (some sc, some x, some a, some oL, some oD, Int32.ofNat (5 * r) + 5, z)) : alI σ (some sc) 0 ((Int32.ofNat (5 * r)) + 1) (fun x300 => wX0_character G (fun x302 z301 => alI z301 (some sc) 0 ((Int32.ofNat (5 * r)) + 1) (fun x303 => (rcv z301 (some a) 4 ∧ wX5_character G (fun x305 z304 => (rcv z304 (some a) 4 ∧ wX5_thrown G (fun x307 z306 => ((x307 = x302 → ((¬ x302 = 0 → wL_lawb2072 G P PX K28 (some sc) (some x) (some a) (some oL) (some oD) (Int32.ofNat (5 * r)) z306) ∧ (x302 = 0 → alL z306 (some oL) 0 (fun x308 => (((lg_cmp x308 ((x305 : Int32).toInt64)) = 0 → wL_lawb2072 G P PX K28 (some sc) (some x) (some a) (some oL) (some oD) (Int32.ofNat (5 * r)) z306) ∧ (¬ (lg_cmp x308 ((x305 : Int32).toInt64)) = 0 → P 0 z306)))))) ∧ (¬ x307 = x302 → P 0 z306))) PX (some a)  z304)) PX (some a) x303 z301))) PX (some x) x300 (some oL) σ) := by
  obtain ⟨⟨hS, hz, hok⟩, hC, hMS, hF, hbd, hNT⟩ := id hB
  obtain ⟨hJ, n0, o0, A0, md0, es0, hLG, hO⟩ := cs_lg hC
  have hgo := hLG.ok
  have h12 := hgo.1.1
  have hbz : bd G σ 49000 := hbd.mono (by omega)
  have hc6 := hMS.1.2.1
  have h3 := hMS.1.1
  have hNX : ∀ z, RS G z x a oL oD sc L A xs (r + 1) → wL_lawb2581 G P PX K28 (some sc) (some x) (some a) (some oL) (some oD) (Int32.ofNat (5 * r)) z := fun z h => hK z h
  refine sc_1 hF (i := 5 * r) (j := 1) (by omega) hL (?_)
  unfold wX0_character wX0_characterb0
  refine ⟨hC.rc, c_char hS hC (hbz.mono (by omega)) (fun w τ e e1 he => ?_) fun i c w1 w2 => ?_⟩
  · refine Or.inl ⟨rfl, ?_⟩
    unfold wX0_characterb12
    have hM := rb_mq hB hr e1 (by omega)
    refine sc_1 hM.2.2.1 (i := 5 * r) (j := 1) (by omega) hL (?_)
    rw [← hM.1.2.1]
    exact ⟨m_rcv, x_character hok (cs_U hC).1 hMS.2.2.2.1.1 (fun _ => tail_i hM (fun w9 => absurd w9 (by decide)) m14_S (hNX _ (md_end hM (fun _ _ => rfl) (MS_14 hMS)))) fun i u1 u2 => absurd u2 (w i u1)⟩
  · refine md_L (rb_mq hB hr (ev.refl hS) (by omega)) fun υ f hM hf hv => ?_
    refine sc_1 hM.2.2.1 (i := 5 * r) (j := 1) (by omega) hL (?_)
    rw [← hM.1.2.1]
    exact ⟨m_rcv, x_character hok (cs_U hC).1 hMS.2.2.2.1.1 (fun u => absurd (List.getElem?_eq_some_iff.mp w2).1 (u i w1)) fun i2 u1 u2 => by
      have hU6 := (cs_U hC).1
      have hi := (List.getElem?_eq_some_iff.mp w2).1
      cases n_eq w1 u1 (by omega) (by omega)
      rw [hMS.2.2.2.1.2 i c w2]
      exact ⟨okN_c (cs_c hC w2), tail_i hM (fun _ => ⟨f, hf, hv⟩) m14_S (hNX _ (md_end hM (fun _ _ => rfl) (MS_14 hMS)))⟩⟩
end LC5
