/-! the law: the input, the history -/
set_option maxRecDepth 100000
section LC6
variable {G : gE} {σ : hSt} {x a oL oD sc L r N : Nat} {A : Nat → Nat} {xs : Nat → Int32} {M : mSt} {hg : List (Nat → Int32)} {sg : Option (Nat → Int32)} {T U : List Nat} {er wy dt : Int32} {PX : Nat → Nat → hSt → Prop} {P : Int32 → hSt → Prop} {K28 : (Option Nat × Option Nat × Option Nat × Option Nat × Option Nat × Int32 × hSt) → Prop}
theorem cs_33 (hB : RB G σ x a oL oD sc L A xs r N M hg sg T U er wy dt) (hr : r < 24) (h5 : 5 * r + 5 ≤ L) (hL : L ≤ 120) (hK : ∀ z, RS G z x a oL oD sc L A xs (r + 1) → K28 (some sc, some x, some a, some oL, some oD, Int32.ofNat (5 * r) + 5, z)) : alI σ (some sc) 0 ((Int32.ofNat (5 * r)) + 1) (fun x327 => wX0_account G (fun x329 z328 => alI z328 (some sc) 0 ((Int32.ofNat (5 * r)) + 1) (fun x330 => (rcv z328 (some a) 4 ∧ wX5_account G (fun x332 z331 => (rcv z331 (some a) 4 ∧ wX5_thrown G (fun x334 z333 => ((x334 = x329 → ((¬ x329 = 0 → wL_lawb2259 G P PX K28 (some sc) (some x) (some a) (some oL) (some oD) (Int32.ofNat (5 * r)) z333) ∧ (x329 = 0 → alL z333 (some oL) 0 (fun x335 => (((lg_cmp x335 ((x332 : Int32).toInt64)) = 0 → wL_lawb2259 G P PX K28 (some sc) (some x) (some a) (some oL) (some oD) (Int32.ofNat (5 * r)) z333) ∧ (¬ (lg_cmp x335 ((x332 : Int32).toInt64)) = 0 → P 0 z333)))))) ∧ (¬ x334 = x329 → P 0 z333))) PX (some a)  z331)) PX (some a) x330 z328))) PX (some x) x327 (some oL) σ) := by
  obtain ⟨⟨hS, hz, hok⟩, hC, hMS, hF, hbd, hNT⟩ := id hB
  obtain ⟨hJ, n0, o0, A0, md0, es0, hLG, hO⟩ := cs_lg hC
  have hgo := hLG.ok
  have h12 := hgo.1.1
  have hbz : bd G σ 49000 := hbd.mono (by omega)
  have hc6 := hMS.1.2.1
  have h3 := hMS.1.1
  have hNX : ∀ z, RS G z x a oL oD sc L A xs (r + 1) → wL_lawb2581 G P PX K28 (some sc) (some x) (some a) (some oL) (some oD) (Int32.ofNat (5 * r)) z := fun z h => hK z h
  refine sc_1 hF (i := 5 * r) (j := 1) (by omega) hL (?_)
  unfold wX0_account wX0_accountb0
  refine ⟨hC.rc, c_acc hS hC (hbz.mono (by omega)) (fun w τ e e1 he => ?_) fun v τ w e1 => ?_⟩
  · refine Or.inl ⟨rfl, ?_⟩
    unfold wX0_accountb12
    have hM := rb_mq hB hr e1 (by omega)
    refine sc_1 hM.2.2.1 (i := 5 * r) (j := 1) (by omega) hL (?_)
    rw [← hM.1.2.1]
    exact ⟨m_rcv, x_account hok hgo (fun _ => tail_i hM (fun w9 => absurd w9 (by decide)) m14_F (hNX _ (md_end hM (fun _ _ => rfl) (MS_F hMS)))) fun v u => absurd (acq_mem (acc_q hMS u)) w⟩
  · refine md_L (rb_mq hB hr e1 (by omega)) fun υ f hM hf hv => ?_
    refine sc_1 hM.2.2.1 (i := 5 * r) (j := 1) (by omega) hL (?_)
    rw [← hM.1.2.1]
    exact ⟨m_rcv, x_account hok hgo (fun u => absurd (acq_mem w) u) fun v' u => by
      cases acq_un w (acc_q hMS u)
      exact tail_i hM (fun _ => ⟨f, hf, hv⟩) m14_S (hNX _ (md_end hM (fun _ _ => rfl) (MS_14 hMS)))⟩
theorem cs_34 (hB : RB G σ x a oL oD sc L A xs r N M hg sg T U er wy dt) (hr : r < 24) (h5 : 5 * r + 5 ≤ L) (hL : L ≤ 120) (hK : ∀ z, RS G z x a oL oD sc L A xs (r + 1) → K28 (some sc, some x, some a, some oL, some oD, Int32.ofNat (5 * r) + 5, z)) : alI σ (some sc) 0 ((Int32.ofNat (5 * r)) + 1) (fun x336 => wX0_append G (fun x338 z337 => alI z337 (some sc) 0 ((Int32.ofNat (5 * r)) + 1) (fun x339 => (rcv z337 (some a) 4 ∧ wX5_append G (fun x341 z340 => (rcv z340 (some a) 4 ∧ wX5_thrown G (fun x343 z342 => ((x343 = x338 → ((¬ x338 = 0 → wL_lawb2317 G P PX K28 (some sc) (some x) (some a) (some oL) (some oD) (Int32.ofNat (5 * r)) z342) ∧ (x338 = 0 → alL z342 (some oL) 0 (fun x344 => (((lg_cmp x344 ((x341 : Int32).toInt64)) = 0 → wL_lawb2317 G P PX K28 (some sc) (some x) (some a) (some oL) (some oD) (Int32.ofNat (5 * r)) z342) ∧ (¬ (lg_cmp x344 ((x341 : Int32).toInt64)) = 0 → P 0 z342)))))) ∧ (¬ x343 = x338 → P 0 z342))) PX (some a)  z340)) PX (some a) (((x339 : Int32).toUInt32 % 65536).toInt32) z337))) PX (some x) (((x336 : Int32).toUInt32 % 65536).toInt32) (some oL) σ) := by
  obtain ⟨⟨hS, hz, hok⟩, hC, hMS, hF, hbd, hNT⟩ := id hB
  obtain ⟨hJ, n0, o0, A0, md0, es0, hLG, hO⟩ := cs_lg hC
  have hgo := hLG.ok
  have h12 := hgo.1.1
  have hbz : bd G σ 49000 := hbd.mono (by omega)
  have hc6 := hMS.1.2.1
  have h3 := hMS.1.1
  have hNX : ∀ z, RS G z x a oL oD sc L A xs (r + 1) → wL_lawb2581 G P PX K28 (some sc) (some x) (some a) (some oL) (some oD) (Int32.ofNat (5 * r)) z := fun z h => hK z h
  refine sc_1 hF (i := 5 * r) (j := 1) (by omega) hL (?_)
  unfold wX0_append wX0_appendb0
  refine ⟨hC.rc, c_append hS hC (hbz.mono (by omega)) (fun w τ e e1 he => ?_) (fun w1 w2 τ e e1 he => ?_) fun c τ w1 w2 w3 w4 e1 hC1 => ?_⟩
  · refine Or.inl ⟨rfl, ?_⟩
    unfold wX0_appendb12
    have hM := rb_mq hB hr e1 (by omega)
    refine sc_1 hM.2.2.1 (i := 5 * r) (j := 1) (by omega) hL (?_)
    rw [← hM.1.2.1]
    exact ⟨m_rcv, x_append hok (cs_U hC).2 hMS.2.2.1.1 (fun _ => tail_i hM (fun w9 => absurd w9 (by decide)) m14_F (hNX _ (md_end hM (fun _ _ => rfl) (MS_F hMS)))) (fun u1 u2 _ => absurd ⟨u1, u2⟩ w) fun u1 u2 _ => absurd ⟨u1, u2⟩ w⟩
  · refine Or.inr (Or.inl ⟨rfl, ?_⟩)
    unfold wX0_appendb15
    have hM := rb_mq hB hr e1 (by omega)
    refine sc_1 hM.2.2.1 (i := 5 * r) (j := 1) (by omega) hL (?_)
    rw [← hM.1.2.1]
    exact ⟨m_rcv, x_append hok (cs_U hC).2 hMS.2.2.1.1 (fun u => absurd w1 u) (fun _ _ _ => tail_i hM (fun w9 => absurd w9 (by decide)) m14_F (hNX _ (md_end hM (fun _ _ => rfl) (MS_F hMS)))) fun _ _ u => absurd w2 u⟩
  · refine md_L (rb_md hB hr e1 hC1 (by rw [List.length_append, List.length_singleton]; omega) (by rw [List.length_append, List.length_singleton]; omega)) fun υ f hM hf hv => ?_
    refine sc_1 hM.2.2.1 (i := 5 * r) (j := 1) (by omega) hL (?_)
    rw [← hM.1.2.1]
    exact ⟨m_rcv, by
      rw [w1]
      exact x_append hok (cs_U hC).2 hMS.2.2.1.1 (fun u => absurd (chr_in w2 w3) u) (fun _ _ u => absurd u (by omega)) fun _ _ _ => tail_i hM (fun _ => ⟨f, hf, hv⟩) m14_S (hNX _ (md_end hM (fun _ _ => rfl) (MS_app hMS w3 w4)))⟩
theorem cs_35 (hB : RB G σ x a oL oD sc L A xs r N M hg sg T U er wy dt) (hr : r < 24) (h5 : 5 * r + 5 ≤ L) (hL : L ≤ 120) (hK : ∀ z, RS G z x a oL oD sc L A xs (r + 1) → K28 (some sc, some x, some a, some oL, some oD, Int32.ofNat (5 * r) + 5, z)) : wX0_read G (fun x346 z345 => (rcv z345 (some a) 4 ∧ wX5_read G (fun x348 z347 => (rcv z347 (some a) 4 ∧ wX5_thrown G (fun x350 z349 => ((x350 = x346 → ((¬ x346 = 0 → wL_lawb2361 G P PX K28 (some sc) (some x) (some a) (some oL) (some oD) (Int32.ofNat (5 * r)) z349) ∧ (x346 = 0 → alL z349 (some oL) 0 (fun x351 => (((lg_cmp x351 ((x348 : Int32).toInt64)) = 0 → wL_lawb2361 G P PX K28 (some sc) (some x) (some a) (some oL) (some oD) (Int32.ofNat (5 * r)) z349) ∧ (¬ (lg_cmp x351 ((x348 : Int32).toInt64)) = 0 → P 0 z349)))))) ∧ (¬ x350 = x346 → P 0 z349))) PX (some a)  z347)) PX (some a)  z345)) PX (some x) (some oL) σ := by
  obtain ⟨⟨hS, hz, hok⟩, hC, hMS, hF, hbd, hNT⟩ := id hB
  obtain ⟨hJ, n0, o0, A0, md0, es0, hLG, hO⟩ := cs_lg hC
  have hgo := hLG.ok
  have h12 := hgo.1.1
  have hbz : bd G σ 49000 := hbd.mono (by omega)
  have hc6 := hMS.1.2.1
  have h3 := hMS.1.1
  have hNX : ∀ z, RS G z x a oL oD sc L A xs (r + 1) → wL_lawb2581 G P PX K28 (some sc) (some x) (some a) (some oL) (some oD) (Int32.ofNat (5 * r)) z := fun z h => hK z h
  unfold wX0_read wX0_readb0
  refine ⟨hC.rc, c_read hS hC (hbz.mono (by omega)) (hbd.mono (by omega)) (fun j e τ w e1 hC1 he => ?_) (fun qs e τ w1 w2 e1 hC1 he => ?_) (fun qs v d e τ w1 w2 e1 hC1 he => ?_) fun qs g' τ w1 w2 e1 hC1 => ?_⟩
  · refine Or.inl ⟨rfl, ?_⟩
    unfold wX0_readb11
    have hM := rb_md hB hr e1 hC1 (by simp; omega) (by simp; omega)
    rw [← hM.1.2.1]
    exact ⟨m_rcv, x_read hok hMS.2.2.1 hJ hc6 h3 (fun j' M' u1 u2 u3 u4 u5 u6 u7 u8 u9 => by
      cases rd_ee w u1
      exact tail_i hM (fun w9 => absurd w9 (by decide)) u9 (hNX _ (md_end hM (fun i _ => by rw [u3]) (MS_rd hMS u2 u4 u5 u6 (u7.trans hMS.2.2.2.2.2.1) (u8.trans hMS.2.2.2.2.2.2))))) (fun qs M' u1 _ _ _ _ _ _ _ _ _ => (rd_ce u1 w).elim) (fun qs v d M' u1 _ _ _ _ _ _ _ _ _ => (rd_ce u1 w).elim) fun qs g' M' u1 _ _ _ _ _ _ _ _ _ => (rd_ce u1 w).elim⟩
  · refine Or.inr (Or.inr (Or.inl ⟨rfl, ?_⟩))
    unfold wX0_readb14
    have hM := rb_md hB hr e1 hC1 (by have := oC_len w1; simp; omega) (by simp; omega)
    rw [← hM.1.2.1]
    exact ⟨m_rcv, x_read hok hMS.2.2.1 hJ hc6 h3 (fun j' M' u1 _ _ _ _ _ _ _ _ => (rd_ce w1 u1).elim) (fun qs' M' u1 u2 u3 u4 u5 u6 u7 u8 u9 u10 => by
      exact tail_i hM (fun w9 => absurd w9 (by decide)) u10 (hNX _ (md_end hM u4 (MS_rd hMS u3 u5 u6 (u7.trans hMS.2.2.2.2.1) (u8.trans hMS.2.2.2.2.2.1) (u9.trans hMS.2.2.2.2.2.2))))) (fun qs' v d M' u1 u2 _ _ _ _ _ _ _ _ => by
      cases rd_cc w1 u1
      exact nomatch rnR_un _ _ _ _ w2 u2) fun qs' g' M' u1 u2 _ _ _ _ _ _ _ _ => by
      cases rd_cc w1 u1
      exact nomatch rnR_un _ _ _ _ w2 u2⟩
  · refine Or.inr (Or.inl ⟨rfl, ?_⟩)
    unfold wX0_readb17
    have hM := rb_md hB hr e1 hC1 (by have := oC_len w1; simp; omega) (by simp; omega)
    rw [← hM.1.2.1]
    exact ⟨m_rcv, x_read hok hMS.2.2.1 hJ hc6 h3 (fun j' M' u1 _ _ _ _ _ _ _ _ => (rd_ce w1 u1).elim) (fun qs' M' u1 u2 _ _ _ _ _ _ _ _ => by
      cases rd_cc w1 u1
      exact nomatch rnR_un _ _ _ _ w2 u2) (fun qs' v' d' M' u1 u2 u3 u4 u5 u6 u7 u8 u9 u10 => by
      cases rd_cc w1 u1
      cases rnR_un _ _ _ _ w2 u2
      exact tail_i hM (fun w9 => absurd w9 (by decide)) u10 (hNX _ (md_end hM u4 (MS_rd hMS u3 u5 u6 (u7.trans hMS.2.2.2.2.1) u8 u9)))) fun qs' g' M' u1 u2 _ _ _ _ _ _ _ _ => by
      cases rd_cc w1 u1
      exact nomatch rnR_un _ _ _ _ w2 u2⟩
  · refine md_L (rb_md hB hr e1 hC1 (by have := oC_len w1; simp; omega) (by have := oC_len w1; have := oC_pos w1; simp; omega)) fun υ f hM hf hv => ?_
    rw [← hM.1.2.1]
    exact ⟨m_rcv, x_read hok hMS.2.2.1 hJ hc6 h3 (fun j' M' u1 _ _ _ _ _ _ _ _ => (rd_ce w1 u1).elim) (fun qs' M' u1 u2 _ _ _ _ _ _ _ _ => by
      cases rd_cc w1 u1
      exact nomatch rnR_un _ _ _ _ w2 u2) (fun qs' v' d' M' u1 u2 _ _ _ _ _ _ _ _ => by
      cases rd_cc w1 u1
      exact nomatch rnR_un _ _ _ _ w2 u2) fun qs' g2 M' u1 u2 u3 u4 u5 u6 u7 u8 u9 u10 => by
      cases rd_cc w1 u1
      cases rnR_un _ _ _ _ w2 u2
      exact tail_i hM (fun _ => ⟨f, hf, hv⟩) u10 (hNX _ (md_end hM u4 (MS_rdP hMS u3 u5 u6 u7 u8 u9)))⟩
theorem cs_36 (hB : RB G σ x a oL oD sc L A xs r N M hg sg T U er wy dt) (hr : r < 24) (h5 : 5 * r + 5 ≤ L) (hL : L ≤ 120) (hK : ∀ z, RS G z x a oL oD sc L A xs (r + 1) → K28 (some sc, some x, some a, some oL, some oD, Int32.ofNat (5 * r) + 5, z)) : wX0_errorPosition G (fun x353 z352 => (rcv z352 (some a) 4 ∧ wX5_errorPosition G (fun x355 z354 => (rcv z354 (some a) 4 ∧ wX5_thrown G (fun x357 z356 => ((x357 = x353 → ((¬ x353 = 0 → wL_lawb2405 G P PX K28 (some sc) (some x) (some a) (some oL) (some oD) (Int32.ofNat (5 * r)) z356) ∧ (x353 = 0 → alL z356 (some oL) 0 (fun x358 => (((lg_cmp x358 ((x355 : Int32).toInt64)) = 0 → wL_lawb2405 G P PX K28 (some sc) (some x) (some a) (some oL) (some oD) (Int32.ofNat (5 * r)) z356) ∧ (¬ (lg_cmp x358 ((x355 : Int32).toInt64)) = 0 → P 0 z356)))))) ∧ (¬ x357 = x353 → P 0 z356))) PX (some a)  z354)) PX (some a)  z352)) PX (some x) (some oL) σ := by
  obtain ⟨⟨hS, hz, hok⟩, hC, hMS, hF, hbd, hNT⟩ := id hB
  obtain ⟨hJ, n0, o0, A0, md0, es0, hLG, hO⟩ := cs_lg hC
  have hgo := hLG.ok
  have h12 := hgo.1.1
  have hbz : bd G σ 49000 := hbd.mono (by omega)
  have hc6 := hMS.1.2.1
  have h3 := hMS.1.1
  have hNX : ∀ z, RS G z x a oL oD sc L A xs (r + 1) → wL_lawb2581 G P PX K28 (some sc) (some x) (some a) (some oL) (some oD) (Int32.ofNat (5 * r)) z := fun z h => hK z h
  unfold wX0_errorPosition wX0_errorPositionb0
  refine ⟨hC.rc, c_err hS hC (hbz.mono (by omega)) (fun w τ e e1 he => ?_) fun w => ?_⟩
  · refine Or.inl ⟨rfl, ?_⟩
    unfold wX0_errorPositionb11
    have hM := rb_mq hB hr e1 (by omega)
    rw [← hM.1.2.1]
    exact ⟨m_rcv, x_errorPosition hok (fun _ => tail_i hM (fun w9 => absurd w9 (by decide)) m14_F (hNX _ (md_end hM (fun _ _ => rfl) (MS_F hMS)))) fun u => absurd (hMS.2.2.2.2.1.trans w) u⟩
  · refine md_L (rb_mq hB hr (ev.refl hS) (by omega)) fun υ f hM hf hv => ?_
    rw [← hM.1.2.1]
    exact ⟨m_rcv, x_errorPosition hok (fun u => absurd (hMS.2.2.2.2.1.symm.trans u) w) fun _ => by
      rw [hMS.2.2.2.2.1]
      exact tail_i hM (fun _ => ⟨f, hf, hv⟩) m14_S (hNX _ (md_end hM (fun _ _ => rfl) (MS_14 hMS)))⟩
theorem cs_38 (hB : RB G σ x a oL oD sc L A xs r N M hg sg T U er wy dt) (hr : r < 24) (h5 : 5 * r + 5 ≤ L) (hL : L ≤ 120) (hK : ∀ z, RS G z x a oL oD sc L A xs (r + 1) → K28 (some sc, some x, some a, some oL, some oD, Int32.ofNat (5 * r) + 5, z)) : wX0_undo G (fun x361 z360 => (rcv z360 (some a) 4 ∧ wX5_undo G (fun x363 z362 => (rcv z362 (some a) 4 ∧ wX5_thrown G (fun x365 z364 => ((x365 = x361 → ((¬ x361 = 0 → wL_lawb2521 G P PX K28 (some sc) (some x) (some a) (some oL) (some oD) (Int32.ofNat (5 * r)) z364) ∧ (x361 = 0 → alL z364 (some oL) 0 (fun x366 => (((lg_cmp x366 ((x363 : Int32).toInt64)) = 0 → wL_lawb2521 G P PX K28 (some sc) (some x) (some a) (some oL) (some oD) (Int32.ofNat (5 * r)) z364) ∧ (¬ (lg_cmp x366 ((x363 : Int32).toInt64)) = 0 → P 0 z364)))))) ∧ (¬ x365 = x361 → P 0 z364))) PX (some a)  z362)) PX (some a)  z360)) PX (some x) (some oL) σ := by
  obtain ⟨⟨hS, hz, hok⟩, hC, hMS, hF, hbd, hNT⟩ := id hB
  obtain ⟨hJ, n0, o0, A0, md0, es0, hLG, hO⟩ := cs_lg hC
  have hgo := hLG.ok
  have h12 := hgo.1.1
  have hbz : bd G σ 49000 := hbd.mono (by omega)
  have hc6 := hMS.1.2.1
  have h3 := hMS.1.1
  have hNX : ∀ z, RS G z x a oL oD sc L A xs (r + 1) → wL_lawb2581 G P PX K28 (some sc) (some x) (some a) (some oL) (some oD) (Int32.ofNat (5 * r)) z := fun z h => hK z h
  unfold wX0_undo wX0_undob0
  refine ⟨hC.rc, c_undo hS hC (hbz.mono (by omega)) (fun w τ e e1 he => ?_) fun hg0 g0 τ w e1 hC1 => ?_⟩
  · refine Or.inl ⟨rfl, ?_⟩
    unfold wX0_undob11
    have hM := rb_mq hB hr e1 (by omega)
    rw [← hM.1.2.1]
    exact ⟨m_rcv, x_undo hok hc6 h3 (fun _ => tail_i hM (fun w9 => absurd w9 (by decide)) m14_F (hNX _ (md_end hM (fun _ _ => rfl) (MS_F hMS)))) fun u => absurd (by rw [w]; rfl) u⟩
  · refine md_L (rb_md hB hr e1 hC1 (by omega) (by omega)) fun υ f hM hf hv => ?_
    rw [← hM.1.2.1]
    exact ⟨m_rcv, by
      subst w
      exact x_undo hok hc6 h3 (fun u => absurd u (by simp)) fun _ M' hm => by
        obtain ⟨u1, u2, u3⟩ := MS_undo hMS hm
        have hl : (hg0 ++ [g0]).length - 1 = hg0.length := by simp
        rw [hl]
        exact tail_i hM (fun _ => ⟨f, hf, hv⟩) u2 (hNX _ (md_end hM u3 u1))⟩
theorem cs_39 (hB : RB G σ x a oL oD sc L A xs r N M hg sg T U er wy dt) (hr : r < 24) (h5 : 5 * r + 5 ≤ L) (hL : L ≤ 120) (hK : ∀ z, RS G z x a oL oD sc L A xs (r + 1) → K28 (some sc, some x, some a, some oL, some oD, Int32.ofNat (5 * r) + 5, z)) : (rcv σ (some x) 0 ∧ wX1_save G (fun x368 z367 => (rcv z367 (some a) 4 ∧ wX5_save G (fun x370 z369 => ((x368 = x370 → wL_lawb2581 G P PX K28 (some sc) (some x) (some a) (some oL) (some oD) (Int32.ofNat (5 * r)) z369) ∧ (¬ x368 = x370 → P 0 z369))) PX (some a)  z367)) PX (some x)  σ) := by
  obtain ⟨⟨hS, hz, hok⟩, hC, hMS, hF, hbd, hNT⟩ := id hB
  obtain ⟨hJ, n0, o0, A0, md0, es0, hLG, hO⟩ := cs_lg hC
  have hgo := hLG.ok
  have h12 := hgo.1.1
  have hbz : bd G σ 49000 := hbd.mono (by omega)
  have hc6 := hMS.1.2.1
  have h3 := hMS.1.1
  have hNX : ∀ z, RS G z x a oL oD sc L A xs (r + 1) → wL_lawb2581 G P PX K28 (some sc) (some x) (some a) (some oL) (some oD) (Int32.ofNat (5 * r)) z := fun z h => hK z h
  refine ⟨hC.rc, c_save hS hC (hbz.mono (by omega)) fun τ e1 hC1 => ?_⟩
  · have hM := rb_md hB hr e1 hC1 (by omega) (by omega)
    rw [← hM.1.2.1]
    exact ⟨m_rcv, x_save hok fun M' a1 a2 a3 => ⟨fun _ => hNX _ (md_end hM (fun i _ => by rw [a1 0 (by decide)]) (MS_save hMS a1 a2 a3)), fun w9 => absurd rfl w9⟩⟩
theorem cs_40 (hB : RB G σ x a oL oD sc L A xs r N M hg sg T U er wy dt) (hr : r < 24) (h5 : 5 * r + 5 ≤ L) (hL : L ≤ 120) (hK : ∀ z, RS G z x a oL oD sc L A xs (r + 1) → K28 (some sc, some x, some a, some oL, some oD, Int32.ofNat (5 * r) + 5, z)) : wX0_restore G (fun x372 z371 => (rcv z371 (some a) 4 ∧ wX5_restore G (fun x374 z373 => (rcv z373 (some a) 4 ∧ wX5_thrown G (fun x376 z375 => ((x376 = x372 → ((¬ x372 = 0 → wL_lawb2578 G P PX K28 (some sc) (some x) (some a) (some oL) (some oD) (Int32.ofNat (5 * r)) z375) ∧ (x372 = 0 → alL z375 (some oL) 0 (fun x377 => (((lg_cmp x377 ((x374 : Int32).toInt64)) = 0 → wL_lawb2578 G P PX K28 (some sc) (some x) (some a) (some oL) (some oD) (Int32.ofNat (5 * r)) z375) ∧ (¬ (lg_cmp x377 ((x374 : Int32).toInt64)) = 0 → P 0 z375)))))) ∧ (¬ x376 = x372 → P 0 z375))) PX (some a)  z373)) PX (some a)  z371)) PX (some x) (some oL) σ := by
  obtain ⟨⟨hS, hz, hok⟩, hC, hMS, hF, hbd, hNT⟩ := id hB
  obtain ⟨hJ, n0, o0, A0, md0, es0, hLG, hO⟩ := cs_lg hC
  have hgo := hLG.ok
  have h12 := hgo.1.1
  have hbz : bd G σ 49000 := hbd.mono (by omega)
  have hc6 := hMS.1.2.1
  have h3 := hMS.1.1
  have hNX : ∀ z, RS G z x a oL oD sc L A xs (r + 1) → wL_lawb2581 G P PX K28 (some sc) (some x) (some a) (some oL) (some oD) (Int32.ofNat (5 * r)) z := fun z h => hK z h
  unfold wX0_restore wX0_restoreb0
  refine ⟨hC.rc, c_restore hS hC (hbz.mono (by omega)) (fun w τ e e1 he => ?_) fun g1 τ w e1 hC1 => ?_⟩
  · refine Or.inl ⟨rfl, ?_⟩
    unfold wX0_restoreb11
    have hM := rb_mq hB hr e1 (by omega)
    rw [← hM.1.2.1]
    exact ⟨m_rcv, x_restore hok (fun _ => tail_i hM (fun w9 => absurd w9 (by decide)) m14_F (hNX _ (md_end hM (fun _ _ => rfl) (MS_F hMS)))) fun u => absurd (MS_5 hMS w) u⟩
  · refine md_L (rb_md hB hr e1 hC1 (by omega) (by omega)) fun υ f hM hf hv => ?_
    rw [← hM.1.2.1]
    exact ⟨m_rcv, by
      subst w
      exact x_restore hok (fun u => absurd u (MS_5s hMS)) fun _ M' hm => by
        obtain ⟨u1, u2, u3⟩ := MS_restore hMS hm
        rw [← u3 0 (by omega), hm.1 0 (by omega)] at hv
        exact tail_i hM (fun _ => ⟨f, hf, hv⟩) u2 (hNX _ (md_end hM u3 u1))⟩
end LC6
