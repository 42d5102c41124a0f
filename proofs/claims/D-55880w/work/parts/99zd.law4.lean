/-! the law: questions -/
set_option maxRecDepth 100000
section LC4
variable {G : gE} {σ : hSt} {x a oL oD sc L r N : Nat} {A : Nat → Nat} {xs : Nat → Int32} {M : mSt} {hg : List (Nat → Int32)} {sg : Option (Nat → Int32)} {T U : List Nat} {er wy dt : Int32} {PX : Nat → Nat → hSt → Prop} {P : Int32 → hSt → Prop} {K28 : (Option Nat × Option Nat × Option Nat × Option Nat × Option Nat × Int32 × hSt) → Prop}
theorem cs_16 (hB : RB G σ x a oL oD sc L A xs r N M hg sg T U er wy dt) (hr : r < 24) (h5 : 5 * r + 5 ≤ L) (hL : L ≤ 120) (hK : ∀ z, RS G z x a oL oD sc L A xs (r + 1) → K28 (some sc, some x, some a, some oL, some oD, Int32.ofNat (5 * r) + 5, z)) : alI σ (some sc) 0 ((Int32.ofNat (5 * r)) + 1) (fun x193 => alI σ (some sc) 0 ((Int32.ofNat (5 * r)) + 2) (fun x194 => alI σ (some sc) 0 ((Int32.ofNat (5 * r)) + 3) (fun x195 => wX0_believers G (fun x197 z196 => alI z196 (some sc) 0 ((Int32.ofNat (5 * r)) + 1) (fun x198 => alI z196 (some sc) 0 ((Int32.ofNat (5 * r)) + 2) (fun x199 => alI z196 (some sc) 0 ((Int32.ofNat (5 * r)) + 3) (fun x200 => (rcv z196 (some a) 4 ∧ wX5_believers G (fun x202 z201 => (rcv z201 (some a) 4 ∧ wX5_thrown G (fun x204 z203 => ((x204 = x197 → ((¬ x197 = 0 → wL_lawb1491 G P PX K28 (some sc) (some x) (some a) (some oL) (some oD) (Int32.ofNat (5 * r)) z203) ∧ (x197 = 0 → alL z203 (some oL) 0 (fun x205 => (((lg_cmp x205 ((x202 : Int32).toInt64)) = 0 → wL_lawb1491 G P PX K28 (some sc) (some x) (some a) (some oL) (some oD) (Int32.ofNat (5 * r)) z203) ∧ (¬ (lg_cmp x205 ((x202 : Int32).toInt64)) = 0 → P 0 z203)))))) ∧ (¬ x204 = x197 → P 0 z203))) PX (some a)  z201)) PX (some a) x198 x199 x200 z196))))) PX (some x) x193 x194 x195 (some oL) σ))) := by
  obtain ⟨⟨hS, hz, hok⟩, hC, hMS, hF, hbd, hNT⟩ := id hB
  obtain ⟨hJ, n0, o0, A0, md0, es0, hLG, hO⟩ := cs_lg hC
  have hgo := hLG.ok
  have h12 := hgo.1.1
  have hbz : bd G σ 49000 := hbd.mono (by omega)
  have hc6 := hMS.1.2.1
  have h3 := hMS.1.1
  have hNX : ∀ z, RS G z x a oL oD sc L A xs (r + 1) → wL_lawb2581 G P PX K28 (some sc) (some x) (some a) (some oL) (some oD) (Int32.ofNat (5 * r)) z := fun z h => hK z h
  refine sc_1 hF (i := 5 * r) (j := 1) (by omega) hL (sc_1 hF (i := 5 * r) (j := 2) (by omega) hL (sc_1 hF (i := 5 * r) (j := 3) (by omega) hL (?_)))
  unfold wX0_believers wX0_believersb0
  refine ⟨hC.rc, q_believers hS hO hLG (hbz.mono (by omega)) (fun w τ e e1 he => ?_) (fun w1 w2 τ e e1 he => ?_) (fun w1 w2 w3 τ e e1 he => ?_) fun p i τ hp hp6 hx hi e1 => ?_⟩
  · refine Or.inr (Or.inr (Or.inl ⟨rfl, ?_⟩))
    unfold wX0_believersb15
    have hM := rb_mq hB hr e1 (by omega)
    refine sc_1 hM.2.2.1 (i := 5 * r) (j := 1) (by omega) hL (sc_1 hM.2.2.1 (i := 5 * r) (j := 2) (by omega) hL (sc_1 hM.2.2.1 (i := 5 * r) (j := 3) (by omega) hL (?_)))
    rw [← hM.1.2.1]
    exact ⟨m_rcv, x_believers hok hgo (fun _ => tail_i hM (fun w9 => absurd w9 (by decide)) m14_F (hNX _ (md_end hM (fun _ _ => rfl) (MS_F hMS)))) (fun u _ => absurd u w) (fun u _ _ => absurd u w) fun p2 i2 up up6 _ _ => absurd (isP_n up up6) w⟩
  · refine Or.inr (Or.inl ⟨rfl, ?_⟩)
    unfold wX0_believersb19
    have hM := rb_mq hB hr e1 (by omega)
    refine sc_1 hM.2.2.1 (i := 5 * r) (j := 1) (by omega) hL (sc_1 hM.2.2.1 (i := 5 * r) (j := 2) (by omega) hL (sc_1 hM.2.2.1 (i := 5 * r) (j := 3) (by omega) hL (?_)))
    rw [← hM.1.2.1]
    exact ⟨m_rcv, x_believers hok hgo (fun u => absurd w1 u) (fun _ _ => tail_i hM (fun w9 => absurd w9 (by decide)) m14_F (hNX _ (md_end hM (fun _ _ => rfl) (MS_F hMS)))) (fun _ u _ => absurd u w2) fun p2 i2 _ _ u _ => absurd u w2⟩
  · refine Or.inl ⟨rfl, ?_⟩
    unfold wX0_believersb23
    have hM := rb_mq hB hr e1 (by omega)
    refine sc_1 hM.2.2.1 (i := 5 * r) (j := 1) (by omega) hL (sc_1 hM.2.2.1 (i := 5 * r) (j := 2) (by omega) hL (sc_1 hM.2.2.1 (i := 5 * r) (j := 3) (by omega) hL (?_)))
    rw [← hM.1.2.1]
    exact ⟨m_rcv, x_believers hok hgo (fun u => absurd w1 u) (fun _ u => absurd w2 u) (fun _ _ _ => tail_i hM (fun w9 => absurd w9 (by decide)) m14_F (hNX _ (md_end hM (fun _ _ => rfl) (MS_F hMS)))) fun p2 i2 _ _ _ u => (no_F w3 u).elim⟩
  · refine md_L (rb_mq hB hr e1 (by omega)) fun υ f hM hf hv => ?_
    refine sc_1 hM.2.2.1 (i := 5 * r) (j := 1) (by omega) hL (sc_1 hM.2.2.1 (i := 5 * r) (j := 2) (by omega) hL (sc_1 hM.2.2.1 (i := 5 * r) (j := 3) (by omega) hL (?_)))
    rw [← hM.1.2.1]
    exact ⟨m_rcv, x_believers hok hgo (fun u => absurd (isP_n hp hp6) u) (fun _ u => absurd hx u) (fun _ _ u => (no_F u hi).elim) fun p2 i2 up up6 _ ui => by
      cases n_eq hp up (by omega) (by omega)
      cases f_un hi ui
      exact tail_i hM (fun _ => ⟨f, hf, hv⟩) m14_S (hNX _ (md_end hM (fun _ _ => rfl) (MS_14 hMS)))⟩
theorem cs_17 (hB : RB G σ x a oL oD sc L A xs r N M hg sg T U er wy dt) (hr : r < 24) (h5 : 5 * r + 5 ≤ L) (hL : L ≤ 120) (hK : ∀ z, RS G z x a oL oD sc L A xs (r + 1) → K28 (some sc, some x, some a, some oL, some oD, Int32.ofNat (5 * r) + 5, z)) : alI σ (some sc) 0 ((Int32.ofNat (5 * r)) + 1) (fun x206 => wX0_left G (fun x208 z207 => alI z207 (some sc) 0 ((Int32.ofNat (5 * r)) + 1) (fun x209 => (rcv z207 (some a) 4 ∧ wX5_left G (fun x211 z210 => (rcv z210 (some a) 4 ∧ wX5_thrown G (fun x213 z212 => ((x213 = x208 → ((¬ x208 = 0 → wL_lawb1547 G P PX K28 (some sc) (some x) (some a) (some oL) (some oD) (Int32.ofNat (5 * r)) z212) ∧ (x208 = 0 → alL z212 (some oL) 0 (fun x214 => (((lg_cmp x214 ((x211 : Int32).toInt64)) = 0 → wL_lawb1547 G P PX K28 (some sc) (some x) (some a) (some oL) (some oD) (Int32.ofNat (5 * r)) z212) ∧ (¬ (lg_cmp x214 ((x211 : Int32).toInt64)) = 0 → P 0 z212)))))) ∧ (¬ x213 = x208 → P 0 z212))) PX (some a)  z210)) PX (some a) x209 z207))) PX (some x) x206 (some oL) σ) := by
  obtain ⟨⟨hS, hz, hok⟩, hC, hMS, hF, hbd, hNT⟩ := id hB
  obtain ⟨hJ, n0, o0, A0, md0, es0, hLG, hO⟩ := cs_lg hC
  have hgo := hLG.ok
  have h12 := hgo.1.1
  have hbz : bd G σ 49000 := hbd.mono (by omega)
  have hc6 := hMS.1.2.1
  have h3 := hMS.1.1
  have hNX : ∀ z, RS G z x a oL oD sc L A xs (r + 1) → wL_lawb2581 G P PX K28 (some sc) (some x) (some a) (some oL) (some oD) (Int32.ofNat (5 * r)) z := fun z h => hK z h
  refine sc_1 hF (i := 5 * r) (j := 1) (by omega) hL (?_)
  unfold wX0_left wX0_leftb0
  refine ⟨hC.rc, q_left hS hO hLG (hbz.mono (by omega)) (fun w τ e e1 he => ?_) fun w τ e1 => ?_⟩
  · refine Or.inl ⟨rfl, ?_⟩
    unfold wX0_leftb12
    have hM := rb_mq hB hr e1 (by omega)
    refine sc_1 hM.2.2.1 (i := 5 * r) (j := 1) (by omega) hL (?_)
    rw [← hM.1.2.1]
    exact ⟨m_rcv, x_left hok hgo (fun _ => tail_i hM (fun w9 => absurd w9 (by decide)) m14_F (hNX _ (md_end hM (fun _ _ => rfl) (MS_F hMS)))) fun u => absurd u w⟩
  · refine md_L (rb_mq hB hr e1 (by omega)) fun υ f hM hf hv => ?_
    refine sc_1 hM.2.2.1 (i := 5 * r) (j := 1) (by omega) hL (?_)
    rw [← hM.1.2.1]
    exact ⟨m_rcv, x_left hok hgo (fun u => absurd w u) fun _ => tail_i hM (fun _ => ⟨f, hf, hv⟩) m14_S (hNX _ (md_end hM (fun _ _ => rfl) (MS_14 hMS)))⟩
theorem cs_18 (hB : RB G σ x a oL oD sc L A xs r N M hg sg T U er wy dt) (hr : r < 24) (h5 : 5 * r + 5 ≤ L) (hL : L ≤ 120) (hK : ∀ z, RS G z x a oL oD sc L A xs (r + 1) → K28 (some sc, some x, some a, some oL, some oD, Int32.ofNat (5 * r) + 5, z)) : alI σ (some sc) 0 ((Int32.ofNat (5 * r)) + 1) (fun x215 => wX0_leftAgain G (fun x217 z216 => alI z216 (some sc) 0 ((Int32.ofNat (5 * r)) + 1) (fun x218 => (rcv z216 (some a) 4 ∧ wX5_leftAgain G (fun x220 z219 => (rcv z219 (some a) 4 ∧ wX5_thrown G (fun x222 z221 => ((x222 = x217 → ((¬ x217 = 0 → wL_lawb1603 G P PX K28 (some sc) (some x) (some a) (some oL) (some oD) (Int32.ofNat (5 * r)) z221) ∧ (x217 = 0 → alL z221 (some oL) 0 (fun x223 => (((lg_cmp x223 ((x220 : Int32).toInt64)) = 0 → wL_lawb1603 G P PX K28 (some sc) (some x) (some a) (some oL) (some oD) (Int32.ofNat (5 * r)) z221) ∧ (¬ (lg_cmp x223 ((x220 : Int32).toInt64)) = 0 → P 0 z221)))))) ∧ (¬ x222 = x217 → P 0 z221))) PX (some a)  z219)) PX (some a) x218 z216))) PX (some x) x215 (some oL) σ) := by
  obtain ⟨⟨hS, hz, hok⟩, hC, hMS, hF, hbd, hNT⟩ := id hB
  obtain ⟨hJ, n0, o0, A0, md0, es0, hLG, hO⟩ := cs_lg hC
  have hgo := hLG.ok
  have h12 := hgo.1.1
  have hbz : bd G σ 49000 := hbd.mono (by omega)
  have hc6 := hMS.1.2.1
  have h3 := hMS.1.1
  have hNX : ∀ z, RS G z x a oL oD sc L A xs (r + 1) → wL_lawb2581 G P PX K28 (some sc) (some x) (some a) (some oL) (some oD) (Int32.ofNat (5 * r)) z := fun z h => hK z h
  refine sc_1 hF (i := 5 * r) (j := 1) (by omega) hL (?_)
  unfold wX0_leftAgain wX0_leftAgainb0
  refine ⟨hC.rc, q_leftA hS hO hLG (hbz.mono (by omega)) (fun w τ e e1 he => ?_) fun w τ e1 => ?_⟩
  · refine Or.inl ⟨rfl, ?_⟩
    unfold wX0_leftAgainb12
    have hM := rb_mq hB hr e1 (by omega)
    refine sc_1 hM.2.2.1 (i := 5 * r) (j := 1) (by omega) hL (?_)
    rw [← hM.1.2.1]
    exact ⟨m_rcv, x_leftAgain hok hgo (fun _ => tail_i hM (fun w9 => absurd w9 (by decide)) m14_F (hNX _ (md_end hM (fun _ _ => rfl) (MS_F hMS)))) fun u => absurd u w⟩
  · refine md_L (rb_mq hB hr e1 (by omega)) fun υ f hM hf hv => ?_
    refine sc_1 hM.2.2.1 (i := 5 * r) (j := 1) (by omega) hL (?_)
    rw [← hM.1.2.1]
    exact ⟨m_rcv, x_leftAgain hok hgo (fun u => absurd w u) fun _ => tail_i hM (fun _ => ⟨f, hf, hv⟩) m14_S (hNX _ (md_end hM (fun _ _ => rfl) (MS_14 hMS)))⟩
theorem cs_19 (hB : RB G σ x a oL oD sc L A xs r N M hg sg T U er wy dt) (hr : r < 24) (h5 : 5 * r + 5 ≤ L) (hL : L ≤ 120) (hK : ∀ z, RS G z x a oL oD sc L A xs (r + 1) → K28 (some sc, some x, some a, some oL, some oD, Int32.ofNat (5 * r) + 5, z)) : alI σ (some sc) 0 ((Int32.ofNat (5 * r)) + 1) (fun x224 => alI σ (some sc) 0 ((Int32.ofNat (5 * r)) + 2) (fun x225 => wX0_best G (fun x227 z226 => alI z226 (some sc) 0 ((Int32.ofNat (5 * r)) + 1) (fun x228 => alI z226 (some sc) 0 ((Int32.ofNat (5 * r)) + 2) (fun x229 => (rcv z226 (some a) 4 ∧ wX5_best G (fun x231 z230 => (rcv z230 (some a) 4 ∧ wX5_thrown G (fun x233 z232 => ((x233 = x227 → ((¬ x227 = 0 → wL_lawb1671 G P PX K28 (some sc) (some x) (some a) (some oL) (some oD) (Int32.ofNat (5 * r)) z232) ∧ (x227 = 0 → alL z232 (some oL) 0 (fun x234 => (((lg_cmp x234 ((x231 : Int32).toInt64)) = 0 → wL_lawb1671 G P PX K28 (some sc) (some x) (some a) (some oL) (some oD) (Int32.ofNat (5 * r)) z232) ∧ (¬ (lg_cmp x234 ((x231 : Int32).toInt64)) = 0 → P 0 z232)))))) ∧ (¬ x233 = x227 → P 0 z232))) PX (some a)  z230)) PX (some a) x228 x229 z226)))) PX (some x) x224 x225 (some oL) σ)) := by
  obtain ⟨⟨hS, hz, hok⟩, hC, hMS, hF, hbd, hNT⟩ := id hB
  obtain ⟨hJ, n0, o0, A0, md0, es0, hLG, hO⟩ := cs_lg hC
  have hgo := hLG.ok
  have h12 := hgo.1.1
  have hbz : bd G σ 49000 := hbd.mono (by omega)
  have hc6 := hMS.1.2.1
  have h3 := hMS.1.1
  have hNX : ∀ z, RS G z x a oL oD sc L A xs (r + 1) → wL_lawb2581 G P PX K28 (some sc) (some x) (some a) (some oL) (some oD) (Int32.ofNat (5 * r)) z := fun z h => hK z h
  refine sc_1 hF (i := 5 * r) (j := 1) (by omega) hL (sc_1 hF (i := 5 * r) (j := 2) (by omega) hL (?_))
  unfold wX0_best wX0_bestb0
  refine ⟨hC.rc, q_best hS hO hLG (hbz.mono (by omega)) (fun w τ e e1 he => ?_) (fun p s hp hp6 hs hs3 hn τ e e1 he => ?_) fun p s i τ hp hp6 hs hs3 hn e1 => ?_⟩
  · refine Or.inr (Or.inl ⟨rfl, ?_⟩)
    unfold wX0_bestb13
    have hM := rb_mq hB hr e1 (by omega)
    refine sc_1 hM.2.2.1 (i := 5 * r) (j := 1) (by omega) hL (sc_1 hM.2.2.1 (i := 5 * r) (j := 2) (by omega) hL (?_))
    rw [← hM.1.2.1]
    exact ⟨m_rcv, x_best hok hgo (fun _ => tail_i hM (fun w9 => absurd w9 (by decide)) m14_F (hNX _ (md_end hM (fun _ _ => rfl) (MS_F hMS)))) (fun p s up up6 us us3 _ => absurd ⟨isP_n up up6, isS_n us us3⟩ w) fun p s i up up6 us us3 _ => absurd ⟨isP_n up up6, isS_n us us3⟩ w⟩
  · refine Or.inl ⟨rfl, ?_⟩
    unfold wX0_bestb17
    have hM := rb_mq hB hr e1 (by omega)
    refine sc_1 hM.2.2.1 (i := 5 * r) (j := 1) (by omega) hL (sc_1 hM.2.2.1 (i := 5 * r) (j := 2) (by omega) hL (?_))
    rw [← hM.1.2.1]
    exact ⟨m_rcv, x_best hok hgo (fun u => absurd ⟨isP_n hp hp6, isS_n hs hs3⟩ u) (fun _ _ _ _ _ _ _ => tail_i hM (fun w9 => absurd w9 (by decide)) m14_F (hNX _ (md_end hM (fun _ _ => rfl) (MS_F hMS)))) fun p2 s2 i2 up up6 us us3 un => by
      cases n_eq hs us (by omega) (by omega)
      cases n_eq hp up (by omega) (by omega)
      exact nomatch hn.symm.trans un⟩
  · refine md_L (rb_mq hB hr e1 (by omega)) fun υ f hM hf hv => ?_
    refine sc_1 hM.2.2.1 (i := 5 * r) (j := 1) (by omega) hL (sc_1 hM.2.2.1 (i := 5 * r) (j := 2) (by omega) hL (?_))
    rw [← hM.1.2.1]
    exact ⟨m_rcv, x_best hok hgo (fun u => absurd ⟨isP_n hp hp6, isS_n hs hs3⟩ u) (fun p2 s2 up up6 us us3 un => by
      cases n_eq hs us (by omega) (by omega)
      cases n_eq hp up (by omega) (by omega)
      exact nomatch hn.symm.trans un) fun p2 s2 i2 up up6 us us3 un => by
      cases n_eq hs us (by omega) (by omega)
      cases n_eq hp up (by omega) (by omega)
      cases hn.symm.trans un
      exact tail_i hM (fun _ => ⟨f, hf, hv⟩) m14_S (hNX _ (md_end hM (fun _ _ => rfl) (MS_14 hMS)))⟩
theorem cs_20 (hB : RB G σ x a oL oD sc L A xs r N M hg sg T U er wy dt) (hr : r < 24) (h5 : 5 * r + 5 ≤ L) (hL : L ≤ 120) (hK : ∀ z, RS G z x a oL oD sc L A xs (r + 1) → K28 (some sc, some x, some a, some oL, some oD, Int32.ofNat (5 * r) + 5, z)) : (rcv σ (some x) 0 ∧ wX1_chances G (fun x236 z235 => (rcv z235 (some a) 4 ∧ wX5_chances G (fun x238 z237 => ((x236 = x238 → wL_lawb2581 G P PX K28 (some sc) (some x) (some a) (some oL) (some oD) (Int32.ofNat (5 * r)) z237) ∧ (¬ x236 = x238 → P 0 z237))) PX (some a)  z235)) PX (some x)  σ) := by
  obtain ⟨⟨hS, hz, hok⟩, hC, hMS, hF, hbd, hNT⟩ := id hB
  obtain ⟨hJ, n0, o0, A0, md0, es0, hLG, hO⟩ := cs_lg hC
  have hgo := hLG.ok
  have h12 := hgo.1.1
  have hbz : bd G σ 49000 := hbd.mono (by omega)
  have hc6 := hMS.1.2.1
  have h3 := hMS.1.1
  have hNX : ∀ z, RS G z x a oL oD sc L A xs (r + 1) → wL_lawb2581 G P PX K28 (some sc) (some x) (some a) (some oL) (some oD) (Int32.ofNat (5 * r)) z := fun z h => hK z h
  refine ⟨hC.rc, q_chances hS hO hLG (hbz.mono (by omega)) fun τ e1 => ?_⟩
  · have hM := rb_mq hB hr e1 (by omega)
    rw [← hM.1.2.1]
    exact ⟨m_rcv, x_chances hok hgo ⟨fun _ => hNX _ (md_end hM (fun _ _ => rfl) (MS_14 hMS)), fun w9 => absurd rfl w9⟩⟩
theorem cs_21 (hB : RB G σ x a oL oD sc L A xs r N M hg sg T U er wy dt) (hr : r < 24) (h5 : 5 * r + 5 ≤ L) (hL : L ≤ 120) (hK : ∀ z, RS G z x a oL oD sc L A xs (r + 1) → K28 (some sc, some x, some a, some oL, some oD, Int32.ofNat (5 * r) + 5, z)) : (rcv σ (some x) 0 ∧ wX1_chancesAgain G (fun x240 z239 => (rcv z239 (some a) 4 ∧ wX5_chancesAgain G (fun x242 z241 => ((x240 = x242 → wL_lawb2581 G P PX K28 (some sc) (some x) (some a) (some oL) (some oD) (Int32.ofNat (5 * r)) z241) ∧ (¬ x240 = x242 → P 0 z241))) PX (some a)  z239)) PX (some x)  σ) := by
  obtain ⟨⟨hS, hz, hok⟩, hC, hMS, hF, hbd, hNT⟩ := id hB
  obtain ⟨hJ, n0, o0, A0, md0, es0, hLG, hO⟩ := cs_lg hC
  have hgo := hLG.ok
  have h12 := hgo.1.1
  have hbz : bd G σ 49000 := hbd.mono (by omega)
  have hc6 := hMS.1.2.1
  have h3 := hMS.1.1
  have hNX : ∀ z, RS G z x a oL oD sc L A xs (r + 1) → wL_lawb2581 G P PX K28 (some sc) (some x) (some a) (some oL) (some oD) (Int32.ofNat (5 * r)) z := fun z h => hK z h
  refine ⟨hC.rc, q_chancesA hS hO hLG (hbz.mono (by omega)) fun τ e1 => ?_⟩
  · have hM := rb_mq hB hr e1 (by omega)
    rw [← hM.1.2.1]
    exact ⟨m_rcv, x_chancesAgain hok hgo ⟨fun _ => hNX _ (md_end hM (fun _ _ => rfl) (MS_14 hMS)), fun w9 => absurd rfl w9⟩⟩
theorem cs_22 (hB : RB G σ x a oL oD sc L A xs r N M hg sg T U er wy dt) (hr : r < 24) (h5 : 5 * r + 5 ≤ L) (hL : L ≤ 120) (hK : ∀ z, RS G z x a oL oD sc L A xs (r + 1) → K28 (some sc, some x, some a, some oL, some oD, Int32.ofNat (5 * r) + 5, z)) : (rcv σ (some x) 0 ∧ wX1_worn G (fun x244 z243 => (rcv z243 (some a) 4 ∧ wX5_worn G (fun x246 z245 => ((x244 = x246 → wL_lawb2581 G P PX K28 (some sc) (some x) (some a) (some oL) (some oD) (Int32.ofNat (5 * r)) z245) ∧ (¬ x244 = x246 → P 0 z245))) PX (some a)  z243)) PX (some x)  σ) := by
  obtain ⟨⟨hS, hz, hok⟩, hC, hMS, hF, hbd, hNT⟩ := id hB
  obtain ⟨hJ, n0, o0, A0, md0, es0, hLG, hO⟩ := cs_lg hC
  have hgo := hLG.ok
  have h12 := hgo.1.1
  have hbz : bd G σ 49000 := hbd.mono (by omega)
  have hc6 := hMS.1.2.1
  have h3 := hMS.1.1
  have hNX : ∀ z, RS G z x a oL oD sc L A xs (r + 1) → wL_lawb2581 G P PX K28 (some sc) (some x) (some a) (some oL) (some oD) (Int32.ofNat (5 * r)) z := fun z h => hK z h
  refine ⟨hC.rc, q_worn hS hO hLG (hbz.mono (by omega)) fun τ e1 => ?_⟩
  · have hM := rb_mq hB hr e1 (by omega)
    rw [← hM.1.2.1]
    exact ⟨m_rcv, x_worn hok hgo ⟨fun _ => hNX _ (md_end hM (fun _ _ => rfl) (MS_14 hMS)), fun w9 => absurd rfl w9⟩⟩
theorem cs_23 (hB : RB G σ x a oL oD sc L A xs r N M hg sg T U er wy dt) (hr : r < 24) (h5 : 5 * r + 5 ≤ L) (hL : L ≤ 120) (hK : ∀ z, RS G z x a oL oD sc L A xs (r + 1) → K28 (some sc, some x, some a, some oL, some oD, Int32.ofNat (5 * r) + 5, z)) : (rcv σ (some x) 0 ∧ wX1_due G (fun x248 z247 => (rcv z247 (some a) 4 ∧ wX5_due G (fun x250 z249 => ((x248 = x250 → wL_lawb2581 G P PX K28 (some sc) (some x) (some a) (some oL) (some oD) (Int32.ofNat (5 * r)) z249) ∧ (¬ x248 = x250 → P 0 z249))) PX (some a)  z247)) PX (some x)  σ) := by
  obtain ⟨⟨hS, hz, hok⟩, hC, hMS, hF, hbd, hNT⟩ := id hB
  obtain ⟨hJ, n0, o0, A0, md0, es0, hLG, hO⟩ := cs_lg hC
  have hgo := hLG.ok
  have h12 := hgo.1.1
  have hbz : bd G σ 49000 := hbd.mono (by omega)
  have hc6 := hMS.1.2.1
  have h3 := hMS.1.1
  have hNX : ∀ z, RS G z x a oL oD sc L A xs (r + 1) → wL_lawb2581 G P PX K28 (some sc) (some x) (some a) (some oL) (some oD) (Int32.ofNat (5 * r)) z := fun z h => hK z h
  refine ⟨hC.rc, q_due hS hO hLG (hbz.mono (by omega)) fun τ e1 => ?_⟩
  · have hM := rb_mq hB hr e1 (by omega)
    rw [← hM.1.2.1]
    exact ⟨m_rcv, x_due hok hgo ⟨fun _ => hNX _ (md_end hM (fun _ _ => rfl) (MS_14 hMS)), fun w9 => absurd rfl w9⟩⟩
end LC4
