/-! the law: questions -/
set_option maxRecDepth 100000
section LC3
variable {G : gE} {σ : hSt} {x a oL oD sc L r N : Nat} {A : Nat → Nat} {xs : Nat → Int32} {M : mSt} {hg : List (Nat → Int32)} {sg : Option (Nat → Int32)} {T U : List Nat} {er wy dt : Int32} {PX : Nat → Nat → hSt → Prop} {P : Int32 → hSt → Prop} {K28 : (Option Nat × Option Nat × Option Nat × Option Nat × Option Nat × Int32 × hSt) → Prop}
theorem cs_9 (hB : RB G σ x a oL oD sc L A xs r N M hg sg T U er wy dt) (hr : r < 24) (h5 : 5 * r + 5 ≤ L) (hL : L ≤ 120) (hK : ∀ z, RS G z x a oL oD sc L A xs (r + 1) → K28 (some sc, some x, some a, some oL, some oD, Int32.ofNat (5 * r) + 5, z)) : alI σ (some sc) 0 ((Int32.ofNat (5 * r)) + 1) (fun x117 => alI σ (some sc) 0 ((Int32.ofNat (5 * r)) + 2) (fun x118 => alI σ (some sc) 0 ((Int32.ofNat (5 * r)) + 3) (fun x119 => wX0_excuseOf G (fun x121 z120 => alI z120 (some sc) 0 ((Int32.ofNat (5 * r)) + 1) (fun x122 => alI z120 (some sc) 0 ((Int32.ofNat (5 * r)) + 2) (fun x123 => alI z120 (some sc) 0 ((Int32.ofNat (5 * r)) + 3) (fun x124 => (rcv z120 (some a) 4 ∧ wX5_excuseOf G (fun x126 z125 => (rcv z125 (some a) 4 ∧ wX5_thrown G (fun x128 z127 => ((x128 = x121 → ((¬ x121 = 0 → wL_lawb937 G P PX K28 (some sc) (some x) (some a) (some oL) (some oD) (Int32.ofNat (5 * r)) z127) ∧ (x121 = 0 → alL z127 (some oL) 0 (fun x129 => (((lg_cmp x129 ((x126 : Int32).toInt64)) = 0 → wL_lawb937 G P PX K28 (some sc) (some x) (some a) (some oL) (some oD) (Int32.ofNat (5 * r)) z127) ∧ (¬ (lg_cmp x129 ((x126 : Int32).toInt64)) = 0 → P 0 z127)))))) ∧ (¬ x128 = x121 → P 0 z127))) PX (some a)  z125)) PX (some a) x122 x123 x124 z120))))) PX (some x) x117 x118 x119 (some oL) σ))) := by
  obtain ⟨⟨hS, hz, hok⟩, hC, hMS, hF, hbd, hNT⟩ := id hB
  obtain ⟨hJ, n0, o0, A0, md0, es0, hLG, hO⟩ := cs_lg hC
  have hgo := hLG.ok
  have h12 := hgo.1.1
  have hbz : bd G σ 49000 := hbd.mono (by omega)
  have hc6 := hMS.1.2.1
  have h3 := hMS.1.1
  have hNX : ∀ z, RS G z x a oL oD sc L A xs (r + 1) → wL_lawb2581 G P PX K28 (some sc) (some x) (some a) (some oL) (some oD) (Int32.ofNat (5 * r)) z := fun z h => hK z h
  refine sc_1 hF (i := 5 * r) (j := 1) (by omega) hL (sc_1 hF (i := 5 * r) (j := 2) (by omega) hL (sc_1 hF (i := 5 * r) (j := 3) (by omega) hL (?_)))
  unfold wX0_excuseOf wX0_excuseOfb0
  refine ⟨hC.rc, q_excuseOf hS hO hLG (hbz.mono (by omega)) (fun w τ e e1 he => ?_) (fun w1 w2 w3 w4 τ e e1 he => ?_) fun e v τ w1 w2 w3 w4 w5 e1 => ?_⟩
  · refine Or.inr (Or.inl ⟨rfl, ?_⟩)
    unfold wX0_excuseOfb15
    have hM := rb_mq hB hr e1 (by omega)
    refine sc_1 hM.2.2.1 (i := 5 * r) (j := 1) (by omega) hL (sc_1 hM.2.2.1 (i := 5 * r) (j := 2) (by omega) hL (sc_1 hM.2.2.1 (i := 5 * r) (j := 3) (by omega) hL (?_)))
    rw [← hM.1.2.1]
    exact ⟨m_rcv, x_excuseOf hok hgo (fun _ => tail_i hM (fun w9 => absurd w9 (by decide)) m14_F (hNX _ (md_end hM (fun _ _ => rfl) (MS_F hMS)))) (fun u1 u2 u3 _ => absurd ⟨u1, u2, u3⟩ w) fun _ _ u1 u2 u3 _ _ => absurd ⟨u1, u2, u3⟩ w⟩
  · refine Or.inl ⟨rfl, ?_⟩
    unfold wX0_excuseOfb19
    have hM := rb_mq hB hr e1 (by omega)
    refine sc_1 hM.2.2.1 (i := 5 * r) (j := 1) (by omega) hL (sc_1 hM.2.2.1 (i := 5 * r) (j := 2) (by omega) hL (sc_1 hM.2.2.1 (i := 5 * r) (j := 3) (by omega) hL (?_)))
    rw [← hM.1.2.1]
    exact ⟨m_rcv, x_excuseOf hok hgo (fun u => absurd ⟨w1, w2, w3⟩ u) (fun _ _ _ _ => tail_i hM (fun w9 => absurd w9 (by decide)) m14_F (hNX _ (md_end hM (fun _ _ => rfl) (MS_F hMS)))) fun _ _ _ _ _ u _ => (no_F w4 u).elim⟩
  · refine md_L (rb_mq hB hr e1 (by omega)) fun υ f hM hf hv => ?_
    refine sc_1 hM.2.2.1 (i := 5 * r) (j := 1) (by omega) hL (sc_1 hM.2.2.1 (i := 5 * r) (j := 2) (by omega) hL (sc_1 hM.2.2.1 (i := 5 * r) (j := 3) (by omega) hL (?_)))
    rw [← hM.1.2.1]
    exact ⟨m_rcv, x_excuseOf hok hgo (fun u => absurd ⟨w1, w2, w3⟩ u) (fun _ _ _ u => (no_F u w4).elim) fun e' v' _ _ _ u1 u2 => by
      cases f_un w4 u1
      cases exc_un w5 u2
      exact tail_i hM (fun _ => ⟨f, hf, hv⟩) m14_S (hNX _ (md_end hM (fun _ _ => rfl) (MS_14 hMS)))⟩
theorem cs_11 (hB : RB G σ x a oL oD sc L A xs r N M hg sg T U er wy dt) (hr : r < 24) (h5 : 5 * r + 5 ≤ L) (hL : L ≤ 120) (hK : ∀ z, RS G z x a oL oD sc L A xs (r + 1) → K28 (some sc, some x, some a, some oL, some oD, Int32.ofNat (5 * r) + 5, z)) : alI σ (some sc) 0 ((Int32.ofNat (5 * r)) + 1) (fun x132 => alI σ (some sc) 0 ((Int32.ofNat (5 * r)) + 2) (fun x133 => wX0_pupilOf G (fun x135 z134 => alI z134 (some sc) 0 ((Int32.ofNat (5 * r)) + 1) (fun x136 => alI z134 (some sc) 0 ((Int32.ofNat (5 * r)) + 2) (fun x137 => (rcv z134 (some a) 4 ∧ wX5_pupilOf G (fun x139 z138 => (rcv z138 (some a) 4 ∧ wX5_thrown G (fun x141 z140 => ((x141 = x135 → ((¬ x135 = 0 → wL_lawb1089 G P PX K28 (some sc) (some x) (some a) (some oL) (some oD) (Int32.ofNat (5 * r)) z140) ∧ (x135 = 0 → alL z140 (some oL) 0 (fun x142 => (((lg_cmp x142 ((x139 : Int32).toInt64)) = 0 → wL_lawb1089 G P PX K28 (some sc) (some x) (some a) (some oL) (some oD) (Int32.ofNat (5 * r)) z140) ∧ (¬ (lg_cmp x142 ((x139 : Int32).toInt64)) = 0 → P 0 z140)))))) ∧ (¬ x141 = x135 → P 0 z140))) PX (some a)  z138)) PX (some a) x136 x137 z134)))) PX (some x) x132 x133 (some oL) σ)) := by
  obtain ⟨⟨hS, hz, hok⟩, hC, hMS, hF, hbd, hNT⟩ := id hB
  obtain ⟨hJ, n0, o0, A0, md0, es0, hLG, hO⟩ := cs_lg hC
  have hgo := hLG.ok
  have h12 := hgo.1.1
  have hbz : bd G σ 49000 := hbd.mono (by omega)
  have hc6 := hMS.1.2.1
  have h3 := hMS.1.1
  have hNX : ∀ z, RS G z x a oL oD sc L A xs (r + 1) → wL_lawb2581 G P PX K28 (some sc) (some x) (some a) (some oL) (some oD) (Int32.ofNat (5 * r)) z := fun z h => hK z h
  refine sc_1 hF (i := 5 * r) (j := 1) (by omega) hL (sc_1 hF (i := 5 * r) (j := 2) (by omega) hL (?_))
  unfold wX0_pupilOf wX0_pupilOfb0
  refine ⟨hC.rc, q_pupilOf hS hO hLG (hbz.mono (by omega)) (fun w τ e e1 he => ?_) (fun w1 w2 τ e e1 he => ?_) fun p v τ w1 w2 w3 e1 => ?_⟩
  · refine Or.inr (Or.inl ⟨rfl, ?_⟩)
    unfold wX0_pupilOfb13
    have hM := rb_mq hB hr e1 (by omega)
    refine sc_1 hM.2.2.1 (i := 5 * r) (j := 1) (by omega) hL (sc_1 hM.2.2.1 (i := 5 * r) (j := 2) (by omega) hL (?_))
    rw [← hM.1.2.1]
    exact ⟨m_rcv, x_pupilOf hok hgo (fun _ => tail_i hM (fun w9 => absurd w9 (by decide)) m14_F (hNX _ (md_end hM (fun _ _ => rfl) (MS_F hMS)))) (fun u _ => absurd u w) fun p v hp hp6 _ => absurd (isP_n hp hp6) w⟩
  · refine Or.inl ⟨rfl, ?_⟩
    unfold wX0_pupilOfb17
    have hM := rb_mq hB hr e1 (by omega)
    refine sc_1 hM.2.2.1 (i := 5 * r) (j := 1) (by omega) hL (sc_1 hM.2.2.1 (i := 5 * r) (j := 2) (by omega) hL (?_))
    rw [← hM.1.2.1]
    exact ⟨m_rcv, x_pupilOf hok hgo (fun u => absurd w1 u) (fun _ _ => tail_i hM (fun w9 => absurd w9 (by decide)) m14_F (hNX _ (md_end hM (fun _ _ => rfl) (MS_F hMS)))) fun p v _ _ u => absurd (pup_mem u) w2⟩
  · refine md_L (rb_mq hB hr e1 (by omega)) fun υ f hM hf hv => ?_
    refine sc_1 hM.2.2.1 (i := 5 * r) (j := 1) (by omega) hL (sc_1 hM.2.2.1 (i := 5 * r) (j := 2) (by omega) hL (?_))
    rw [← hM.1.2.1]
    exact ⟨m_rcv, x_pupilOf hok hgo (fun u => absurd (isP_n w1 w2) u) (fun _ u => absurd (pup_mem w3) u) fun p' v' u1 u2 u3 => by
      cases n_eq w1 u1 (by omega) (by omega)
      cases pup_un w3 u3
      exact tail_i hM (fun _ => ⟨f, hf, hv⟩) m14_S (hNX _ (md_end hM (fun _ _ => rfl) (MS_14 hMS)))⟩
theorem cs_12 (hB : RB G σ x a oL oD sc L A xs r N M hg sg T U er wy dt) (hr : r < 24) (h5 : 5 * r + 5 ≤ L) (hL : L ≤ 120) (hK : ∀ z, RS G z x a oL oD sc L A xs (r + 1) → K28 (some sc, some x, some a, some oL, some oD, Int32.ofNat (5 * r) + 5, z)) : alI σ (some sc) 0 ((Int32.ofNat (5 * r)) + 1) (fun x143 => alI σ (some sc) 0 ((Int32.ofNat (5 * r)) + 2) (fun x144 => wX0_schoolOf G (fun x146 z145 => alI z145 (some sc) 0 ((Int32.ofNat (5 * r)) + 1) (fun x147 => alI z145 (some sc) 0 ((Int32.ofNat (5 * r)) + 2) (fun x148 => (rcv z145 (some a) 4 ∧ wX5_schoolOf G (fun x150 z149 => (rcv z149 (some a) 4 ∧ wX5_thrown G (fun x152 z151 => ((x152 = x146 → ((¬ x146 = 0 → wL_lawb1157 G P PX K28 (some sc) (some x) (some a) (some oL) (some oD) (Int32.ofNat (5 * r)) z151) ∧ (x146 = 0 → alL z151 (some oL) 0 (fun x153 => (((lg_cmp x153 ((x150 : Int32).toInt64)) = 0 → wL_lawb1157 G P PX K28 (some sc) (some x) (some a) (some oL) (some oD) (Int32.ofNat (5 * r)) z151) ∧ (¬ (lg_cmp x153 ((x150 : Int32).toInt64)) = 0 → P 0 z151)))))) ∧ (¬ x152 = x146 → P 0 z151))) PX (some a)  z149)) PX (some a) x147 x148 z145)))) PX (some x) x143 x144 (some oL) σ)) := by
  obtain ⟨⟨hS, hz, hok⟩, hC, hMS, hF, hbd, hNT⟩ := id hB
  obtain ⟨hJ, n0, o0, A0, md0, es0, hLG, hO⟩ := cs_lg hC
  have hgo := hLG.ok
  have h12 := hgo.1.1
  have hbz : bd G σ 49000 := hbd.mono (by omega)
  have hc6 := hMS.1.2.1
  have h3 := hMS.1.1
  have hNX : ∀ z, RS G z x a oL oD sc L A xs (r + 1) → wL_lawb2581 G P PX K28 (some sc) (some x) (some a) (some oL) (some oD) (Int32.ofNat (5 * r)) z := fun z h => hK z h
  refine sc_1 hF (i := 5 * r) (j := 1) (by omega) hL (sc_1 hF (i := 5 * r) (j := 2) (by omega) hL (?_))
  unfold wX0_schoolOf wX0_schoolOfb0
  refine ⟨hC.rc, q_schoolOf hS hO hLG (hbz.mono (by omega)) (fun w τ e e1 he => ?_) (fun w1 w2 τ e e1 he => ?_) fun p v w1 w2 w3 => ?_⟩
  · refine Or.inr (Or.inl ⟨rfl, ?_⟩)
    unfold wX0_schoolOfb13
    have hM := rb_mq hB hr e1 (by omega)
    refine sc_1 hM.2.2.1 (i := 5 * r) (j := 1) (by omega) hL (sc_1 hM.2.2.1 (i := 5 * r) (j := 2) (by omega) hL (?_))
    rw [← hM.1.2.1]
    exact ⟨m_rcv, x_schoolOf hok (fun _ => tail_i hM (fun w9 => absurd w9 (by decide)) m14_F (hNX _ (md_end hM (fun _ _ => rfl) (MS_F hMS)))) (fun u _ => absurd u w) fun p v hp hp6 _ => absurd (isS_n hp hp6) w⟩
  · refine Or.inl ⟨rfl, ?_⟩
    unfold wX0_schoolOfb17
    have hM := rb_mq hB hr e1 (by omega)
    refine sc_1 hM.2.2.1 (i := 5 * r) (j := 1) (by omega) hL (sc_1 hM.2.2.1 (i := 5 * r) (j := 2) (by omega) hL (?_))
    rw [← hM.1.2.1]
    exact ⟨m_rcv, x_schoolOf hok (fun u => absurd w1 u) (fun _ _ => tail_i hM (fun w9 => absurd w9 (by decide)) m14_F (hNX _ (md_end hM (fun _ _ => rfl) (MS_F hMS)))) fun p v _ _ u => absurd (sch_mem u) w2⟩
  · refine md_L (rb_mq hB hr (ev.refl hS) (by omega)) fun υ f hM hf hv => ?_
    refine sc_1 hM.2.2.1 (i := 5 * r) (j := 1) (by omega) hL (sc_1 hM.2.2.1 (i := 5 * r) (j := 2) (by omega) hL (?_))
    rw [← hM.1.2.1]
    exact ⟨m_rcv, x_schoolOf hok (fun u => absurd (isS_n w1 w2) u) (fun _ u => absurd (sch_mem w3) u) fun p' v' u1 u2 u3 => by
      cases n_eq w1 u1 (by omega) (by omega)
      cases sch_un w3 u3
      exact tail_i hM (fun _ => ⟨f, hf, hv⟩) m14_S (hNX _ (md_end hM (fun _ _ => rfl) (MS_14 hMS)))⟩
theorem cs_13 (hB : RB G σ x a oL oD sc L A xs r N M hg sg T U er wy dt) (hr : r < 24) (h5 : 5 * r + 5 ≤ L) (hL : L ≤ 120) (hK : ∀ z, RS G z x a oL oD sc L A xs (r + 1) → K28 (some sc, some x, some a, some oL, some oD, Int32.ofNat (5 * r) + 5, z)) : alI σ (some sc) 0 ((Int32.ofNat (5 * r)) + 1) (fun x154 => wX0_dog G (fun x156 z155 => alI z155 (some sc) 0 ((Int32.ofNat (5 * r)) + 1) (fun x157 => (rcv z155 (some a) 4 ∧ wX5_dog G (fun x159 z158 => (rcv z158 (some a) 4 ∧ wX5_thrown G (fun x161 z160 => ((x161 = x156 → ((¬ x156 = 0 → wL_lawb1213 G P PX K28 (some sc) (some x) (some a) (some oL) (some oD) (Int32.ofNat (5 * r)) z160) ∧ (x156 = 0 → alL z160 (some oL) 0 (fun x162 => (((lg_cmp x162 ((x159 : Int32).toInt64)) = 0 → wL_lawb1213 G P PX K28 (some sc) (some x) (some a) (some oL) (some oD) (Int32.ofNat (5 * r)) z160) ∧ (¬ (lg_cmp x162 ((x159 : Int32).toInt64)) = 0 → P 0 z160)))))) ∧ (¬ x161 = x156 → P 0 z160))) PX (some a)  z158)) PX (some a) x157 z155))) PX (some x) x154 (some oL) σ) := by
  obtain ⟨⟨hS, hz, hok⟩, hC, hMS, hF, hbd, hNT⟩ := id hB
  obtain ⟨hJ, n0, o0, A0, md0, es0, hLG, hO⟩ := cs_lg hC
  have hgo := hLG.ok
  have h12 := hgo.1.1
  have hbz : bd G σ 49000 := hbd.mono (by omega)
  have hc6 := hMS.1.2.1
  have h3 := hMS.1.1
  have hNX : ∀ z, RS G z x a oL oD sc L A xs (r + 1) → wL_lawb2581 G P PX K28 (some sc) (some x) (some a) (some oL) (some oD) (Int32.ofNat (5 * r)) z := fun z h => hK z h
  refine sc_1 hF (i := 5 * r) (j := 1) (by omega) hL (?_)
  unfold wX0_dog wX0_dogb0
  refine ⟨hC.rc, q_dog hS hO hLG (hbz.mono (by omega)) (fun w τ e e1 he => ?_) fun t w1 w2 => ?_⟩
  · refine Or.inl ⟨rfl, ?_⟩
    unfold wX0_dogb12
    have hM := rb_mq hB hr e1 (by omega)
    refine sc_1 hM.2.2.1 (i := 5 * r) (j := 1) (by omega) hL (?_)
    rw [← hM.1.2.1]
    exact ⟨m_rcv, x_dog hok (fun _ => tail_i hM (fun w9 => absurd w9 (by decide)) m14_F (hNX _ (md_end hM (fun _ _ => rfl) (MS_F hMS)))) fun t u1 u2 => absurd (isE_n u1 u2) w⟩
  · refine md_L (rb_mq hB hr (ev.refl hS) (by omega)) fun υ f hM hf hv => ?_
    refine sc_1 hM.2.2.1 (i := 5 * r) (j := 1) (by omega) hL (?_)
    rw [← hM.1.2.1]
    exact ⟨m_rcv, x_dog hok (fun u => absurd (isE_n w1 w2) u) fun t' u1 u2 => by
      cases n_eq w1 u1 (by omega) (by omega)
      exact tail_i hM (fun _ => ⟨f, hf, hv⟩) m14_S (hNX _ (md_end hM (fun _ _ => rfl) (MS_14 hMS)))⟩
theorem cs_14 (hB : RB G σ x a oL oD sc L A xs r N M hg sg T U er wy dt) (hr : r < 24) (h5 : 5 * r + 5 ≤ L) (hL : L ≤ 120) (hK : ∀ z, RS G z x a oL oD sc L A xs (r + 1) → K28 (some sc, some x, some a, some oL, some oD, Int32.ofNat (5 * r) + 5, z)) : alI σ (some sc) 0 ((Int32.ofNat (5 * r)) + 1) (fun x163 => alI σ (some sc) 0 ((Int32.ofNat (5 * r)) + 2) (fun x164 => alI σ (some sc) 0 ((Int32.ofNat (5 * r)) + 3) (fun x165 => alI σ (some sc) 0 ((Int32.ofNat (5 * r)) + 4) (fun x166 => wX0_heard G (fun x168 z167 => alI z167 (some sc) 0 ((Int32.ofNat (5 * r)) + 1) (fun x169 => alI z167 (some sc) 0 ((Int32.ofNat (5 * r)) + 2) (fun x170 => alI z167 (some sc) 0 ((Int32.ofNat (5 * r)) + 3) (fun x171 => alI z167 (some sc) 0 ((Int32.ofNat (5 * r)) + 4) (fun x172 => (rcv z167 (some a) 4 ∧ wX5_heard G (fun x174 z173 => (rcv z173 (some a) 4 ∧ wX5_thrown G (fun x176 z175 => ((x176 = x168 → ((¬ x168 = 0 → wL_lawb1312 G P PX K28 (some sc) (some x) (some a) (some oL) (some oD) (Int32.ofNat (5 * r)) z175) ∧ (x168 = 0 → alL z175 (some oL) 0 (fun x177 => ((x174 = 0 → wL_lawb1306 G P PX K28 (some sc) (some x) (some a) (some oL) (some oD) (Int32.ofNat (5 * r)) x177 0 z175) ∧ (¬ x174 = 0 → wL_lawb1306 G P PX K28 (some sc) (some x) (some a) (some oL) (some oD) (Int32.ofNat (5 * r)) x177 1 z175)))))) ∧ (¬ x176 = x168 → P 0 z175))) PX (some a)  z173)) PX (some a) x169 x170 x171 x172 z167)))))) PX (some x) x163 x164 x165 x166 (some oL) σ)))) := by
  obtain ⟨⟨hS, hz, hok⟩, hC, hMS, hF, hbd, hNT⟩ := id hB
  obtain ⟨hJ, n0, o0, A0, md0, es0, hLG, hO⟩ := cs_lg hC
  have hgo := hLG.ok
  have h12 := hgo.1.1
  have hbz : bd G σ 49000 := hbd.mono (by omega)
  have hc6 := hMS.1.2.1
  have h3 := hMS.1.1
  have hNX : ∀ z, RS G z x a oL oD sc L A xs (r + 1) → wL_lawb2581 G P PX K28 (some sc) (some x) (some a) (some oL) (some oD) (Int32.ofNat (5 * r)) z := fun z h => hK z h
  unfold wL_lawb1306
  refine sc_1 hF (i := 5 * r) (j := 1) (by omega) hL (sc_1 hF (i := 5 * r) (j := 2) (by omega) hL (sc_1 hF (i := 5 * r) (j := 3) (by omega) hL (sc_1 hF (i := 5 * r) (j := 4) (by omega) hL (?_))))
  unfold wX0_heard wX0_heardb0
  refine ⟨hC.rc, q_heard hS hO hLG (hbz.mono (by omega)) (fun w τ e e1 he => ?_) (fun w1 w2 w3 τ e e1 he => ?_) fun s' p' k' t' τ hs hs3 hp hp6 hk hk4 ht ht10 e1 => ?_⟩
  · refine Or.inr (Or.inl ⟨rfl, ?_⟩)
    unfold wX0_heardb24
    have hM := rb_mq hB hr e1 (by omega)
    refine sc_1 hM.2.2.1 (i := 5 * r) (j := 1) (by omega) hL (sc_1 hM.2.2.1 (i := 5 * r) (j := 2) (by omega) hL (sc_1 hM.2.2.1 (i := 5 * r) (j := 3) (by omega) hL (sc_1 hM.2.2.1 (i := 5 * r) (j := 4) (by omega) hL (?_))))
    rw [← hM.1.2.1]
    exact ⟨m_rcv, x_heard hok (fun _ => tail_b (Or.inl rfl) hM (fun w9 => absurd w9 (by decide)) m14_S (hNX _ (md_end hM (fun _ _ => rfl) (MS_14 hMS)))) (fun u1 u2 _ => absurd ⟨u1, u2⟩ w) fun s2 p2 k2 t2 us us3 up up6 _ _ _ _ => absurd ⟨isS_n us us3, isP_n up up6⟩ w⟩
  · refine Or.inl ⟨rfl, ?_⟩
    unfold wX0_heardb28
    have hM := rb_mq hB hr e1 (by omega)
    refine sc_1 hM.2.2.1 (i := 5 * r) (j := 1) (by omega) hL (sc_1 hM.2.2.1 (i := 5 * r) (j := 2) (by omega) hL (sc_1 hM.2.2.1 (i := 5 * r) (j := 3) (by omega) hL (sc_1 hM.2.2.1 (i := 5 * r) (j := 4) (by omega) hL (?_))))
    rw [← hM.1.2.1]
    exact ⟨m_rcv, x_heard hok (fun u => absurd ⟨w1, w2⟩ u) (fun _ _ _ => tail_b (Or.inl rfl) hM (fun w9 => absurd w9 (by decide)) m14_S (hNX _ (md_end hM (fun _ _ => rfl) (MS_14 hMS)))) fun s2 p2 k2 t2 us us3 up up6 hk hk4 ht ht10 => absurd (isX_n hk hk4 ht ht10) w3⟩
  · unfold wX0_heardb20
    refine md_LB (tw_01) (rb_mq hB hr e1 (by omega)) fun υ f hM hf hv => ?_
    refine sc_1 hM.2.2.1 (i := 5 * r) (j := 1) (by omega) hL (sc_1 hM.2.2.1 (i := 5 * r) (j := 2) (by omega) hL (sc_1 hM.2.2.1 (i := 5 * r) (j := 3) (by omega) hL (sc_1 hM.2.2.1 (i := 5 * r) (j := 4) (by omega) hL (?_))))
    rw [← hM.1.2.1]
    exact ⟨m_rcv, x_heard hok (fun u => absurd ⟨isS_n hs hs3, isP_n hp hp6⟩ u) (fun _ _ u => absurd (isX_n hk hk4 ht ht10) u) fun s2 p2 k2 t2 us us3 up up6 uk uk4 ut ut10 => by
      cases n_eq hs us (by omega) (by omega)
      cases n_eq hp up (by omega) (by omega)
      cases n_eq hk uk (by omega) (by omega)
      cases n_eq ht ut (by omega) (by omega)
      exact tail_b tw_01 hM (fun _ => ⟨f, hf, hv⟩) m14_S (hNX _ (md_end hM (fun _ _ => rfl) (MS_14 hMS)))⟩
theorem cs_15 (hB : RB G σ x a oL oD sc L A xs r N M hg sg T U er wy dt) (hr : r < 24) (h5 : 5 * r + 5 ≤ L) (hL : L ≤ 120) (hK : ∀ z, RS G z x a oL oD sc L A xs (r + 1) → K28 (some sc, some x, some a, some oL, some oD, Int32.ofNat (5 * r) + 5, z)) : alI σ (some sc) 0 ((Int32.ofNat (5 * r)) + 1) (fun x178 => alI σ (some sc) 0 ((Int32.ofNat (5 * r)) + 2) (fun x179 => alI σ (some sc) 0 ((Int32.ofNat (5 * r)) + 3) (fun x180 => alI σ (some sc) 0 ((Int32.ofNat (5 * r)) + 4) (fun x181 => wX0_would G (fun x183 z182 => alI z182 (some sc) 0 ((Int32.ofNat (5 * r)) + 1) (fun x184 => alI z182 (some sc) 0 ((Int32.ofNat (5 * r)) + 2) (fun x185 => alI z182 (some sc) 0 ((Int32.ofNat (5 * r)) + 3) (fun x186 => alI z182 (some sc) 0 ((Int32.ofNat (5 * r)) + 4) (fun x187 => (rcv z182 (some a) 4 ∧ wX5_would G (fun x189 z188 => (rcv z188 (some a) 4 ∧ wX5_thrown G (fun x191 z190 => ((x191 = x183 → ((¬ x183 = 0 → wL_lawb1411 G P PX K28 (some sc) (some x) (some a) (some oL) (some oD) (Int32.ofNat (5 * r)) z190) ∧ (x183 = 0 → alL z190 (some oL) 0 (fun x192 => ((x189 = 0 → wL_lawb1405 G P PX K28 (some sc) (some x) (some a) (some oL) (some oD) (Int32.ofNat (5 * r)) x192 0 z190) ∧ (¬ x189 = 0 → wL_lawb1405 G P PX K28 (some sc) (some x) (some a) (some oL) (some oD) (Int32.ofNat (5 * r)) x192 1 z190)))))) ∧ (¬ x191 = x183 → P 0 z190))) PX (some a)  z188)) PX (some a) x184 x185 x186 x187 z182)))))) PX (some x) x178 x179 x180 x181 (some oL) σ)))) := by
  obtain ⟨⟨hS, hz, hok⟩, hC, hMS, hF, hbd, hNT⟩ := id hB
  obtain ⟨hJ, n0, o0, A0, md0, es0, hLG, hO⟩ := cs_lg hC
  have hgo := hLG.ok
  have h12 := hgo.1.1
  have hbz : bd G σ 49000 := hbd.mono (by omega)
  have hc6 := hMS.1.2.1
  have h3 := hMS.1.1
  have hNX : ∀ z, RS G z x a oL oD sc L A xs (r + 1) → wL_lawb2581 G P PX K28 (some sc) (some x) (some a) (some oL) (some oD) (Int32.ofNat (5 * r)) z := fun z h => hK z h
  unfold wL_lawb1405
  refine sc_1 hF (i := 5 * r) (j := 1) (by omega) hL (sc_1 hF (i := 5 * r) (j := 2) (by omega) hL (sc_1 hF (i := 5 * r) (j := 3) (by omega) hL (sc_1 hF (i := 5 * r) (j := 4) (by omega) hL (?_))))
  unfold wX0_would wX0_wouldb0
  refine ⟨hC.rc, q_would hS hO hLG (hbz.mono (by omega)) (fun w τ e e1 he => ?_) (fun w1 w2 w3 τ e e1 he => ?_) (fun w1 w2 w3 w4 τ e e1 he => ?_) fun p' s' i τ hp hp6 hs hs3 hx hi e1 => ?_⟩
  · refine Or.inr (Or.inr (Or.inl ⟨rfl, ?_⟩))
    unfold wX0_wouldb24
    have hM := rb_mq hB hr e1 (by omega)
    refine sc_1 hM.2.2.1 (i := 5 * r) (j := 1) (by omega) hL (sc_1 hM.2.2.1 (i := 5 * r) (j := 2) (by omega) hL (sc_1 hM.2.2.1 (i := 5 * r) (j := 3) (by omega) hL (sc_1 hM.2.2.1 (i := 5 * r) (j := 4) (by omega) hL (?_))))
    rw [← hM.1.2.1]
    exact ⟨m_rcv, x_would hok hgo (fun _ => tail_b (Or.inl rfl) hM (fun w9 => absurd w9 (by decide)) m14_S (hNX _ (md_end hM (fun _ _ => rfl) (MS_14 hMS)))) (fun u1 u2 _ => absurd ⟨u1, u2⟩ w) (fun u1 u2 _ _ => absurd ⟨u1, u2⟩ w) fun p2 s2 i2 up up6 us us3 _ _ => absurd ⟨isP_n up up6, isS_n us us3⟩ w⟩
  · refine Or.inr (Or.inl ⟨rfl, ?_⟩)
    unfold wX0_wouldb28
    have hM := rb_mq hB hr e1 (by omega)
    refine sc_1 hM.2.2.1 (i := 5 * r) (j := 1) (by omega) hL (sc_1 hM.2.2.1 (i := 5 * r) (j := 2) (by omega) hL (sc_1 hM.2.2.1 (i := 5 * r) (j := 3) (by omega) hL (sc_1 hM.2.2.1 (i := 5 * r) (j := 4) (by omega) hL (?_))))
    rw [← hM.1.2.1]
    exact ⟨m_rcv, x_would hok hgo (fun u => absurd ⟨w1, w2⟩ u) (fun _ _ _ => tail_b (Or.inl rfl) hM (fun w9 => absurd w9 (by decide)) m14_S (hNX _ (md_end hM (fun _ _ => rfl) (MS_14 hMS)))) (fun _ _ u _ => absurd u w3) fun p2 s2 i2 _ _ _ _ u _ => absurd u w3⟩
  · refine Or.inl ⟨rfl, ?_⟩
    unfold wX0_wouldb32
    have hM := rb_mq hB hr e1 (by omega)
    refine sc_1 hM.2.2.1 (i := 5 * r) (j := 1) (by omega) hL (sc_1 hM.2.2.1 (i := 5 * r) (j := 2) (by omega) hL (sc_1 hM.2.2.1 (i := 5 * r) (j := 3) (by omega) hL (sc_1 hM.2.2.1 (i := 5 * r) (j := 4) (by omega) hL (?_))))
    rw [← hM.1.2.1]
    exact ⟨m_rcv, x_would hok hgo (fun u => absurd ⟨w1, w2⟩ u) (fun _ _ u => absurd w3 u) (fun _ _ _ _ => tail_b (Or.inl rfl) hM (fun w9 => absurd w9 (by decide)) m14_S (hNX _ (md_end hM (fun _ _ => rfl) (MS_14 hMS)))) fun p2 s2 i2 _ _ _ _ _ u => (no_F w4 u).elim⟩
  · unfold wX0_wouldb20
    refine md_LB (tw_01) (rb_mq hB hr e1 (by omega)) fun υ f hM hf hv => ?_
    refine sc_1 hM.2.2.1 (i := 5 * r) (j := 1) (by omega) hL (sc_1 hM.2.2.1 (i := 5 * r) (j := 2) (by omega) hL (sc_1 hM.2.2.1 (i := 5 * r) (j := 3) (by omega) hL (sc_1 hM.2.2.1 (i := 5 * r) (j := 4) (by omega) hL (?_))))
    rw [← hM.1.2.1]
    exact ⟨m_rcv, x_would hok hgo (fun u => absurd ⟨isP_n hp hp6, isS_n hs hs3⟩ u) (fun _ _ u => absurd hx u) (fun _ _ _ u => (no_F u hi).elim) fun p2 s2 i2 up up6 us us3 _ ui => by
      cases n_eq hs us (by omega) (by omega)
      cases n_eq hp up (by omega) (by omega)
      cases f_un hi ui
      exact tail_b tw_01 hM (fun _ => ⟨f, hf, hv⟩) m14_S (hNX _ (md_end hM (fun _ _ => rfl) (MS_14 hMS)))⟩
end LC3
