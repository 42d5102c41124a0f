/-! the law: flags, means -/
set_option maxRecDepth 100000
theorem sN_fg {f : Nat → Int32} : ∀ n, n ≤ 1000 → (∀ i, i < n → fg 9 (f i)) → ∃ s, s ≤ 9 * n ∧ sN f n = Int32.ofNat s := by
  intro n
  induction n with
  | zero => intro _ _; exact ⟨0, by omega, rfl⟩
  | succ n ih =>
    intro hn h
    obtain ⟨s, h1, h2⟩ := ih (by omega) fun i hi => h i (by omega)
    obtain ⟨m, h3, h4⟩ := h n (by omega)
    refine ⟨s + m, by omega, ?_⟩
    rw [← sN_s, h2, h4, i_add]
theorem fl_mean : ∀ s, s < 109 → ∀ n, n < 12 → vf_n64 (FP.ddiv (FP.i2d (Int32.ofNat s)) (FP.i2d (Int32.ofNat (n + 1)))) ∧ Op.cmpValue (FP.dcmp (FP.ddiv (FP.i2d (Int32.ofNat s)) (FP.i2d (Int32.ofNat (n + 1)))) (FP.ddiv (FP.i2d (Int32.ofNat s)) (FP.i2d (Int32.ofNat (n + 1))))) .l = 0 := by
  unfold vf_n64
  decide +kernel
theorem fl_share : ∀ b, b < 25 → ∀ n, n < 24 → vf_n32 (FP.fdiv (FP.i2f (Int32.ofNat b)) (FP.i2f (Int32.ofNat (n + 1)))) ∧ vf_n64 (FP.f2d (FP.fdiv (FP.i2f (Int32.ofNat b)) (FP.i2f (Int32.ofNat (n + 1))))) ∧ Op.cmpValue (FP.dcmp (FP.f2d (FP.fdiv (FP.i2f (Int32.ofNat b)) (FP.i2f (Int32.ofNat (n + 1))))) (FP.f2d (FP.fdiv (FP.i2f (Int32.ofNat b)) (FP.i2f (Int32.ofNat (n + 1)))))) .l = 0 := by
  unfold vf_n64 vf_n32
  decide +kernel
theorem sum_12 {g : Nat → Int32} (hc : cnt g ≤ 12) (hz : zOK g) : sumG g 42 12 = sN (fun e => g (42 + e)) (cnt g) := by
  have e : 12 = cnt g + (12 - cnt g) := by omega
  show sN (fun k => g (42 + k)) 12 = _
  rw [e, sN_app, sN_z (n := 12 - cnt g) fun i hi => hz 42 (cnt g + i) (by decide) (by omega) (by omega) (by omega) (by omega), Int32.add_zero]
theorem three {f : Nat → Int32} {u : Nat → Nat} (h : ∀ s, s < 3 → f s = Int32.ofNat (u s)) : sN f 3 = Int32.ofNat (u 0 + u 1 + u 2) := by
  show 0 + f 0 + f 1 + f 2 = _
  rw [h 0 (by omega), h 1 (by omega), h 2 (by omega), Int32.zero_add, i_add, i_add]
section LC7
variable {G : gE} {σ : hSt} {x a oL oD sc L r N : Nat} {A : Nat → Nat} {xs : Nat → Int32} {M : mSt} {hg : List (Nat → Int32)} {sg : Option (Nat → Int32)} {T U : List Nat} {er wy dt : Int32} {PX : Nat → Nat → hSt → Prop} {P : Int32 → hSt → Prop} {M' : mSt} {g : Nat → Int32} {NX : hSt → Prop} {K28 : (Option Nat × Option Nat × Option Nat × Option Nat × Option Nat × Int32 × hSt) → Prop}
theorem tail_d {Z : UInt64 → hSt → Prop} {k : Int32} {v : UInt64} (h : MD G σ x a oL oD sc L A xs r N M g hg sg T U er wy dt) (hout : k = 0 → (∃ f, σ.1 oD = some (.inl (4, 1, .inr (.inr (.inr (.inl f))))) ∧ f 0 = v) ∧ Op.cmpValue (FP.dcmp v v) .l = 0) (h14 : M'.2 14 = k) (hn : NX (mz σ a A M')) : rcv (mz σ a A M') (some a) 4 ∧ wX5_thrown G (fun x314 z313 => ((x314 = k → ((¬ k = 0 → NX z313) ∧ (k = 0 → alD z313 (some oD) 0 (fun x315 => (((Op.cmpValue (FP.dcmp x315 v) .l) = 0 → NX z313) ∧ (¬ (Op.cmpValue (FP.dcmp x315 v) .l) = 0 → Z x315 z313)))))) ∧ (¬ x314 = k → P 0 z313))) PX (some a) (mz σ a A M') := by
  refine ⟨m_rcv, ?_⟩
  unfold wX5_thrown wX5_thrownb0
  rw [m_i14, h14]
  refine ⟨fun _ => ⟨fun _ => hn, fun hk => ?_⟩, fun w => absurd rfl w⟩
  obtain ⟨⟨f, hf, hv⟩, hd⟩ := hout hk
  obtain ⟨f', h1, h2⟩ := md_b (M' := M') h
  have e : f' = f := by
    have := h2.symm.trans hf
    injection this with this; injection this with this; injection this with _ this; injection this with _ this; injection this with this; injection this with this; injection this with this; injection this
  refine ⟨oD, 1, f', rfl, h1, i_in (k := 0) (by omega) (by omega), ?_⟩
  rw [e]
  have e0 : f (0 : Int32).toNatClampNeg = v := hv
  rw [e0]
  exact ⟨fun _ => hn, fun w => absurd hd w⟩
theorem tail_f {Z : UInt64 → hSt → Prop} {k : Int32} {v : UInt64} (h : MD G σ x a oL oD sc L A xs r N M g hg sg T U er wy dt) (hout : k = 0 → (∃ f, σ.1 oD = some (.inl (4, 1, .inr (.inr (.inr (.inl f))))) ∧ f 0 = v) ∧ Op.cmpValue (FP.dcmp v v) .l = 0 ∧ vf_n64 v) (h14 : M'.2 14 = k) (hn : NX (mz σ a A M')) : rcv (mz σ a A M') (some a) 4 ∧ wX5_thrown G (fun x314 z313 => ((x314 = k → ((¬ k = 0 → NX z313) ∧ (k = 0 → alD z313 (some oD) 0 (fun x315 => (vf_n64 v ∧ (((Op.cmpValue (FP.dcmp x315 v) .l) = 0 → NX z313) ∧ (¬ (Op.cmpValue (FP.dcmp x315 v) .l) = 0 → Z x315 z313))))))) ∧ (¬ x314 = k → P 0 z313))) PX (some a) (mz σ a A M') := by
  refine ⟨m_rcv, ?_⟩
  unfold wX5_thrown wX5_thrownb0
  rw [m_i14, h14]
  refine ⟨fun _ => ⟨fun _ => hn, fun hk => ?_⟩, fun w => absurd rfl w⟩
  obtain ⟨⟨f, hf, hv⟩, hd, hvf⟩ := hout hk
  obtain ⟨f', h1, h2⟩ := md_b (M' := M') h
  have e : f' = f := by
    have := h2.symm.trans hf
    injection this with this; injection this with this; injection this with _ this; injection this with _ this; injection this with this; injection this with this; injection this with this; injection this
  refine ⟨oD, 1, f', rfl, h1, i_in (k := 0) (by omega) (by omega), ?_⟩
  rw [e]
  have e0 : f (0 : Int32).toNatClampNeg = v := hv
  rw [e0]
  exact ⟨hvf, fun _ => hn, fun w => absurd hd w⟩
theorem at_w (hB : RB G σ x a oL oD sc L A xs r N M hg sg T U er wy dt) (hr : r < 24) (h5 : 5 * r + 5 ≤ L) (hL : L ≤ 120) (hK : ∀ z, RS G z x a oL oD sc L A xs (r + 1) → K28 (some sc, some x, some a, some oL, some oD, Int32.ofNat (5 * r) + 5, z)) {w : Int32} (hw : (xs (5 * r + 2) = 0 ↔ w = 0) ∧ (w = 0 ∨ w = 1)) : wL_lawb961 G P PX K28 (some sc) (some x) (some a) (some oL) (some oD) (Int32.ofNat (5 * r)) (some x) (xs (5 * r + 1)) w σ := by
  obtain ⟨⟨hS, hz, hok⟩, hC, hMS, hF, hbd, hNT⟩ := id hB
  obtain ⟨hJ, n0, o0, A0, md0, es0, hLG, hO⟩ := cs_lg hC
  have hgo := hLG.ok
  have h12 := hgo.1.1
  have hbz : bd G σ 49000 := hbd.mono (by omega)
  have hc6 := hMS.1.2.1
  have h3 := hMS.1.1
  have hNX : ∀ z, RS G z x a oL oD sc L A xs (r + 1) → wL_lawb2581 G P PX K28 (some sc) (some x) (some a) (some oL) (some oD) (Int32.ofNat (5 * r)) z := fun z h => hK z h
  unfold wL_lawb961
  unfold wX0_at wX0_atb0
  refine ⟨hC.rc, q_at hS hO hLG (hbz.mono (by omega)) (fun w9 τ e e1 he => ?_) fun e τ w1 w2 e1 => ?_⟩
  · refine Or.inl ⟨rfl, ?_⟩
    unfold wX0_atb13
    have hM := rb_mq hB hr e1 (by omega)
    refine sc_1 hM.2.2.1 (i := 5 * r) (j := 1) (by omega) hL (sc_1 hM.2.2.1 (i := 5 * r) (j := 2) (by omega) hL (?_))
    have go : wL_lawb988 G P PX K28 (some sc) (some x) (some a) (some oL) (some oD) (Int32.ofNat (5 * r)) (1) (some a) (xs (5 * r + 1)) w τ := by
      unfold wL_lawb988
      rw [← hM.1.2.1]
      exact ⟨m_rcv, x_at hok hgo (fun _ => tail_i hM (fun w9 => absurd w9 (by decide)) m14_F (hNX _ (md_end hM (fun _ _ => rfl) (MS_F hMS)))) fun i u1 u2 => absurd u2 (w9 i u1)⟩
    refine ⟨fun u => ?_, fun u => ?_⟩
    · rw [hw.1.mp u] at go
      exact go
    · rcases hw.2 with q | q
      · exact absurd (hw.1.mpr q) u
      · rw [q] at go
        exact go
  · refine md_L (rb_mq hB hr e1 (by omega)) fun υ f hM hf hv => ?_
    refine sc_1 hM.2.2.1 (i := 5 * r) (j := 1) (by omega) hL (sc_1 hM.2.2.1 (i := 5 * r) (j := 2) (by omega) hL (?_))
    have go : wL_lawb988 G P PX K28 (some sc) (some x) (some a) (some oL) (some oD) (Int32.ofNat (5 * r)) (0) (some a) (xs (5 * r + 1)) w υ := by
      unfold wL_lawb988
      rw [← hM.1.2.1]
      exact ⟨m_rcv, x_at hok hgo (fun u => absurd w2 (u e w1)) fun i u1 u2 => by
        cases n_eq w1 u1 (by omega) (by omega)
        exact tail_i hM (fun _ => ⟨f, hf, hv⟩) m14_S (hNX _ (md_end hM (fun _ _ => rfl) (MS_14 hMS)))⟩
    refine ⟨fun u => ?_, fun u => ?_⟩
    · rw [hw.1.mp u] at go
      exact go
    · rcases hw.2 with q | q
      · exact absurd (hw.1.mpr q) u
      · rw [q] at go
        exact go
theorem rs_w (hB : RB G σ x a oL oD sc L A xs r N M hg sg T U er wy dt) (hr : r < 24) (h5 : 5 * r + 5 ≤ L) (hL : L ≤ 120) (hK : ∀ z, RS G z x a oL oD sc L A xs (r + 1) → K28 (some sc, some x, some a, some oL, some oD, Int32.ofNat (5 * r) + 5, z)) {w : Int32} (hw : (xs (5 * r + 1) = 0 ↔ w = 0) ∧ (w = 0 ∨ w = 1)) : wL_lawb2423 G P PX K28 (some sc) (some x) (some a) (some oL) (some oD) (Int32.ofNat (5 * r)) (some x) w σ := by
  obtain ⟨⟨hS, hz, hok⟩, hC, hMS, hF, hbd, hNT⟩ := id hB
  obtain ⟨hJ, n0, o0, A0, md0, es0, hLG, hO⟩ := cs_lg hC
  have hgo := hLG.ok
  have h12 := hgo.1.1
  have hbz : bd G σ 49000 := hbd.mono (by omega)
  have hc6 := hMS.1.2.1
  have h3 := hMS.1.1
  have hNX : ∀ z, RS G z x a oL oD sc L A xs (r + 1) → wL_lawb2581 G P PX K28 (some sc) (some x) (some a) (some oL) (some oD) (Int32.ofNat (5 * r)) z := fun z h => hK z h
  unfold wL_lawb2423
  unfold wX0_reason wX0_reasonb0
  refine ⟨hC.rc, c_rsn hS hC (hbz.mono (by omega)) (fun w9 τ e e1 he => ?_) fun w9 => ?_⟩
  · refine Or.inl ⟨rfl, ?_⟩
    unfold wX0_reasonb12
    have hM := rb_mq hB hr e1 (by omega)
    refine sc_1 hM.2.2.1 (i := 5 * r) (j := 1) (by omega) hL (?_)
    have go : wL_lawb2444 G P PX K28 (some sc) (some x) (some a) (some oL) (some oD) (Int32.ofNat (5 * r)) (1) (some a) w τ := by
      unfold wL_lawb2444
      rw [← hM.1.2.1]
      exact ⟨m_rcv, x_reason hok (fun _ => tail_i hM (fun w9 => absurd w9 (by decide)) m14_F (hNX _ (md_end hM (fun _ _ => rfl) (MS_F hMS)))) fun u => absurd (hMS.2.2.2.2.2.1.trans w9) u⟩
    refine ⟨fun u => ?_, fun u => ?_⟩
    · rw [hw.1.mp u] at go
      exact go
    · rcases hw.2 with q | q
      · exact absurd (hw.1.mpr q) u
      · rw [q] at go
        exact go
  · refine md_L (rb_mq hB hr (ev.refl hS) (by omega)) fun υ f hM hf hv => ?_
    refine sc_1 hM.2.2.1 (i := 5 * r) (j := 1) (by omega) hL (?_)
    have go : wL_lawb2444 G P PX K28 (some sc) (some x) (some a) (some oL) (some oD) (Int32.ofNat (5 * r)) (0) (some a) w υ := by
      unfold wL_lawb2444
      rw [← hM.1.2.1]
      exact ⟨m_rcv, x_reason hok (fun u => absurd (hMS.2.2.2.2.2.1.symm.trans u) w9) fun _ => by
        rw [hMS.2.2.2.2.2.1, hMS.2.2.2.2.2.2]
        exact tail_i hM (fun _ => ⟨f, hf, hv⟩) m14_S (hNX _ (md_end hM (fun _ _ => rfl) (MS_14 hMS)))⟩
    refine ⟨fun u => ?_, fun u => ?_⟩
    · rw [hw.1.mp u] at go
      exact go
    · rcases hw.2 with q | q
      · exact absurd (hw.1.mpr q) u
      · rw [q] at go
        exact go
theorem cs_10 (hB : RB G σ x a oL oD sc L A xs r N M hg sg T U er wy dt) (hr : r < 24) (h5 : 5 * r + 5 ≤ L) (hL : L ≤ 120) (hK : ∀ z, RS G z x a oL oD sc L A xs (r + 1) → K28 (some sc, some x, some a, some oL, some oD, Int32.ofNat (5 * r) + 5, z)) : alI σ (some sc) 0 ((Int32.ofNat (5 * r)) + 1) (fun x130 => alI σ (some sc) 0 ((Int32.ofNat (5 * r)) + 2) (fun x131 => ((x131 = 0 → wL_lawb961 G P PX K28 (some sc) (some x) (some a) (some oL) (some oD) (Int32.ofNat (5 * r)) (some x) x130 0 σ) ∧ (¬ x131 = 0 → wL_lawb961 G P PX K28 (some sc) (some x) (some a) (some oL) (some oD) (Int32.ofNat (5 * r)) (some x) x130 1 σ)))) := by
  obtain ⟨⟨hS, hz, hok⟩, hC, hMS, hF, hbd, hNT⟩ := id hB
  obtain ⟨hJ, n0, o0, A0, md0, es0, hLG, hO⟩ := cs_lg hC
  have hgo := hLG.ok
  have h12 := hgo.1.1
  have hbz : bd G σ 49000 := hbd.mono (by omega)
  have hc6 := hMS.1.2.1
  have h3 := hMS.1.1
  have hNX : ∀ z, RS G z x a oL oD sc L A xs (r + 1) → wL_lawb2581 G P PX K28 (some sc) (some x) (some a) (some oL) (some oD) (Int32.ofNat (5 * r)) z := fun z h => hK z h
  refine sc_1 hF (i := 5 * r) (j := 1) (by omega) hL (sc_1 hF (i := 5 * r) (j := 2) (by omega) hL ⟨fun u => at_w hB hr h5 hL hK ⟨⟨fun _ => rfl, fun _ => u⟩, Or.inl rfl⟩, fun u => at_w hB hr h5 hL hK ⟨⟨fun w => absurd w u, fun w => absurd w (by decide)⟩, Or.inr rfl⟩⟩)
theorem cs_37 (hB : RB G σ x a oL oD sc L A xs r N M hg sg T U er wy dt) (hr : r < 24) (h5 : 5 * r + 5 ≤ L) (hL : L ≤ 120) (hK : ∀ z, RS G z x a oL oD sc L A xs (r + 1) → K28 (some sc, some x, some a, some oL, some oD, Int32.ofNat (5 * r) + 5, z)) : alI σ (some sc) 0 ((Int32.ofNat (5 * r)) + 1) (fun x359 => ((x359 = 0 → wL_lawb2423 G P PX K28 (some sc) (some x) (some a) (some oL) (some oD) (Int32.ofNat (5 * r)) (some x) 0 σ) ∧ (¬ x359 = 0 → wL_lawb2423 G P PX K28 (some sc) (some x) (some a) (some oL) (some oD) (Int32.ofNat (5 * r)) (some x) 1 σ))) := by
  obtain ⟨⟨hS, hz, hok⟩, hC, hMS, hF, hbd, hNT⟩ := id hB
  obtain ⟨hJ, n0, o0, A0, md0, es0, hLG, hO⟩ := cs_lg hC
  have hgo := hLG.ok
  have h12 := hgo.1.1
  have hbz : bd G σ 49000 := hbd.mono (by omega)
  have hc6 := hMS.1.2.1
  have h3 := hMS.1.1
  have hNX : ∀ z, RS G z x a oL oD sc L A xs (r + 1) → wL_lawb2581 G P PX K28 (some sc) (some x) (some a) (some oL) (some oD) (Int32.ofNat (5 * r)) z := fun z h => hK z h
  refine sc_1 hF (i := 5 * r) (j := 1) (by omega) hL ⟨fun u => rs_w hB hr h5 hL hK ⟨⟨fun _ => rfl, fun _ => u⟩, Or.inl rfl⟩, fun u => rs_w hB hr h5 hL hK ⟨⟨fun w => absurd w u, fun w => absurd w (by decide)⟩, Or.inr rfl⟩⟩
theorem cs_31 (hB : RB G σ x a oL oD sc L A xs r N M hg sg T U er wy dt) (hr : r < 24) (h5 : 5 * r + 5 ≤ L) (hL : L ≤ 120) (hK : ∀ z, RS G z x a oL oD sc L A xs (r + 1) → K28 (some sc, some x, some a, some oL, some oD, Int32.ofNat (5 * r) + 5, z)) : wX0_meanWear G (fun x310 z309 => (rcv z309 (some a) 4 ∧ wX5_meanWear G (fun x312 z311 => (rcv z311 (some a) 4 ∧ wX5_thrown G (fun x314 z313 => ((x314 = x310 → ((¬ x310 = 0 → wL_lawb2137 G P PX K28 (some sc) (some x) (some a) (some oL) (some oD) (Int32.ofNat (5 * r)) z313) ∧ (x310 = 0 → alD z313 (some oD) 0 (fun x315 => (((Op.cmpValue (FP.dcmp x315 x312) .l) = 0 → wL_lawb2137 G P PX K28 (some sc) (some x) (some a) (some oL) (some oD) (Int32.ofNat (5 * r)) z313) ∧ (¬ (Op.cmpValue (FP.dcmp x315 x312) .l) = 0 → alD z313 (some oD) 0 (fun x316 => alD z313 (some oD) 0 (fun x317 => (((Op.cmpValue (FP.dcmp x316 x317) .l) = 0 → wL_lawb2135 G P PX   z313) ∧ (¬ (Op.cmpValue (FP.dcmp x316 x317) .l) = 0 → ((¬ (Op.cmpValue (FP.dcmp x312 x312) .l) = 0 → wL_lawb2137 G P PX K28 (some sc) (some x) (some a) (some oL) (some oD) (Int32.ofNat (5 * r)) z313) ∧ ((Op.cmpValue (FP.dcmp x312 x312) .l) = 0 → wL_lawb2135 G P PX   z313)))))))))))) ∧ (¬ x314 = x310 → P 0 z313))) PX (some a)  z311)) PX (some a)  z309)) PX (some x) (some oD) σ := by
  obtain ⟨⟨hS, hz, hok⟩, hC, hMS, hF, hbd, hNT⟩ := id hB
  obtain ⟨hJ, n0, o0, A0, md0, es0, hLG, hO⟩ := cs_lg hC
  have hgo := hLG.ok
  have h12 := hgo.1.1
  have hbz : bd G σ 49000 := hbd.mono (by omega)
  have hc6 := hMS.1.2.1
  have h3 := hMS.1.1
  have hNX : ∀ z, RS G z x a oL oD sc L A xs (r + 1) → wL_lawb2581 G P PX K28 (some sc) (some x) (some a) (some oL) (some oD) (Int32.ofNat (5 * r)) z := fun z h => hK z h
  have hsum := sum_12 h12 hJ.1.2.1
  obtain ⟨s, hs, hsn⟩ := sN_fg (f := fun e => M.1 0 (42 + e)) (cnt (M.1 0)) (by omega) fun i hi => (hJ.1.2.2.1 i (by omega)).2.1
  have fl : M.1 0 0 ≠ 0 → vf_n64 (FP.ddiv (FP.i2d (sN (fun e => M.1 0 (42 + e)) (cnt (M.1 0)))) (FP.i2d (M.1 0 0))) ∧ Op.cmpValue (FP.dcmp (FP.ddiv (FP.i2d (sN (fun e => M.1 0 (42 + e)) (cnt (M.1 0)))) (FP.i2d (M.1 0 0))) (FP.ddiv (FP.i2d (sN (fun e => M.1 0 (42 + e)) (cnt (M.1 0)))) (FP.i2d (M.1 0 0)))) .l = 0 := by
    intro h0
    have hc : cnt (M.1 0) ≠ 0 := fun w => h0 (by rw [hgo.1.2, w]; rfl)
    have := fl_mean s (by omega) (cnt (M.1 0) - 1) (by omega)
    rw [show cnt (M.1 0) - 1 + 1 = cnt (M.1 0) by omega, ← hsn, ← hgo.1.2] at this
    exact this
  unfold wX0_meanWear wX0_meanWearb0
  refine ⟨hC.rc, q_mean hS hO hLG (hbz.mono (by omega)) (fun w τ e e1 he => ?_) fun w => ⟨(fl w).1, fun τ e1 => ?_⟩⟩
  · refine Or.inl ⟨rfl, ?_⟩
    unfold wX0_meanWearb10
    have hM := rb_mq hB hr e1 (by omega)
    rw [← hM.1.2.1]
    exact ⟨m_rcv, x_meanWear hok (fun _ => tail_d hM (fun w9 => absurd w9 (by decide)) m14_S (hNX _ (md_end hM (fun _ _ => rfl) (MS_14 hMS)))) fun u => absurd w u⟩
  · refine md_D (rb_mq hB hr e1 (by omega)) fun υ f hM hf hv => ?_
    rw [← hM.1.2.1]
    refine ⟨m_rcv, x_meanWear hok (fun u => absurd u w) fun _ => ?_⟩
    rw [hsum]
    exact ⟨(fl w).1, tail_d hM (fun _ => ⟨⟨f, hf, hv⟩, (fl w).2⟩) m14_S (hNX _ (md_end hM (fun _ _ => rfl) (MS_14 hMS)))⟩
theorem cs_32 (hB : RB G σ x a oL oD sc L A xs r N M hg sg T U er wy dt) (hr : r < 24) (h5 : 5 * r + 5 ≤ L) (hL : L ≤ 120) (hK : ∀ z, RS G z x a oL oD sc L A xs (r + 1) → K28 (some sc, some x, some a, some oL, some oD, Int32.ofNat (5 * r) + 5, z)) : wX0_believedShare G (fun x319 z318 => (rcv z318 (some a) 4 ∧ wX5_believedShare G (fun x321 z320 => (rcv z320 (some a) 4 ∧ wX5_thrown G (fun x323 z322 => ((x323 = x319 → ((¬ x319 = 0 → wL_lawb2203 G P PX K28 (some sc) (some x) (some a) (some oL) (some oD) (Int32.ofNat (5 * r)) z322) ∧ (x319 = 0 → alD z322 (some oD) 0 (fun x324 => (vf_n64 (FP.f2d x321) ∧ (((Op.cmpValue (FP.dcmp x324 (FP.f2d x321)) .l) = 0 → wL_lawb2203 G P PX K28 (some sc) (some x) (some a) (some oL) (some oD) (Int32.ofNat (5 * r)) z322) ∧ (¬ (Op.cmpValue (FP.dcmp x324 (FP.f2d x321)) .l) = 0 → alD z322 (some oD) 0 (fun x325 => alD z322 (some oD) 0 (fun x326 => (((Op.cmpValue (FP.dcmp x325 x326) .l) = 0 → wL_lawb2201 G P PX   z322) ∧ (¬ (Op.cmpValue (FP.dcmp x325 x326) .l) = 0 → ((¬ (Op.cmpValue (FP.fcmp x321 x321) .l) = 0 → wL_lawb2203 G P PX K28 (some sc) (some x) (some a) (some oL) (some oD) (Int32.ofNat (5 * r)) z322) ∧ ((Op.cmpValue (FP.fcmp x321 x321) .l) = 0 → wL_lawb2201 G P PX   z322))))))))))))) ∧ (¬ x323 = x319 → P 0 z322))) PX (some a)  z320)) PX (some a)  z318)) PX (some x) (some oD) σ := by
  obtain ⟨⟨hS, hz, hok⟩, hC, hMS, hF, hbd, hNT⟩ := id hB
  obtain ⟨hJ, n0, o0, A0, md0, es0, hLG, hO⟩ := cs_lg hC
  have hgo := hLG.ok
  have h12 := hgo.1.1
  have hbz : bd G σ 49000 := hbd.mono (by omega)
  have hc6 := hMS.1.2.1
  have h3 := hMS.1.1
  have hNX : ∀ z, RS G z x a oL oD sc L A xs (r + 1) → wL_lawb2581 G P PX K28 (some sc) (some x) (some a) (some oL) (some oD) (Int32.ofNat (5 * r)) z := fun z h => hK z h
  obtain ⟨u, v, -, hv1, -, hv2⟩ := hJ.1.2.2.2.2.2.2
  obtain ⟨w, hw1, hw2⟩ := hJ.2
  have hv3 := three (f := fun s => M.1 0 (135 + s)) hv1
  have hw3 := three (f := fun s => M.1 0 (138 + s)) hw1
  have fl : sumG (M.1 0) 135 3 ≠ 0 → vf_n32 (FP.fdiv (FP.i2f (sumG (M.1 0) 138 3)) (FP.i2f (sumG (M.1 0) 135 3))) ∧ vf_n64 (FP.f2d (FP.fdiv (FP.i2f (sumG (M.1 0) 138 3)) (FP.i2f (sumG (M.1 0) 135 3)))) ∧ Op.cmpValue (FP.dcmp (FP.f2d (FP.fdiv (FP.i2f (sumG (M.1 0) 138 3)) (FP.i2f (sumG (M.1 0) 135 3)))) (FP.f2d (FP.fdiv (FP.i2f (sumG (M.1 0) 138 3)) (FP.i2f (sumG (M.1 0) 135 3))))) .l = 0 := by
    intro h0
    have e1 : sumG (M.1 0) 135 3 = Int32.ofNat (v 0 + v 1 + v 2) := hv3
    have e2 : sumG (M.1 0) 138 3 = Int32.ofNat (w 0 + w 1 + w 2) := hw3
    have hc : v 0 + v 1 + v 2 ≠ 0 := fun q => h0 (by rw [e1, q]; rfl)
    have := fl_share (w 0 + w 1 + w 2) (by omega) (v 0 + v 1 + v 2 - 1) (by omega)
    rw [show v 0 + v 1 + v 2 - 1 + 1 = v 0 + v 1 + v 2 by omega, ← e1, ← e2] at this
    exact this
  unfold wX0_believedShare wX0_believedShareb0
  refine ⟨hC.rc, q_share hS hO hLG (hbz.mono (by omega)) (fun w τ e e1 he => ?_) fun w => ⟨(fl w).1, (fl w).2.1, ?_⟩⟩
  · refine Or.inl ⟨rfl, ?_⟩
    unfold wX0_believedShareb11
    have hM := rb_mq hB hr e1 (by omega)
    rw [← hM.1.2.1]
    exact ⟨m_rcv, x_believedShare hok (fun _ => tail_f hM (fun w9 => absurd w9 (by decide)) m14_S (hNX _ (md_end hM (fun _ _ => rfl) (MS_14 hMS)))) fun u => absurd w u⟩
  · refine md_D (rb_mq hB hr (ev.refl hS) (by omega)) fun υ f hM hf hv => ?_
    rw [← hM.1.2.1]
    exact ⟨m_rcv, x_believedShare hok (fun u => absurd u w) fun _ => ⟨(fl w).1, tail_f hM (fun _ => ⟨⟨f, hf, hv⟩, (fl w).2.2, (fl w).2.1⟩) m14_S (hNX _ (md_end hM (fun _ _ => rfl) (MS_14 hMS)))⟩⟩
end LC7
