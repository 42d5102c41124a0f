/-! the changes of a ledger: an excuse is used -/
set_option maxRecDepth 100000
/-- the dogs -/
def dgOK (g : Nat → Int32) : Prop := ∀ t, t < 10 → ∃ n, n ≤ 2 ∧ g (141 + t) = Int32.ofNat n
theorem use_eq {g : Nat → Int32} {p k t s e : Nat} {d is : Int32} (hp : p < 6) (hk : k < 4) (ht : t < 10) (hs : s < 3) (he : e < 12) : useG g p k t s e d is = gu (gu (gu (gu (gu (gu (gu (gu (gu g (151 + (s * 6 + p) * 4 + k) (g (151 + (s * 6 + p) * 4 + k) ||| (1 <<< (Int32.ofNat t &&& 31)))) (42 + e) (if g (42 + e) + d ≤ 9 then g (42 + e) + d else 9)) (141 + t) (g (141 + t) + (if k = 0 then 1 else 0))) (78 + e) (g (78 + e) + 1)) (90 + e) (g (90 + e) + is)) (120 + p) (g (120 + p) + 1)) (126 + p) (g (126 + p) + is)) (135 + s) (g (135 + s) + 1)) (138 + s) (g (138 + s) + is) := by
  unfold useG weaG
  simp (disch := omega) only [gu_n]
theorem lt9 {x : Int32} : (if x < 9 then x else 9) = if x ≤ 9 then x else 9 := by
  by_cases h : x < 9
  · rw [if_pos h, if_pos (by rw [Int32.lt_iff_toInt_lt] at h; rw [Int32.le_iff_toInt_le]; omega)]
  · rw [if_neg h]
    by_cases h2 : x ≤ 9
    · rw [if_pos h2]
      rw [Int32.lt_iff_toInt_lt] at h
      rw [Int32.le_iff_toInt_le] at h2
      apply Int32.toInt_inj.mp
      omega
    · rw [if_neg h2]
section USE
variable {G : gE} {σ : hSt} {PX : Nat → Nat → hSt → Prop} {P : Int32 → hSt → Prop} {n0 : Nat} {o A : Nat → Nat} {md : Int32} {es : List eT} {g : Nat → Int32}
theorem use_k {p k t s nm : Nat} (hS : SI G σ) (h : LG G σ n0 o A md es g) (hdg : dgOK g) (hn0 : n0 ≤ σ.2.1) (hb : bd G σ 6000) (hp : p < 6) (hk : k < 4) (ht : t < 10) (hs : s < 3) (hn : KY σ 5 nm (10 * k + t))
    (hR : ∀ r d τ q, sUse g p k t s (.inl (r, d)) → ev G W0 9 σ τ → RF τ q r d → PX 8 q τ)
    (hP : ∀ v g' τ o', sUse g p k t s (.inr (v, g')) → ev G (Wn n0) 3300 σ τ → LG G τ n0 o' A md es g' → P v τ) : wX2_use G P PX (some (A 0)) (Int32.ofNat p) (some nm) (Int32.ofNat s) σ := by
  have hb9 := hb.mono (m := 9) (by omega)
  have h12 := h.ok.1.1
  have hnc : σ.1 nm = some (.inr (5, nmC (10 * k + t))) := by
    rcases hn with ⟨-, -, w⟩ | ⟨w, -⟩ | ⟨w, -⟩
    · exact w
    · exact absurd w (by decide)
    · exact absurd w (by decide)
  have dv : (10 * k + t) / 10 = k ∧ (10 * k + t) % 10 = t := by omega
  unfold wX2_use wX2_useb0
  refine ⟨h.rc, excuse_k hS h hb9 hk ht hn (fun e he hxE => ?_) fun hno τ q e hq => hR 3 _ τ q (Or.inl ⟨hno, rfl⟩) e hq⟩
  obtain ⟨q, hq, hx, hxc, hxn⟩ := xq_of h he.1
  have hec := he.1
  obtain ⟨⟨hk4, hk'⟩, ⟨ht10, ht'⟩, -, hd6, hd'⟩ := h.ok.2 e hec
  have ekt : kOf g e = k ∧ tOf g e = t := by
    have a1 := hk'.symm.trans he.2.1
    have a2 := ht'.symm.trans he.2.2.1
    rw [i_eq (by omega) (by omega)] at a1 a2
    exact ⟨a1, a2⟩
  refine gI hxc (by decide) rfl ?_
  rw [hd', i_eq (by omega) (by omega)]
  unfold wX2_useb21
  refine ⟨fun w1 => gI hxc (by decide) rfl (refuse_k hS hb9 (fun _ => ⟨h.rc, ?_⟩) fun w => absurd rfl w), fun w1 => gI hxc (by decide) rfl (refuse_k hS hb9 (fun w => absurd w n10) fun _ τ q e1 hq => hR 4 _ τ q (Or.inr ⟨e, he, Or.inl ⟨w1, rfl⟩⟩) e1 hq)⟩
  have hov : ovw g e ↔ (10 * k + t) / 10 = 0 ∧ ¬ g (141 + (10 * k + t) % 10) ≤ 1 := by
    unfold ovw
    rw [dv.1, dv.2, ekt.2, hk', ekt.1, show (0 : Int32) = Int32.ofNat 0 from rfl, i_eq (by omega) (by omega)]
  have htop : ∀ {y : hSt} {K : Int32 → Prop}, y.1 nm = some (.inr (5, nmC (10 * k + t))) → K (Int32.ofNat t) → gtI y (some nm) [5] 1 K := fun hy hK => by
    have e1 : nmC (10 * k + t) = [.int (Int32.ofNat k), .int (Int32.ofNat t)] := by unfold nmC; rw [dv.1, dv.2]
    rw [e1] at hy
    exact gI hy (by decide) rfl hK
  have hkin : ∀ {y : hSt} {K : Int32 → Prop}, y.1 nm = some (.inr (5, nmC (10 * k + t))) → K (Int32.ofNat k) → gtI y (some nm) [5] 0 K := fun hy hK => by
    have e1 : nmC (10 * k + t) = [.int (Int32.ofNat k), .int (Int32.ofNat t)] := by unfold nmC; rw [dv.1, dv.2]
    rw [e1] at hy
    exact gI hy (by decide) rfl hK
  refine isOver_k hS h (by omega) hnc (fun u1 u2 => htop hnc (refuse_k hS hb9 (fun w => absurd w n10) fun _ τ q e1 hq => hR 5 _ τ q (Or.inr ⟨e, he, Or.inr ⟨w1, Or.inl ⟨hov.mpr ⟨u1, u2⟩, rfl⟩⟩⟩) e1 hq)) fun u => htop hnc (refuse_k hS hb9 (fun _ => ⟨h.rc, ?_⟩) fun w => absurd rfl w)
  have hno : ¬ ovw g e := fun w => u (hov.mp w)
  have hxE' : xE σ es g e (xa es e) := hxE
  -- once it is known whether it is believed
  have go : ∀ is τ, ((bel g p e s ∧ is = 1) ∨ (¬ bel g p e s ∧ is = 0)) → ev G W0 3 σ τ → gtR τ (some (A 0)) [1] 2 (fun x14 => alR τ x14 arL (Int32.ofNat s) (fun x15 => gtR τ x15 [2] 0 (fun x16 => nwO G τ 9 2 dfX10 (fun x17 z18 => (nnl (some x17) ∧ wX10_init G (fun z19 => (rcv z19 x16 14 ∧ wJ5_add G (fun x21 z20 => gtR z20 (some (A 0)) [1] 2 (fun x22 => alR z20 x22 arL (Int32.ofNat s) (fun x23 => gtI z20 x23 [2] 2 (fun x24 => ptV G z20 x23 [2] 2 (.int (x24 + 1)) (fun z25 => gtR z25 (some (A 0)) [1] 2 (fun x26 => alR z25 x26 arL (Int32.ofNat s) (fun x27 => gtI z25 x27 [2] 3 (fun x28 => ptV G z25 x27 [2] 3 (.int (x28 + is)) (fun z29 => gtR z29 (some (A 0)) [1] 3 (fun x30 => alR z29 x30 arL (Int32.ofNat p) (fun x31 => gtI z29 x31 [3] 1 (fun x32 => ptV G z29 x31 [3] 1 (.int (x32 + 1)) (fun z33 => gtR z33 (some (A 0)) [1] 3 (fun x34 => alR z33 x34 arL (Int32.ofNat p) (fun x35 => gtI z33 x35 [3] 2 (fun x36 => ptV G z33 x35 [3] 2 (.int (x36 + is)) (fun z37 => gtI z37 (some (xa es e)) [7] 5 (fun x38 => ptV G z37 (some (xa es e)) [7] 5 (.int (x38 + 1)) (fun z39 => gtI z39 (some (xa es e)) [7] 6 (fun x40 => ptV G z39 (some (xa es e)) [7] 6 (.int (x40 + is)) (fun z41 => gtI z41 (some (xa es e)) [7] 4 (fun x42 => (rcv z41 (some (A 0)) 1 ∧ wX2_isDefault G (fun x44 z43 => wX1_told G (fun x46 z45 => ptV G z45 (some (xa es e)) [7] 4 (.int (if ((x42 + 1) + x46) < 9 then ((x42 + 1) + x46) else 9)) (fun z47 => (rcv z47 (some nm) 5 ∧ wX6_isDog G (fun x49 z48 => ((x49 = 0 → wX2_useb224 G P PX is z48) ∧ (¬ x49 = 0 → gtR z48 (some (A 0)) [1] 1 (fun x50 => gtI z48 (some nm) [5] 1 (fun x51 => wJ31_valueOf G (fun x53 z52 => gtI z52 (some nm) [5] 1 (fun x54 => (rcv z52 (some (A 0)) 1 ∧ wX2_dog G (fun x56 z55 => wJ31_valueOf G (fun x58 z57 => (rcv z57 x50 12 ∧ wJ1_put G (fun x60 z59 => wX2_useb224 G P PX is z59) PX x50 x53 x58 z57)) PX (x56 + 1) z55) PX (some (A 0)) x54 z52))) PX x51 z48))))) PX (some nm) z47))) PX x44 z43) PX (some (A 0)) (some nm) z41))))))))))))))))))))))) PX x16 (some x17) z19)) PX (some x17) (some nm) (Int32.ofNat p) z18))))) := by
    intro is τ his e1
    have h1 := h.ev e1 W0_g
    have hn1 := e1.o hnc (fun w => w) (by decide) (by decide)
    refine h1.aS hs (gR (h1.sch hs) (by decide) rfl (nO e1.t (e1.rm hb (by omega)) (fun w => by omega) fun b τ2 n2 hX2 e2 => ⟨⟨b, rfl⟩, story_k e2.t hp (by omega) n2.2.1 (n2.o hn1) fun τ3 e3 hky => ?_⟩))
    have e23 : ev G W0 3 τ τ3 := (e2.f1 e3 (by rw [n2.1]; exact Nat.le_refl _)).le' (by omega)
    have e03 := e1.tr e23
    have h3 := h.ev e03 W0_g
    have hn3 := e03.o hnc (fun w => w) (by decide) (by decide)
    have hle3 := e03.le
    refine hea_k e3.t h3 (by omega) hs hp hk ht hky (e03.rm hb (by omega)) fun v τ4 o4 e4 h4 => ?_
    obtain ⟨g1, hg1⟩ : ∃ g1, g1 = heaG g s p k t := ⟨_, rfl⟩
    rw [← hg1] at h4
    have hn4 := e4.o hn3 (fun w => by have := w.2; unfold mkd at this; omega) (by decide) (by decide)
    -- the school
    refine h4.aS hs (gI (h4.sch hs) (by decide) rfl (pO e4.t (h4.sch hs) (by decide) (by simp) (by decide) fun τ5 w5 e5 => ?_))
    obtain ⟨g2, hg2⟩ : ∃ g2, g2 = gu g1 (135 + s) (g1 (135 + s) + 1) := ⟨_, rfl⟩
    have h5 := setS_ (g' := g2) hs h4 e5 (by rw [w5.1, hg2, gu_s, gu_n (by omega), gu_n (by omega)]; rfl) fun i _ i2 _ => by rw [hg2]; exact gu_n i2
    refine h5.aS hs (gI (h5.sch hs) (by decide) rfl (pO e5.t (h5.sch hs) (by decide) (by simp) (by decide) fun τ6 w6 e6 => ?_))
    obtain ⟨g3, hg3⟩ : ∃ g3, g3 = gu g2 (138 + s) (g2 (138 + s) + is) := ⟨_, rfl⟩
    have h6 := setS_ (g' := g3) hs h5 e6 (by rw [w6.1, hg3, gu_s, gu_n (by omega), gu_n (by omega)]; rfl) fun i _ _ i3 => by rw [hg3]; exact gu_n i3
    -- the pupil
    refine h6.aP hp (gI (h6.pup hp) (by decide) rfl (pO e6.t (h6.pup hp) (by decide) (by simp) (by decide) fun τ7 w7 e7 => ?_))
    obtain ⟨g4, hg4⟩ : ∃ g4, g4 = gu g3 (120 + p) (g3 (120 + p) + 1) := ⟨_, rfl⟩
    have h7 := setP_ (g' := g4) hp h6 e7 (by rw [w7.1, hg4, gu_s, gu_n (by omega), gu_n (by omega)]; rfl) fun i _ i2 _ => by rw [hg4]; exact gu_n i2
    refine h7.aP hp (gI (h7.pup hp) (by decide) rfl (pO e7.t (h7.pup hp) (by decide) (by simp) (by decide) fun τ8 w8 e8 => ?_))
    obtain ⟨g5, hg5⟩ : ∃ g5, g5 = gu g4 (126 + p) (g4 (126 + p) + is) := ⟨_, rfl⟩
    have h8 := setP_ (g' := g5) hp h7 e8 (by rw [w8.1, hg5, gu_s, gu_n (by omega), gu_n (by omega)]; rfl) fun i _ _ i3 => by rw [hg5]; exact gu_n i3
    -- the excuse
    obtain ⟨-, x8, hx8, -, hxc8⟩ := h8.exc hq
    rw [hx] at hx8
    cases hx8
    refine gI hxc8 (by decide) rfl (pO e8.t hxc8 (by decide) (by simp) (by decide) fun τ9 w9 e9 => ?_)
    obtain ⟨g6, hg6⟩ : ∃ g6, g6 = gu g5 (78 + e) (g5 (78 + e) + 1) := ⟨_, rfl⟩
    have h9 := setX_ (g' := g6) h8 hq hx e9 (by
      rw [w9.1, hg6]
      unfold excF
      simp (disch := omega) only [gu_s, gu_n]
      rfl) (fun i hi => by rw [hg6]; exact gu_n (by omega)) (ok_congr h8.ok fun i hi => by rw [hg6]; exact gu_n (by omega))
    obtain ⟨-, x9, hx9, -, hxc9⟩ := h9.exc hq
    rw [hx] at hx9
    cases hx9
    refine gI hxc9 (by decide) rfl (pO e9.t hxc9 (by decide) (by simp) (by decide) fun τA wA eA => ?_)
    obtain ⟨g7, hg7⟩ : ∃ g7, g7 = gu g6 (90 + e) (g6 (90 + e) + is) := ⟨_, rfl⟩
    have hA := setX_ (g' := g7) h9 hq hx eA (by
      rw [wA.1, hg7]
      unfold excF
      simp (disch := omega) only [gu_s, gu_n]
      rfl) (fun i hi => by rw [hg7]; exact gu_n (by omega)) (ok_congr h9.ok fun i hi => by rw [hg7]; exact gu_n (by omega))
    obtain ⟨-, xA, hxA, -, hxcA⟩ := hA.exc hq
    rw [hx] at hxA
    cases hxA
    have e4A : ev G (fun b kk => n0 ≤ b ∧ (kk ≠ 5 ∧ kk ≠ 19)) 0 τ4 τA := by
      have a1 : ∀ {z z' : hSt} {y kk : Nat}, n0 ≤ y → (kk ≠ 5 ∧ kk ≠ 19) → ev G (W1 y kk) 0 z z' → ev G (fun b kk => n0 ≤ b ∧ (kk ≠ 5 ∧ kk ≠ 19)) 0 z z' := fun hy hkk ee => ee.mono (fun b k2 _ w => ⟨by rw [w.1]; exact hy, by rw [w.2]; exact hkk⟩) (Nat.le_refl _)
      exact (a1 (h.An (by omega)) (by omega) e5).tr ((a1 (h.An (by omega)) (by omega) e6).tr ((a1 (h.An (by omega)) (by omega) e7).tr ((a1 (h.An (by omega)) (by omega) e8).tr ((a1 hxn (by omega) e9).tr (a1 hxn (by omega) eA)))))
    have hnA := e4A.o hn4 (fun w => w.2.1 rfl) (by decide) (by decide)
    have eσA : ev G (Wn n0) 1610 σ τA := (((e03.up0 (W := Wn n0)).tr (e4.wn (n0 := n0) (fun a k w => ⟨w.1.2, mkd_19 w.2⟩) (Nat.le_refl _))).tr (e4A.wn (n0 := n0) (fun a k w => ⟨w.1, w.2.2⟩) (Nat.le_refl _))).le' (by omega)
    have r7 : ∀ i, i ≠ 90 + e → g7 i = g6 i := fun i hi => by rw [hg7]; exact gu_n hi
    have r6 : ∀ i, i ≠ 78 + e → g6 i = g5 i := fun i hi => by rw [hg6]; exact gu_n hi
    have r5 : ∀ i, i ≠ 126 + p → g5 i = g4 i := fun i hi => by rw [hg5]; exact gu_n hi
    have r4 : ∀ i, i ≠ 120 + p → g4 i = g3 i := fun i hi => by rw [hg4]; exact gu_n hi
    have r3 : ∀ i, i ≠ 138 + s → g3 i = g2 i := fun i hi => by rw [hg3]; exact gu_n hi
    have r2 : ∀ i, i ≠ 135 + s → g2 i = g1 i := fun i hi => by rw [hg2]; exact gu_n hi
    have r1 : ∀ i, i ≠ 151 + (s * 6 + p) * 4 + k → g1 i = g i := fun i hi => by rw [hg1]; exact gu_n hi
    have t2 : g7 2 = g 2 := by rw [r7 _ (by omega), r6 _ (by omega), r5 _ (by omega), r4 _ (by omega), r3 _ (by omega), r2 _ (by omega), r1 _ (by omega)]
    have t42 : g7 (42 + e) = g (42 + e) := by rw [r7 _ (by omega), r6 _ (by omega), r5 _ (by omega), r4 _ (by omega), r3 _ (by omega), r2 _ (by omega), r1 _ (by omega)]
    have t141 : g7 (141 + t) = g (141 + t) := by rw [r7 _ (by omega), r6 _ (by omega), r5 _ (by omega), r4 _ (by omega), r3 _ (by omega), r2 _ (by omega), r1 _ (by omega)]
    -- the wear, the dog
    have fin : ∀ (d wv : Int32), ((tim g e ∧ d = 1) ∨ (¬ tim g e ∧ d = 2)) → wv = (if g (42 + e) + d ≤ 9 then g (42 + e) + d else 9) → ptV G τA (some (xa es e)) [7] 4 (.int wv) (fun z47 => (rcv z47 (some nm) 5 ∧ wX6_isDog G (fun x49 z48 => ((x49 = 0 → wX2_useb224 G P PX is z48) ∧ (¬ x49 = 0 → gtR z48 (some (A 0)) [1] 1 (fun x50 => gtI z48 (some nm) [5] 1 (fun x51 => wJ31_valueOf G (fun x53 z52 => gtI z52 (some nm) [5] 1 (fun x54 => (rcv z52 (some (A 0)) 1 ∧ wX2_dog G (fun x56 z55 => wJ31_valueOf G (fun x58 z57 => (rcv z57 x50 12 ∧ wJ1_put G (fun x60 z59 => wX2_useb224 G P PX is z59) PX x50 x53 x58 z57)) PX (x56 + 1) z55) PX (some (A 0)) x54 z52))) PX x51 z48))))) PX (some nm) z47)) := by
      intro d wv hdd hwv
      refine pO eA.t hxcA (by decide) (by simp) (by decide) fun τB wB eB => ?_
      obtain ⟨g8, hg8⟩ : ∃ g8, g8 = gu g7 (42 + e) wv := ⟨_, rfl⟩
      have hB := setX_ (g' := g8) hA hq hx eB (by
        rw [wB.1, hg8]
        unfold excF
        simp (disch := omega) only [gu_s, gu_n]
        rfl) (fun i hi => by rw [hg8]; exact gu_n (by omega)) (ok_congr hA.ok fun i hi => by rw [hg8]; exact gu_n (by omega))
      have hnB := eB.o hnA (fun w => kne hnA hxcA (by omega) w.1) (by decide) (by decide)
      have eσB : ev G (Wn n0) 1610 σ τB := (eσA.tr (eB.w1n hxn (Nat.le_refl _))).le' (by omega)
      have r8 : ∀ i, i ≠ 42 + e → g8 i = g7 i := fun i hi => by rw [hg8]; exact gu_n hi
      have hend : ∀ gd : Nat → Int32, (∀ i, i ≠ 141 + t → gd i = g8 i) → gd (141 + t) = g (141 + t) + (if k = 0 then 1 else 0) → gd = useG g p k t s e d is := by
        intro gd a1 a2
        rw [use_eq hp hk ht hs (by omega)]
        funext i
        by_cases c1 : i = 138 + s
        · subst c1
          rw [gu_s, a1 _ (by omega), r8 _ (by omega), r7 _ (by omega), r6 _ (by omega), r5 _ (by omega), r4 _ (by omega), hg3, gu_s, r2 _ (by omega), r1 _ (by omega)]
        rw [gu_n c1]
        by_cases c2 : i = 135 + s
        · subst c2
          rw [gu_s, a1 _ (by omega), r8 _ (by omega), r7 _ (by omega), r6 _ (by omega), r5 _ (by omega), r4 _ (by omega), r3 _ (by omega), hg2, gu_s, r1 _ (by omega)]
        rw [gu_n c2]
        by_cases c3 : i = 126 + p
        · subst c3
          rw [gu_s, a1 _ (by omega), r8 _ (by omega), r7 _ (by omega), r6 _ (by omega), hg5, gu_s, r4 _ (by omega), r3 _ (by omega), r2 _ (by omega), r1 _ (by omega)]
        rw [gu_n c3]
        by_cases c4 : i = 120 + p
        · subst c4
          rw [gu_s, a1 _ (by omega), r8 _ (by omega), r7 _ (by omega), r6 _ (by omega), r5 _ (by omega), hg4, gu_s, r3 _ (by omega), r2 _ (by omega), r1 _ (by omega)]
        rw [gu_n c4]
        by_cases c5 : i = 90 + e
        · subst c5
          rw [gu_s, a1 _ (by omega), r8 _ (by omega), hg7, gu_s, r6 _ (by omega), r5 _ (by omega), r4 _ (by omega), r3 _ (by omega), r2 _ (by omega), r1 _ (by omega)]
        rw [gu_n c5]
        by_cases c6 : i = 78 + e
        · subst c6
          rw [gu_s, a1 _ (by omega), r8 _ (by omega), r7 _ (by omega), hg6, gu_s, r5 _ (by omega), r4 _ (by omega), r3 _ (by omega), r2 _ (by omega), r1 _ (by omega)]
        rw [gu_n c6]
        by_cases c7 : i = 141 + t
        · subst c7
          rw [gu_s, a2]
        rw [gu_n c7, a1 _ c7]
        by_cases c8 : i = 42 + e
        · subst c8
          rw [gu_s, hg8, gu_s, hwv]
        rw [gu_n c8, r8 _ c8, r7 _ c5, r6 _ c6, r5 _ c3, r4 _ c4, r3 _ c1, r2 _ c2, hg1]
      have hsU : sUse g p k t s (.inr (is, useG g p k t s e d is)) := Or.inr ⟨e, he, Or.inr ⟨w1, Or.inr ⟨hno, d, is, hdd, his, rfl⟩⟩⟩
      have t8 : g8 (141 + t) = g (141 + t) := by rw [r8 _ (by omega), t141]
      unfold wX6_isDog wX6_isDogb0
      refine ⟨rco hnB, hkin hnB ?_⟩
      rw [show (0 : Int32) = Int32.ofNat 0 from rfl, i_eq (by omega) (by omega)]
      refine ⟨fun wk => ⟨ok_b0, fun _ => ?_, fun w => absurd rfl w⟩, fun wk => ⟨ok_b1, fun w => absurd w (by decide), fun _ => gR hB.L (by decide) (by rfl) (htop hnB (vo_k eB.t (by omega) fun hky1 _ => htop hnB ⟨hB.rc, dog_k eB.t hB ht ?_⟩))⟩⟩
      · unfold wX2_useb224
        refine hP _ _ τB o4 hsU (eσB.le' (by omega)) ?_
        rw [← hend g8 (fun _ _ => rfl) (by rw [t8, if_neg wk, Int32.add_zero])]
        exact hB
      · obtain ⟨n, hn2, hdn⟩ := hdg t ht
        have hle := eσB.le
        rw [t8, hdn, i_succ]
        refine vo_k eB.t (by omega) fun _ _ => dput_k eB.t hB (by omega) ht (by omega) (eσB.rm hb (by omega)) fun r τC oC eC hC => ?_
        unfold wX2_useb224
        refine hP _ _ τC oC hsU ((eσB.tr (eC.wn (n0 := n0) (fun a k w => ⟨w.1.2, mkd_19 w.2⟩) (Nat.le_refl _))).le' (by omega)) ?_
        rw [← hend (gu g8 (141 + t) (Int32.ofNat (n + 1))) (fun i hi => gu_n hi) (by rw [gu_s, if_pos wk, hdn, i_succ])]
        exact hC
    have htim : ∀ (P0 : Prop), (10 * k + t) / 10 = 1 ∧ g7 2 ≠ Int32.ofNat ((10 * k + t) % 10) + 1 ↔ ¬ tim g e := fun _ => by
      unfold tim
      rw [dv.1, dv.2, t2, hk', ht', ekt.1, ekt.2, show (1 : Int32) = Int32.ofNat 1 from rfl, i_eq (by omega) (by omega)]
      constructor
      · rintro ⟨a1, a2⟩ (a3 | a3)
        · exact a3 a1
        · exact a2 a3
      · intro a
        exact ⟨Classical.byContradiction fun b => a (Or.inl b), fun b => a (Or.inr b)⟩
    refine gI hxcA (by decide) rfl ⟨hA.rc, isDef_k hA (by omega) hnA (fun a1 a2 => told_k (fun _ => fin 2 _ (Or.inr ⟨(htim True).mp ⟨a1, a2⟩, rfl⟩) ?_) fun w => absurd w n10) fun a => told_k (fun w => absurd rfl w) fun _ => fin 1 _ (Or.inl ⟨Classical.byContradiction fun b => a ((htim True).mpr b), rfl⟩) ?_⟩
    · rw [t42, Int32.add_assoc, show (1 : Int32) + 1 = 2 from rfl, lt9]
    · rw [t42, Int32.add_zero, lt9]
  exact would_k hS h hp hs hxE' (hb.mono (by omega)) (fun w τ e1 => told_k (fun _ => go 1 τ (Or.inl ⟨w, rfl⟩) e1) fun w => absurd w n10) fun w τ e1 => told_k (fun w => absurd rfl w) fun _ => go 0 τ (Or.inr ⟨w, rfl⟩) e1
end USE
