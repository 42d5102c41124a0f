/-! the model's orders: lend, use, the day's end; what is kept -/
set_option maxRecDepth 100000
section MO
variable {G : gE} {z : hSt} {a : Nat} {A : Nat → Nat} {M : mSt} {g : Nat → Int32} {PX : Nat → Nat → hSt → Prop} {P : Int32 → hSt → Prop}
theorem x_lends (h : mOK G a A) (hg : gOK g) {k t v q : Int32} (f1 : ¬ (isX k t ∧ isE q) → P 0 (mz z a A (setG (mF M 1) g))) (f2 : isX k t → isE q → ¬ isP v → P 0 (mz z a A (setG (mF M 2) g))) (hk : isX k t → isE q → ∀ to : Nat, v = Int32.ofNat to → to < 6 → ∀ o, sLend g k t to q o → mO P z a A M g 3 o) : wX5_lends G P PX (some a) k t v q (mz z a A (setG M g)) := by
  have hc := hg.1.1
  unfold wX5_lends wX5_lendsb0 wX5_lendsb19
  simp only [x_isExcuse, x_in, x_isPupil, br_0, br_1, m_rc, true_and, y_fails h]
  refine ⟨fun c1 => f1 fun w => c1 w.1, fun c1 => ⟨fun c2 => ⟨fun c3 => ?_, fun c3 => f2 c1 c2 c3⟩, fun c2 => f1 fun w => c2 w.2⟩⟩
  obtain ⟨to, hto, rfl⟩ := i_of (n := 5) c3.1 c3.2 (by omega)
  have hk := hk c1 c2 to rfl (by omega)
  refine x_placeOf h hg (fun e he => ?_) (fun hn => ?_)
  · have he12 : e < 12 := Nat.lt_of_lt_of_le he.1 hc
    obtain ⟨-, -, ⟨ho1, ho2⟩, -⟩ := hg.2 e he.1
    refine ⟨fun _ => ?_, fun q9 => absurd q9 (ofNat_ne_neg (by omega))⟩
    simp (disch := omega) only [m_g0, m_a0 h, ix102, ix66, ix54, i_nat, iv, setG_0, true_and, m_rc, y_refused h]
    refine ⟨fun w1 => ?_, fun w1 => hk _ (Or.inr ⟨e, he, Or.inl ⟨w1, rfl⟩⟩)⟩
    rw [ho2]
    simp (disch := omega) only [i_eq, m_g0, m_a0 h, m_s0 h, ix102, ix66, ix114, it4, iz4, i_nat, iv, setG_0, true_and, m_rc, y_refused h, y_done h, upA_setG, nar_i]
    refine ⟨fun w2 => ?_, fun w2 => hk _ (Or.inr ⟨e, he, Or.inr ⟨w1, Or.inl ⟨w2, rfl⟩⟩⟩)⟩
    refine ⟨fun w3 => ?_, fun w3 => hk _ (Or.inr ⟨e, he, Or.inr ⟨w1, Or.inr ⟨w2, Or.inl ⟨w3, rfl⟩⟩⟩⟩)⟩
    have hfin := hk _ (Or.inr ⟨e, he, Or.inr ⟨w1, Or.inr ⟨w2, Or.inr ⟨w3, rfl⟩⟩⟩⟩)
    have e1 : gu g (114 + to) (g (114 + to) - q) (114 + oOf g e) = g (114 + oOf g e) := gu_n (by omega)
    have e4 : gu (gu (gu (gu g (114 + to) (g (114 + to) - q)) (114 + oOf g e) (g (114 + oOf g e) + q)) (66 + e) (Int32.ofNat to)) (102 + e) 1 4 = g 4 := by rw [gu_n (by omega), gu_n (by omega), gu_n (by omega), gu_n (by omega)]
    have e5 : lenG g e to (oOf g e) q (114 + oOf g e) = g (114 + oOf g e) + q := by
      unfold lenG
      rw [gu_n (by omega), gu_n (by omega), gu_n (by omega), gu_s]
    rw [e1, e4]
    show P (lenG g e to (oOf g e) q (114 + oOf g e)) _
    rw [e5]
    exact hfin
  · refine ⟨fun q9 => absurd rfl q9, fun _ => ?_⟩
    simp (disch := omega) only [m_g0, m_a0 h, it0, iz0, setG_0, true_and, m_rc, y_refused h]
    exact hk _ (Or.inl ⟨hn, rfl⟩)
theorem x_wears (h : mOK G a A) {e : Nat} (he : e < 12) {P : hSt → Prop} (h1 : tim g e → P (mz z a A (setG M (weaG g e 1)))) (h2 : ¬ tim g e → P (mz z a A (setG M (weaG g e 2)))) : wX5_wears G P PX (some a) (Int32.ofNat e) (mz z a A (setG M g)) := by
  unfold wX5_wears wX5_wearsb0 wX5_wearsb22 wX5_wearsb44
  have e0 : ∀ {d : Int32}, P (mz z a A (setG M (weaG g e d))) → ((g (42 + e) + d ≤ 9 → P (mz z a A (setG M (gu g (42 + e) (g (42 + e) + d))))) ∧ (¬ g (42 + e) + d ≤ 9 → P (mz z a A (setG M (gu g (42 + e) 9))))) := by
    intro d hd
    unfold weaG at hd
    exact ⟨fun q => by rw [if_pos q] at hd; exact hd, fun q => by rw [if_neg q] at hd; exact hd⟩
  simp (disch := omega) only [m_g0, m_a0 h, m_s0 h, ix42, i_nat, iv, setG_0, true_and, m_rc, x_isTimely h he, upA_setG, nar_i]
  refine ⟨fun q => ⟨fun w => absurd w (by decide), fun _ => e0 (h1 q)⟩, fun q => ⟨fun _ => e0 (h2 q), fun w => absurd trivial w⟩⟩
theorem x_uses (h : mOK G a A) (hg : gOK g) {v k t w : Int32} (f1 : ¬ (isP v ∧ isS w) → P 0 (mz z a A (setG (mF M 1) g))) (f2 : isP v → isS w → ¬ isX k t → P 0 (mz z a A (setG (mF M 2) g))) (hk : ∀ p k' t' s : Nat, v = Int32.ofNat p → p < 6 → k = Int32.ofNat k' → k' < 4 → t = Int32.ofNat t' → t' < 10 → w = Int32.ofNat s → s < 3 → ∀ o, sUse g p k' t' s o → mO P z a A M g 3 o) : wX5_uses G P PX (some a) v k t w (mz z a A (setG M g)) := by
  have hc := hg.1.1
  unfold wX5_uses wX5_usesb0 wX5_usesb15
  simp only [x_isExcuse, x_in, x_isPupil, x_isSchool, br_0, br_1, m_rc, true_and, y_fails h]
  refine ⟨fun c1 => f1 fun w => c1 w.1, fun c1 => ⟨fun c2 => ⟨fun c3 => ?_, fun c3 => f2 c1 c2 c3⟩, fun c2 => f1 fun w => c2 w.2⟩⟩
  obtain ⟨p, hp, rfl⟩ := i_of (n := 5) c1.1 c1.2 (by omega)
  obtain ⟨s, hs, rfl⟩ := i_of (n := 2) c2.1 c2.2 (by omega)
  obtain ⟨k', hk', rfl⟩ := i_of (n := 3) c3.1.1 c3.1.2 (by omega)
  obtain ⟨t', ht', rfl⟩ := i_of (n := 9) c3.2.1 c3.2.2 (by omega)
  have hk := hk p k' t' s rfl (by omega) rfl (by omega) rfl (by omega) rfl (by omega)
  refine x_placeOf h hg (fun e he => ?_) (fun hn => ?_)
  · have he12 : e < 12 := Nat.lt_of_lt_of_le he.1 hc
    obtain ⟨-, -, -, hd1, hd2⟩ := hg.2 e he.1
    refine ⟨fun _ => ?_, fun q9 => absurd q9 (ofNat_ne_neg (by omega))⟩
    simp (disch := omega) only [m_g0, m_a0 h, ix66, i_nat, iv, setG_0, true_and, m_rc, y_refused h]
    rw [hd2, i_eq (by omega) (by omega)]
    refine ⟨fun w1 => ?_, fun w1 => ?_⟩
    · rw [x_isOverworked h (show gOK (setG M g |>.1 0) from hg) he.1]
      refine ⟨fun w2 => ⟨fun q => absurd q (by decide), fun _ => ?_⟩, fun w2 => ⟨fun _ => ?_, fun q => absurd rfl q⟩⟩
      · simp only [m_rc, true_and, y_refused h]
        exact hk _ (Or.inr ⟨e, he, Or.inr ⟨w1, Or.inl ⟨w2, rfl⟩⟩⟩)
      · simp only [m_rc, true_and]
        have key : ∀ is : Int32, ((bel g p e s ∧ is = 1) ∨ (¬ bel g p e s ∧ is = 0)) → wX5_usesb127 G P PX (some a) (Int32.ofNat p) (Int32.ofNat k') (Int32.ofNat t') (Int32.ofNat s) (Int32.ofNat e) is (mz z a A (setG M g)) := by
          intro is his
          have hz : ∀ d : Int32, ((tim g e ∧ d = 1) ∨ (¬ tim g e ∧ d = 2)) → mO P z a A M g 3 (.inr (is, useG g p k' t' s e d is)) := fun d hd => hk _ (Or.inr ⟨e, he, Or.inr ⟨w1, Or.inr ⟨w2, d, is, hd, his, rfl⟩⟩⟩)
          unfold wX5_usesb127
          simp (disch := omega) only [m_g0, x_heardAt, m_a0 h, m_s0 h, i_nat, iv, setG_0, true_and, upA_setG, nar_i, m_rc]
          generalize hg1 : gu g (151 + (s * 6 + p) * 4 + k') (g (151 + (s * 6 + p) * 4 + k') ||| (1 <<< (Int32.ofNat t' &&& 31))) = g1
          have ht1 : tim g1 e ↔ tim g e := by
            rw [← hg1]
            unfold tim
            rw [gu_n (by omega), gu_n (by omega), gu_n (by omega)]
          have fin : ∀ d : Int32, mO P z a A M g 3 (.inr (is, useG g p k' t' s e d is)) → (wX5_usesb173 G P PX (some a) (Int32.ofNat p) (Int32.ofNat s) (Int32.ofNat e) is (some (A 0)) (141 + Int32.ofNat t') (weaG g1 e d (141 + t')) (if k' = 0 then 1 else 0) (mz z a A (setG M (weaG g1 e d)))) := by
            intro d hd
            unfold wX5_usesb173
            simp (disch := omega) only [m_g0, m_a0 h, m_s0 h, ix141, ix78, ix90, ix120, ix126, ix135, ix138, i_nat, iv, setG_0, true_and, upA_setG, nar_i, m_rc, y_done h]
            rw [← hg1]
            exact hd
          have fin2 : ∀ d : Int32, mO P z a A M g 3 (.inr (is, useG g p k' t' s e d is)) → ((¬ Int32.ofNat k' = 0 → wX5_usesb173 G P PX (some a) (Int32.ofNat p) (Int32.ofNat s) (Int32.ofNat e) is (some (A 0)) (141 + Int32.ofNat t') (weaG g1 e d (141 + t')) 0 (mz z a A (setG M (weaG g1 e d)))) ∧ (Int32.ofNat k' = 0 → wX5_usesb173 G P PX (some a) (Int32.ofNat p) (Int32.ofNat s) (Int32.ofNat e) is (some (A 0)) (141 + Int32.ofNat t') (weaG g1 e d (141 + t')) 1 (mz z a A (setG M (weaG g1 e d))))) := by
            intro d hd
            have h0 : (Int32.ofNat k' = 0) ↔ k' = 0 := i_eq (a := k') (b := 0) (by omega) (by omega)
            have h1 := fin d hd
            refine ⟨fun q => ?_, fun q => ?_⟩
            · rw [if_neg (fun w => q (h0.mpr w))] at h1
              exact h1
            · rw [if_pos (h0.mp q)] at h1
              exact h1
          refine x_wears h he12 (fun q => ?_) (fun q => ?_)
          · simp (disch := omega) only [m_g0, m_a0 h, ix141, i_nat, iv, setG_0, true_and]
            simpa (disch := omega) only [ix141] using fin2 1 (hz 1 (Or.inl ⟨ht1.mp q, rfl⟩))
          · simp (disch := omega) only [m_g0, m_a0 h, ix141, i_nat, iv, setG_0, true_and]
            simpa (disch := omega) only [ix141] using fin2 2 (hz 2 (Or.inr ⟨fun w => q (ht1.mpr w), rfl⟩))
        rw [x_isBelieved h (show gOK (setG M g |>.1 0) from hg) (by omega) he.1 (by omega)]
        exact ⟨fun w3 => ⟨fun q => absurd q (by decide), fun _ => key 1 (Or.inl ⟨w3, rfl⟩)⟩, fun w3 => ⟨fun _ => key 0 (Or.inr ⟨w3, rfl⟩), fun q => absurd rfl q⟩⟩
    · have hfin := hk _ (Or.inr ⟨e, he, Or.inl ⟨w1, rfl⟩⟩)
      rw [hd2] at hfin
      exact hfin
  · refine ⟨fun q9 => absurd rfl q9, fun _ => ?_⟩
    simp (disch := omega) only [m_g0, m_a0 h, it0, iz0, setG_0, true_and, m_rc, y_refused h]
    exact hk _ (Or.inl ⟨hn, rfl⟩)
theorem x_paysLate (h : mOK G a A) {p : Nat} (hp : p < 6) {P : hSt → Prop} (hP : P (mz z a A (setG M (payG g p)))) : wX5_paysLate G P PX (some a) (Int32.ofNat p) (mz z a A (setG M g)) := by
  unfold wX5_paysLate wX5_paysLateb0 wX5_paysLateb26
  unfold payG at hP
  have e3 : ∀ c : Int32, gu g (114 + p) c 3 = g 3 := fun c => gu_n (by omega)
  simp (disch := omega) only [m_g0, m_a0 h, m_s0 h, ix114, it3, iz3, i_nat, iv, setG_0, true_and, upA_setG, nar_i, e3]
  exact ⟨fun q => by rw [if_pos q] at hP; exact hP, fun q => by rw [if_neg q] at hP; exact hP⟩
theorem dOf_mk {g' : Nat → Int32} {j x : Nat} (h : g' (66 + j) = Int32.ofNat x) (hx : x < 6) : dOf g' j < 6 ∧ g' (66 + j) = Int32.ofNat (dOf g' j) := by
  have e : dOf g' j = x := by unfold dOf; rw [h, i_nat (by omega)]
  rw [e]
  exact ⟨hx, h⟩
theorem dogG_s {g : Nat → Int32} {n : Nat} : gu (dogG g n) (141 + n) 0 = dogG g (n + 1) := by
  funext i
  by_cases hi : i = 141 + n
  · subst hi
    rw [gu_s]
    unfold dogG
    rw [if_pos (by omega)]
  · rw [gu_n hi]
    unfold dogG
    exact ifc ⟨fun q => by omega, fun q => by omega⟩
theorem dogG_0 {g : Nat → Int32} : dogG g 0 = g := by
  funext i
  unfold dogG
  rw [if_neg (by omega)]
/-- what a day doesn't change -/
def dayK (g g' : Nat → Int32) : Prop := ∀ i, (i = 0 ∨ (6 ≤ i ∧ i < 66) ∨ (78 ≤ i ∧ i < 102)) → g' i = g i
theorem cnt_eq {g g' : Nat → Int32} (h : g' 0 = g 0) : cnt g' = cnt g := by unfold cnt; rw [h]
theorem dayE_K {g : Nat → Int32} (hg : gOK g) {p : (Nat → Int32) × Int32} {e : Nat} (he : e < cnt g) (hk : dayK g p.1) (hd : ∀ j, j < cnt g → dOf p.1 j < 6 ∧ p.1 (66 + j) = Int32.ofNat (dOf p.1 j)) : dayK g (dayE p e).1 ∧ ∀ j, j < cnt g → dOf (dayE p e).1 j < 6 ∧ (dayE p e).1 (66 + j) = Int32.ofNat (dOf (dayE p e).1 j) := by
  have hc := hg.1.1
  have hd1 := hd e he
  have hag : ∀ i, i ≠ 102 + e → agG p.1 e i = p.1 i := fun i hi => gu_n hi
  have hdg : dOf (agG p.1 e) e = dOf p.1 e := by unfold dOf; rw [hag _ (by omega)]
  unfold dayE
  by_cases h4 : agG p.1 e (102 + e) = 4
  · rw [if_pos h4]
    dsimp only
    rw [hdg]
    have hb : ∀ i, i ≠ 66 + e → i ≠ 102 + e → i ≠ 3 → i ≠ 114 + dOf p.1 e → bakG (payG (agG p.1 e) (dOf p.1 e)) e i = p.1 i := by
      intro i h1 h2 h3 h5
      unfold bakG
      rw [gu_n h2, gu_n h1]
      unfold payG
      rw [gu_n h3, gu_n h5, hag i h2]
    have hb2 : bakG (payG (agG p.1 e) (dOf p.1 e)) e (66 + e) = p.1 (54 + e) := by
      unfold bakG
      rw [gu_n (by omega), gu_s]
      unfold payG
      rw [gu_n (by omega), gu_n (by omega), hag _ (by omega)]
    refine ⟨fun i hi => by rw [hb i (by omega) (by omega) (by omega) (by omega)]; exact hk i hi, fun j hj => ?_⟩
    by_cases hje : j = e
    · subst hje
      obtain ⟨-, -, ⟨o1, o2⟩, -⟩ := hg.2 j hj
      have e1 : p.1 (54 + j) = Int32.ofNat (oOf g j) := by rw [hk _ (by omega)]; exact o2
      exact dOf_mk (hb2.trans e1) o1
    · have e1 := hb (66 + j) (by omega) (by omega) (by omega) (by omega)
      exact dOf_mk (e1.trans (hd j hj).2) (hd j hj).1
  · rw [if_neg h4]
    refine ⟨fun i hi => (hag i (by omega)).trans (hk i hi), fun j hj => ?_⟩
    exact dOf_mk ((hag _ (by omega)).trans (hd j hj).2) (hd j hj).1
theorem day0_K {g : Nat → Int32} (hg : gOK g) : dayK g (day0 g) ∧ ∀ j, j < cnt g → dOf (day0 g) j < 6 ∧ (day0 g) (66 + j) = Int32.ofNat (dOf (day0 g) j) := by
  have hc := hg.1.1
  have h0 : ∀ i, i ≠ 1 → i ≠ 2 → i < 141 → day0 g i = g i := by
    intro i h1 h2 h3
    unfold day0
    rw [gu_n h1, gu_n h2]
    unfold dogG
    rw [if_neg (by omega)]
  refine ⟨fun i hi => h0 i (by omega) (by omega) (by omega), fun j hj => ?_⟩
  obtain ⟨-, -, -, d1, d2⟩ := hg.2 j hj
  exact dOf_mk ((h0 _ (by omega) (by omega) (by omega)).trans d2) d1
theorem dayN_K {g : Nat → Int32} (hg : gOK g) : ∀ n, n ≤ cnt g → dayK g (dayN g n).1 ∧ ∀ j, j < cnt g → dOf (dayN g n).1 j < 6 ∧ (dayN g n).1 (66 + j) = Int32.ofNat (dOf (dayN g n).1 j) := by
  intro n
  induction n with
  | zero => intro _; exact day0_K hg
  | succ n ih =>
    intro hn
    have h1 := ih (by omega)
    exact dayE_K hg (by omega) h1.1 h1.2
theorem x_ends (h : mOK G a A) (hg : gOK g) (hk : ∀ o, sDay g o → mO P z a A M g 0 o) : wX5_ends G P PX (some a) (mz z a A (setG M g)) := by
  have hc := hg.1.1
  unfold wX5_ends wX5_endsb0
  refine lp_det 10 (fun n => (some a, Int32.ofNat n, mz z a A (setG M (dogG g n)))) (fun y => 10 - y.2.1.toNatClampNeg) (fun n hn => by show 10 - (Int32.ofNat n).toNatClampNeg = _; rw [i_nat (by omega)]) (by rw [dogG_0]; rfl) ?_
  intro n hn K hK
  unfold wX5_endsb2
  dsimp only
  rw [show (10 : Int32) = Int32.ofNat 10 from rfl, i_le (by omega) (by omega)]
  refine ⟨fun q => ?_, fun q => ?_⟩
  · have : n = 10 := by omega
    subst this
    have e1 : gu (dogG g 10) 2 0 1 = dogG g 10 1 := gu_n (by omega)
    simp (disch := omega) only [m_g0, m_a0 h, m_s0 h, it2, iz2, it1, iz1, setG_0, true_and, upA_setG, nar_i, e1]
    refine lp_det (cnt g) (fun e => (some a, (dayN g e).2, Int32.ofNat e, mz z a A (setG M (dayN g e).1))) (fun y => cnt g - y.2.2.1.toNatClampNeg) (fun e he => by show cnt g - (Int32.ofNat e).toNatClampNeg = _; rw [i_nat (by omega)]) rfl ?_
    intro e he K2 hK2
    have hN := dayN_K hg e he
    have hc0 : (dayN g e).1 0 = Int32.ofNat (cnt g) := (hN.1 0 (Or.inl rfl)).trans hg.1.2
    unfold wX5_endsb46
    dsimp only
    simp (disch := omega) only [m_g0, m_a0 h, it0, iz0, setG_0, true_and, hc0, i_le]
    refine ⟨fun q2 => ?_, fun q2 => ?_⟩
    · have hee : e = cnt g := by omega
      subst hee
      simp (disch := omega) only [m_g0, m_a0 h, m_s0 h, it5, iz5, setG_0, true_and, upA_setG, nar_i, m_rc, y_done h]
      exact hk _ rfl
    · have hlt : e < cnt g := by omega
      have hd := hN.2 e hlt
      have hnx := hK2 hlt
      have hag : ∀ i, i ≠ 102 + e → agG (dayN g e).1 e i = (dayN g e).1 i := fun i hi => gu_n hi
      have hdg : dOf (agG (dayN g e).1 e) e = dOf (dayN g e).1 e := by unfold dOf; rw [hag _ (by omega)]
      have hda : agG (dayN g e).1 e (66 + e) = Int32.ofNat (dOf (dayN g e).1 e) := by rw [hag _ (by omega)]; exact hd.2
      have hda2 := hda
      unfold agG at hda2
      have hs : dayN g (e + 1) = dayE (dayN g e) e := rfl
      rw [hs] at hnx
      have go : ∀ x : Int32, x = (if (dayN g e).1 (102 + e) ≤ 0 then 0 else 1) → wX5_endsb83 G P PX K2 (some a) (dayN g e).2 (Int32.ofNat e) (some (A 0)) (102 + Int32.ofNat e) ((dayN g e).1 (102 + e)) x (mz z a A (setG M (dayN g e).1)) := by
        intro x hx
        subst hx
        unfold wX5_endsb83 wX5_endsb119
        simp (disch := omega) only [m_s0 h, ix102, i_nat, iv, true_and, upA_setG, nar_i, setG_0]
        simp (disch := omega) only [m_g0, m_a0 h, ix102, ix66, i_nat, iv, true_and, setG_0, m_rc, hda2]
        refine ⟨fun w => ?_, fun w => x_paysLate h hd.1 ?_⟩
        · rw [i_succ]
          unfold dayE at hnx
          rw [if_neg (show ¬ agG (dayN g e).1 e (102 + e) = 4 from w)] at hnx
          exact hnx
        · simp (disch := omega) only [m_rc, true_and, x_goesBack h (show e < 12 by omega), i_succ]
          unfold dayE at hnx
          rw [if_pos (show agG (dayN g e).1 e (102 + e) = 4 from w), hdg] at hnx
          exact hnx
      simp (disch := omega) only [m_g0, m_a0 h, ix102, i_nat, iv, true_and, setG_0]
      have go0 := go 0
      have go1 := go 1
      simp (disch := omega) only [ix102] at go0 go1
      exact ⟨fun w => go0 (by rw [if_pos w]), fun w => go1 (by rw [if_neg w])⟩
  · simp (disch := omega) only [m_g0, m_s0 h, ix141, i_nat, iv, true_and, upA_setG, nar_i, setG_0, dogG_s, i_succ]
    exact hK (by omega)
end MO
