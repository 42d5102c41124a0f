/-! what the model is asked: counts and sums -/
set_option maxRecDepth 100000
noncomputable def tw (p : Prop) : Int32 := @ite Int32 p (Classical.propDecidable p) 1 0
theorem tw_1 {p : Prop} (h : p) : tw p = 1 := by
  unfold tw
  exact @if_pos p (Classical.propDecidable p) h _ _ _
theorem tw_0 {p : Prop} (h : ¬ p) : tw p = 0 := by
  unfold tw
  exact @if_neg p (Classical.propDecidable p) h _ _ _
def sN (f : Nat → Int32) : Nat → Int32
  | 0 => 0
  | n + 1 => sN f n + f n
theorem sN_s {f : Nat → Int32} {n : Nat} : sN f n + f n = sN f (n + 1) := rfl
theorem sN_0 {f : Nat → Int32} : sN f 0 = 0 := rfl
/-- an excuse's number, if so -/
noncomputable def twl (p : Prop) (x : Int32) : Int32 := @ite Int32 p (Classical.propDecidable p) x 0
theorem twl_1 {p : Prop} {x : Int32} (h : p) : twl p x = x := by
  unfold twl
  exact @if_pos p (Classical.propDecidable p) h _ _ _
theorem twl_0 {p : Prop} {x : Int32} (h : ¬ p) : twl p x = 0 := by
  unfold twl
  exact @if_neg p (Classical.propDecidable p) h _ _ _
section MQ
variable {G : gE} {z : hSt} {a : Nat} {A : Nat → Nat} {M : mSt} {PX : Nat → Nat → hSt → Prop} {P : Int32 → hSt → Prop}
noncomputable def nOwn (g : Nat → Int32) (v : Int32) : Int32 := sN (fun e => tw (g (54 + e) = v)) (cnt g)
noncomputable def nHeld (g : Nat → Int32) (v : Int32) (w : Prop) : Int32 := sN (fun e => tw (g (66 + e) = v ∧ (w → lft g e = 0))) (cnt g)
noncomputable def nLeft (g : Nat → Int32) (v : Int32) : Int32 := sN (fun e => twl (g (66 + e) = v) (lft g e)) (cnt g)
noncomputable def nBel (g : Nat → Int32) (p e : Nat) : Int32 := sN (fun s => tw (bel g p e s)) 3
noncomputable def nWorn (g : Nat → Int32) : Int32 := sN (fun e => tw (lft g e = 0)) (cnt g)
noncomputable def nDue (g : Nat → Int32) : Int32 := sN (fun e => tw (g (102 + e) = 3)) (cnt g)
noncomputable def nLent (g : Nat → Int32) : Int32 := sN (fun e => tw (¬ g (102 + e) ≤ 0)) (cnt g)
noncomputable def nStr (g : Nat → Int32) (k : Int32) : Int32 := sN (fun e => twl (g (6 + e) = k) (lft g e)) (cnt g)
theorem x_owned (h : mOK G a A) (hg : gOK (M.1 0)) {v : Int32} (hP : P (nOwn (M.1 0) v) (mz z a A M)) : wX5_owned G P PX (some a) v (mz z a A M) := by
  have hc := hg.1.1
  unfold wX5_owned wX5_ownedb0
  refine lp_det (cnt (M.1 0)) (fun e => (some a, v, sN (fun e => tw (M.1 0 (54 + e) = v)) e, Int32.ofNat e, mz z a A M)) (fun y => cnt (M.1 0) - y.2.2.2.1.toNatClampNeg) (fun e he => by show _ - (Int32.ofNat e).toNatClampNeg = _; rw [i_nat (by omega)]) rfl ?_
  intro e he K hK
  unfold wX5_ownedb4 wX5_ownedb33
  dsimp only
  simp (disch := omega) only [m_g0, m_a0 h, it0, iz0, hg.1.2, true_and, i_le]
  refine ⟨fun q => ?_, fun q => ?_⟩
  · have : e = cnt (M.1 0) := by omega
    subst this
    exact hP
  · simp (disch := omega) only [m_g0, m_a0 h, ix54, i_nat, iv, true_and, i_succ]
    have hk := hK (by omega)
    rw [← sN_s] at hk
    exact ⟨fun w => by rw [tw_0 w] at hk; exact hk, fun w => by rw [tw_1 w] at hk; exact hk⟩
theorem x_heldBy (h : mOK G a A) (hg : gOK (M.1 0)) {v w : Int32} (hP : P (nHeld (M.1 0) v (w ≠ 0)) (mz z a A M)) : wX5_heldBy G P PX (some a) v w (mz z a A M) := by
  have hc := hg.1.1
  unfold wX5_heldBy wX5_heldByb0
  refine lp_det (cnt (M.1 0)) (fun e => (some a, v, w, sN (fun e => tw (M.1 0 (66 + e) = v ∧ (w ≠ 0 → lft (M.1 0) e = 0))) e, Int32.ofNat e, mz z a A M)) (fun y => cnt (M.1 0) - y.2.2.2.2.1.toNatClampNeg) (fun e he => by show _ - (Int32.ofNat e).toNatClampNeg = _; rw [i_nat (by omega)]) rfl ?_
  intro e he K hK
  unfold wX5_heldByb5 wX5_heldByb44 wX5_heldByb48 wX5_heldByb49
  dsimp only
  simp (disch := omega) only [m_g0, m_a0 h, it0, iz0, hg.1.2, true_and, i_le]
  refine ⟨fun q => ?_, fun q => ?_⟩
  · have : e = cnt (M.1 0) := by omega
    subst this
    exact hP
  · simp (disch := omega) only [m_g0, m_a0 h, ix66, i_nat, iv, true_and, i_succ, m_rc, x_leftOf h (show e < 12 by omega)]
    have hk := hK (by omega)
    rw [← sN_s] at hk
    refine ⟨fun w1 => by rw [tw_0 (fun u => w1 u.1)] at hk; exact hk, fun w1 => ⟨fun w2 => by rw [tw_1 ⟨w1, fun u => absurd w2 u⟩] at hk; exact hk, fun w2 => ⟨fun w3 => by rw [tw_0 (fun u => w3 (u.2 w2))] at hk; exact hk, fun w3 => by rw [tw_1 ⟨w1, fun _ => w3⟩] at hk; exact hk⟩⟩⟩
theorem x_left (h : mOK G a A) (hg : gOK (M.1 0)) {v : Int32} (f1 : ¬ isP v → P 0 (mz z a A (mF M 1))) (hP : isP v → P (nLeft (M.1 0) v) (mz z a A (upS M 14 0))) : wX5_left G P PX (some a) v (mz z a A M) := by
  have hc := hg.1.1
  unfold wX5_left wX5_leftb0
  simp only [x_isPupil, br_0, br_1, m_rc, true_and, x_fails h]
  refine ⟨fun c1 => ?_, fun c1 => f1 c1⟩
  refine lp_det (cnt (M.1 0)) (fun e => (some a, v, sN (fun e => twl (M.1 0 (66 + e) = v) (lft (M.1 0) e)) e, Int32.ofNat e, mz z a A M)) (fun y => cnt (M.1 0) - y.2.2.2.1.toNatClampNeg) (fun e he => by show _ - (Int32.ofNat e).toNatClampNeg = _; rw [i_nat (by omega)]) rfl ?_
  intro e he K hK
  unfold wX5_leftb17 wX5_leftb50
  dsimp only
  simp (disch := omega) only [m_g0, m_a0 h, it0, iz0, hg.1.2, true_and, i_le, m_rc, x_done h]
  refine ⟨fun q => ?_, fun q => ?_⟩
  · have : e = cnt (M.1 0) := by omega
    subst this
    exact hP c1
  · simp (disch := omega) only [m_g0, m_a0 h, ix66, i_nat, iv, true_and, i_succ, m_rc, x_leftOf h (show e < 12 by omega)]
    have hk := hK (by omega)
    rw [← sN_s] at hk
    exact ⟨fun w => by rw [twl_0 w] at hk; exact hk, fun w => by rw [twl_1 w] at hk; exact hk⟩
theorem x_strengthOf (h : mOK G a A) (hg : gOK (M.1 0)) {v : Int32} (hP : P (nStr (M.1 0) v) (mz z a A M)) : wX5_strengthOf G P PX (some a) v (mz z a A M) := by
  have hc := hg.1.1
  unfold wX5_strengthOf wX5_strengthOfb0
  refine lp_det (cnt (M.1 0)) (fun e => (some a, v, sN (fun e => twl (M.1 0 (6 + e) = v) (lft (M.1 0) e)) e, Int32.ofNat e, mz z a A M)) (fun y => cnt (M.1 0) - y.2.2.2.1.toNatClampNeg) (fun e he => by show _ - (Int32.ofNat e).toNatClampNeg = _; rw [i_nat (by omega)]) rfl ?_
  intro e he K hK
  unfold wX5_strengthOfb4 wX5_strengthOfb37
  dsimp only
  simp (disch := omega) only [m_g0, m_a0 h, it0, iz0, hg.1.2, true_and, i_le]
  refine ⟨fun q => ?_, fun q => ?_⟩
  · have : e = cnt (M.1 0) := by omega
    subst this
    exact hP
  · simp (disch := omega) only [m_g0, m_a0 h, ix6, i_nat, iv, true_and, i_succ, m_rc, x_leftOf h (show e < 12 by omega)]
    have hk := hK (by omega)
    rw [← sN_s] at hk
    exact ⟨fun w => by rw [twl_0 w] at hk; exact hk, fun w => by rw [twl_1 w] at hk; exact hk⟩
theorem x_worn (h : mOK G a A) (hg : gOK (M.1 0)) (hP : P (nWorn (M.1 0)) (mz z a A (upS M 14 0))) : wX5_worn G P PX (some a) (mz z a A M) := by
  have hc := hg.1.1
  unfold wX5_worn wX5_wornb0
  refine lp_det (cnt (M.1 0)) (fun e => (some a, sN (fun e => tw (lft (M.1 0) e = 0)) e, Int32.ofNat e, mz z a A M)) (fun y => cnt (M.1 0) - y.2.2.1.toNatClampNeg) (fun e he => by show _ - (Int32.ofNat e).toNatClampNeg = _; rw [i_nat (by omega)]) rfl ?_
  intro e he K hK
  unfold wX5_wornb4 wX5_wornb28
  dsimp only
  simp (disch := omega) only [m_g0, m_a0 h, it0, iz0, hg.1.2, true_and, i_le, m_rc, x_done h]
  refine ⟨fun q => ?_, fun q => ?_⟩
  · have : e = cnt (M.1 0) := by omega
    subst this
    exact hP
  · simp (disch := omega) only [true_and, i_succ, m_rc, x_leftOf h (show e < 12 by omega)]
    have hk := hK (by omega)
    rw [← sN_s] at hk
    exact ⟨fun w => by rw [tw_0 w] at hk; exact hk, fun w => by rw [tw_1 w] at hk; exact hk⟩
theorem x_due (h : mOK G a A) (hg : gOK (M.1 0)) (hP : P (nDue (M.1 0)) (mz z a A (upS M 14 0))) : wX5_due G P PX (some a) (mz z a A M) := by
  have hc := hg.1.1
  unfold wX5_due wX5_dueb0
  refine lp_det (cnt (M.1 0)) (fun e => (some a, sN (fun e => tw (M.1 0 (102 + e) = 3)) e, Int32.ofNat e, mz z a A M)) (fun y => cnt (M.1 0) - y.2.2.1.toNatClampNeg) (fun e he => by show _ - (Int32.ofNat e).toNatClampNeg = _; rw [i_nat (by omega)]) rfl ?_
  intro e he K hK
  unfold wX5_dueb4 wX5_dueb33
  dsimp only
  simp (disch := omega) only [m_g0, m_a0 h, it0, iz0, hg.1.2, true_and, i_le, m_rc, x_done h]
  refine ⟨fun q => ?_, fun q => ?_⟩
  · have : e = cnt (M.1 0) := by omega
    subst this
    exact hP
  · simp (disch := omega) only [m_g0, m_a0 h, ix102, i_nat, iv, true_and, i_succ]
    have hk := hK (by omega)
    rw [← sN_s] at hk
    exact ⟨fun w => by rw [tw_0 w] at hk; exact hk, fun w => by rw [tw_1 w] at hk; exact hk⟩
theorem x_lentOnes (h : mOK G a A) (hg : gOK (M.1 0)) (hP : P (nLent (M.1 0)) (mz z a A M)) : wX5_lentOnes G P PX (some a) (mz z a A M) := by
  have hc := hg.1.1
  unfold wX5_lentOnes wX5_lentOnesb0
  refine lp_det (cnt (M.1 0)) (fun e => (some a, sN (fun e => tw (¬ M.1 0 (102 + e) ≤ 0)) e, Int32.ofNat e, mz z a A M)) (fun y => cnt (M.1 0) - y.2.2.1.toNatClampNeg) (fun e he => by show _ - (Int32.ofNat e).toNatClampNeg = _; rw [i_nat (by omega)]) rfl ?_
  intro e he K hK
  unfold wX5_lentOnesb4 wX5_lentOnesb32
  dsimp only
  simp (disch := omega) only [m_g0, m_a0 h, it0, iz0, hg.1.2, true_and, i_le]
  refine ⟨fun q => ?_, fun q => ?_⟩
  · have : e = cnt (M.1 0) := by omega
    subst this
    exact hP
  · simp (disch := omega) only [m_g0, m_a0 h, ix102, i_nat, iv, true_and, i_succ]
    have hk := hK (by omega)
    rw [← sN_s] at hk
    exact ⟨fun w => by rw [tw_0 (fun u => u w)] at hk; exact hk, fun w => by rw [tw_1 w] at hk; exact hk⟩
theorem x_believers (h : mOK G a A) (hg : gOK (M.1 0)) {v k t : Int32} (f1 : ¬ isP v → P 0 (mz z a A (mF M 1))) (f2 : isP v → ¬ isX k t → P 0 (mz z a A (mF M 2))) (f3 : isP v → isX k t → noF (M.1 0) k t → P 0 (mz z a A (mF M 3))) (hP : ∀ p e, v = Int32.ofNat p → p < 6 → isX k t → isF (M.1 0) k t e → P (nBel (M.1 0) p e) (mz z a A (upS M 14 0))) : wX5_believers G P PX (some a) v k t (mz z a A M) := by
  have hc := hg.1.1
  unfold wX5_believers wX5_believersb0
  simp only [x_isPupil, x_isExcuse, br_0, br_1, m_rc, true_and, x_fails h]
  refine ⟨fun c1 => ⟨fun c2 => ?_, fun c2 => f2 c1 c2⟩, fun c1 => f1 c1⟩
  obtain ⟨p, hp, rfl⟩ := i_of (n := 5) c1.1 c1.2 (by omega)
  rw [← setG_self M]
  refine x_placeOf h hg (fun e he => ?_) (fun hn => ?_)
  · have he12 : e < 12 := Nat.lt_of_lt_of_le he.1 hc
    refine ⟨fun _ => ?_, fun q9 => absurd q9 (ofNat_ne_neg (by omega))⟩
    rw [setG_self M]
    refine lp_det 3 (fun s => (some a, Int32.ofNat p, Int32.ofNat e, sN (fun s => tw (bel (M.1 0) p e s)) s, Int32.ofNat s, mz z a A M)) (fun y => 3 - y.2.2.2.2.1.toNatClampNeg) (fun e he => by show _ - (Int32.ofNat e).toNatClampNeg = _; rw [i_nat (by omega)]) rfl ?_
    intro s hs K hK
    unfold wX5_believersb53 wX5_believersb78
    dsimp only
    rw [show (3 : Int32) = Int32.ofNat 3 from rfl, i_le (by omega) (by omega)]
    refine ⟨fun q => ?_, fun q => ⟨m_rcv, ?_⟩⟩
    · have : s = 3 := by omega
      subst this
      simp only [m_rc, true_and, x_done h]
      exact hP p e rfl (by omega) c2 he
    · rw [x_isBelieved h hg (by omega) he.1 (by omega)]
      have hk := hK (by omega)
      rw [← sN_s, ← i_succ] at hk
      exact ⟨fun w => ⟨fun u => absurd u (by decide), fun _ => by rw [tw_1 w] at hk; exact hk⟩, fun w => ⟨fun _ => by rw [tw_0 w] at hk; exact hk, fun u => absurd rfl u⟩⟩
  · refine ⟨fun q9 => absurd rfl q9, fun _ => ?_⟩
    rw [setG_self M]
    exact ⟨m_rcv, (x_fails h).mpr (f3 c1 c2 hn)⟩
end MQ
