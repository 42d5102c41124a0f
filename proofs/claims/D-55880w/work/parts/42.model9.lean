/-! what the model is asked: one number each -/
set_option maxRecDepth 100000
section MQ4
variable {G : gE} {z : hSt} {a : Nat} {A : Nat → Nat} {M : mSt} {PX : Nat → Nat → hSt → Prop} {P : Int32 → hSt → Prop}
def sumG (g : Nat → Int32) (b n : Nat) : Int32 := sN (fun k => g (b + k)) n
theorem x_sum (h : mOK G a A) {b n : Nat} (hb : b + n ≤ 223) (hP : P (sumG (M.1 0) b n) (mz z a A M)) : wX5_sum G P PX (some a) (Int32.ofNat b) (Int32.ofNat n) (mz z a A M) := by
  unfold wX5_sum wX5_sumb0
  refine lp_det n (fun k => (some a, Int32.ofNat b, Int32.ofNat n, sN (fun k => M.1 0 (b + k)) k, Int32.ofNat k, mz z a A M)) (fun y => n - y.2.2.2.2.1.toNatClampNeg) (fun e he => by show _ - (Int32.ofNat e).toNatClampNeg = _; rw [i_nat (by omega)]) rfl ?_
  intro k hk K hK
  unfold wX5_sumb5
  dsimp only
  rw [i_le (by omega) (by omega)]
  refine ⟨fun q => ?_, fun q => ?_⟩
  · have : k = n := by omega
    subst this
    exact hP
  · simp (disch := omega) only [m_g0, m_a0 h, i_add, i_nat, iv, true_and, i_succ]
    have hk2 := hK (by omega)
    rw [← sN_s] at hk2
    exact hk2
theorem x_dog (h : mOK G a A) {v : Int32} (f1 : ¬ isE v → P 0 (mz z a A (mF M 1))) (hP : ∀ t : Nat, v = Int32.ofNat t → t < 10 → P (M.1 0 (141 + t)) (mz z a A (upS M 14 0))) : wX5_dog G P PX (some a) v (mz z a A M) := by
  unfold wX5_dog wX5_dogb0
  simp only [x_in, br_0, br_1, m_rc, true_and, x_fails h]
  refine ⟨fun c1 => f1 c1, fun c1 => ?_⟩
  obtain ⟨t, ht, rfl⟩ := i_of (n := 9) c1.1 c1.2 (by omega)
  simp (disch := omega) only [m_g0, m_a0 h, ix141, i_nat, iv, true_and, m_rc, x_done h]
  exact hP t rfl (by omega)
theorem x_heard (h : mOK G a A) {s p k t : Int32} (f1 : ¬ (isS s ∧ isP p) → P 0 (mz z a A (upS M 14 1))) (f2 : isS s → isP p → ¬ isX k t → P 0 (mz z a A (upS M 14 2))) (hP : ∀ s' p' k' t' : Nat, s = Int32.ofNat s' → s' < 3 → p = Int32.ofNat p' → p' < 6 → k = Int32.ofNat k' → k' < 4 → t = Int32.ofNat t' → t' < 10 → P (tw (hbit (M.1 0) s' p' k' t')) (mz z a A (upS M 14 0))) : wX5_heard G P PX (some a) s p k t (mz z a A M) := by
  unfold wX5_heard wX5_heardb0 wX5_heardb15 wX5_heardb33 wX5_heardb59
  simp only [x_isPupil, x_isSchool, x_isExcuse, br_0, br_1, m_rc, true_and, m_p14 h, m_i14, ok_0, ok_1]
  have e : ∀ x : Int32, (upS M 14 x).2 14 = x := fun x => rfl
  refine ⟨fun c1 => ⟨fun _ => f1 fun u => c1 u.1, fun q => absurd q (by rw [e]; decide)⟩, fun c1 => ⟨fun c2 => ⟨fun c3 => ⟨fun _ => f2 c1 c2 c3, fun q => absurd q (by rw [e]; decide)⟩, fun c3 => ⟨fun q => absurd rfl q, fun _ => ?_⟩⟩, fun c2 => ⟨fun _ => f1 fun u => c2 u.2, fun q => absurd q (by rw [e]; decide)⟩⟩⟩
  obtain ⟨s', hs, rfl⟩ := i_of (n := 2) c1.1 c1.2 (by omega)
  obtain ⟨p', hp, rfl⟩ := i_of (n := 5) c2.1 c2.2 (by omega)
  obtain ⟨k', hk, rfl⟩ := i_of (n := 3) c3.1.1 c3.1.2 (by omega)
  obtain ⟨t', ht, rfl⟩ := i_of (n := 9) c3.2.1 c3.2.2 (by omega)
  have hp9 := hP s' p' k' t' rfl (by omega) rfl (by omega) rfl (by omega) rfl (by omega)
  rw [x_isHeard h (by omega) (by omega) (by omega)]
  exact ⟨fun u => ⟨fun x => absurd x (by decide), fun _ => by rw [tw_1 (show hbit (M.1 0) s' p' k' t' from u)] at hp9; exact hp9⟩, fun u => ⟨fun _ => by rw [tw_0 (show ¬ hbit (M.1 0) s' p' k' t' from u)] at hp9; exact hp9, fun x => absurd rfl x⟩⟩
theorem x_would (h : mOK G a A) (hg : gOK (M.1 0)) {p k t s : Int32} (f1 : ¬ (isP p ∧ isS s) → P 0 (mz z a A (upS M 14 1))) (f2 : isP p → isS s → ¬ isX k t → P 0 (mz z a A (upS M 14 2))) (f3 : isP p → isS s → isX k t → noF (M.1 0) k t → P 0 (mz z a A (upS M 14 3))) (hP : ∀ p' s' e : Nat, p = Int32.ofNat p' → p' < 6 → s = Int32.ofNat s' → s' < 3 → isX k t → isF (M.1 0) k t e → P (tw (bel (M.1 0) p' e s')) (mz z a A (upS M 14 0))) : wX5_would G P PX (some a) p k t s (mz z a A M) := by
  have hc := hg.1.1
  unfold wX5_would wX5_wouldb0 wX5_wouldb16 wX5_wouldb47 wX5_wouldb77
  simp only [x_isPupil, x_isSchool, x_isExcuse, br_0, br_1, m_rc, true_and, m_p14 h, m_i14, ok_0, ok_1]
  have e : ∀ x : Int32, (upS M 14 x).2 14 = x := fun x => rfl
  refine ⟨fun c1 => ⟨fun _ => f1 fun u => c1 u.1, fun q => absurd q (by rw [e]; decide)⟩, fun c1 => ⟨fun c2 => ⟨fun c3 => ?_, fun c3 => ⟨fun _ => f2 c1 c2 c3, fun q => absurd q (by rw [e]; decide)⟩⟩, fun c2 => ⟨fun _ => f1 fun u => c2 u.2, fun q => absurd q (by rw [e]; decide)⟩⟩⟩
  obtain ⟨p', hp, rfl⟩ := i_of (n := 5) c1.1 c1.2 (by omega)
  obtain ⟨s', hs, rfl⟩ := i_of (n := 2) c2.1 c2.2 (by omega)
  rw [← setG_self M]
  refine x_placeOf h hg (fun e' he => ?_) (fun hn => ?_)
  · have he12 : e' < 12 := Nat.lt_of_lt_of_le he.1 hc
    refine ⟨fun _ => ?_, fun q9 => absurd q9 (ofNat_ne_neg (by omega))⟩
    rw [setG_self M]
    simp only [m_p14 h, m_i14, m_rc, true_and]
    refine ⟨fun q => absurd rfl q, fun _ => ?_⟩
    have e3 : upS M 14 0 = setG (upS M 14 0) (M.1 0) := (setG_self (upS M 14 0)).symm
    rw [e3]
    refine x_placeOf h hg (fun e2 he2 => ?_) (fun hn => absurd ⟨he.2.1, he.2.2.1⟩ (hn e' he.1))
    have := f_un he he2
    subst this
    rw [← e3]
    have hp9 := hP p' s' e' rfl (by omega) rfl (by omega) c3 he
    refine ⟨m_rcv, ?_⟩
    rw [x_isBelieved h (show gOK ((upS M 14 0).1 0) from hg) (by omega) he.1 (by omega)]
    exact ⟨fun u => ⟨fun x => absurd x (by decide), fun _ => by rw [tw_1 (show bel (M.1 0) p' e' s' from u)] at hp9; exact hp9⟩, fun u => ⟨fun _ => by rw [tw_0 (show ¬ bel (M.1 0) p' e' s' from u)] at hp9; exact hp9, fun x => absurd rfl x⟩⟩
  · refine ⟨fun q9 => absurd rfl q9, fun _ => ?_⟩
    rw [setG_self M]
    simp only [m_p14 h, m_i14, m_rc, true_and]
    exact ⟨fun _ => f3 c1 c2 c3 hn, fun q => absurd q (by rw [e]; decide)⟩
theorem x_leftAgain (h : mOK G a A) (hg : gOK (M.1 0)) {v : Int32} (f1 : ¬ isP v → P 0 (mz z a A (mF M 1))) (hP : isP v → P (nLeft (M.1 0) v) (mz z a A (upS M 14 0))) : wX5_leftAgain G P PX (some a) v (mz z a A M) := by
  unfold wX5_leftAgain wX5_leftAgainb0
  exact ⟨m_rcv, x_left h hg f1 hP⟩
theorem x_chancesAgain (h : mOK G a A) (hg : gOK (M.1 0)) (hP : P (nCh (M.1 0)) (mz z a A (upS M 14 0))) : wX5_chancesAgain G P PX (some a) (mz z a A M) := by
  unfold wX5_chancesAgain wX5_chancesAgainb0
  exact ⟨m_rcv, x_chances h hg hP⟩
theorem x_isFair (h : mOK G a A) (hP : P 1 (mz z a A (upS M 14 0))) : wX5_isFair G P PX (some a) (mz z a A M) := by
  unfold wX5_isFair wX5_isFairb0
  rw [m_p14 h]
  exact ⟨ok_b1, hP⟩
def sch (g : Nat → Int32) (s : Nat) (w r : Int32) : Prop := (w = 0 ∧ r = g (132 + s)) ∨ (w = 1 ∧ r = nHrd g s) ∨ (w = 2 ∧ r = g (135 + s)) ∨ (w = 3 ∧ r = g (138 + s))
theorem x_schoolOf (h : mOK G a A) {v w : Int32} (f1 : ¬ isS v → P 0 (mz z a A (mF M 1))) (f2 : isS v → w ∉ ([0, 1, 2, 3] : List Int32) → P 0 (mz z a A (mF M 2))) (hP : ∀ (s : Nat) (r : Int32), v = Int32.ofNat s → s < 3 → sch (M.1 0) s w r → P r (mz z a A (upS M 14 0))) : wX5_schoolOf G P PX (some a) v w (mz z a A M) := by
  unfold wX5_schoolOf wX5_schoolOfb0
  simp only [x_isSchool, br_0, br_1, m_rc, true_and, x_fails h]
  refine ⟨fun c1 => ?_, fun c1 => f1 c1⟩
  have f9 := f2 c1
  obtain ⟨s, hs, rfl⟩ := i_of (n := 2) c1.1 c1.2 (by omega)
  have hP := fun r => hP s r rfl (by omega)
  simp (disch := omega) only [m_g0, m_a0 h, ix132, ix135, ix138, i_nat, iv, true_and, m_rc, x_done h]
  exact ⟨fun q => hP _ (Or.inl ⟨q, rfl⟩), fun q => x_heardBy h (by omega) ⟨m_rcv, (x_done h).mpr (hP _ (Or.inr (Or.inl ⟨q, rfl⟩)))⟩, fun q => hP _ (Or.inr (Or.inr (Or.inl ⟨q, rfl⟩))), fun q => hP _ (Or.inr (Or.inr (Or.inr ⟨q, rfl⟩))), f9⟩
def pup (g : Nat → Int32) (p : Nat) (w r : Int32) : Prop := (w = 0 ∧ r = g (114 + p)) ∨ (w = 1 ∧ r = nOwn g (Int32.ofNat p)) ∨ (w = 2 ∧ r = nHeld g (Int32.ofNat p) ((0 : Int32) ≠ 0)) ∨ (w = 3 ∧ r = g (120 + p)) ∨ (w = 4 ∧ r = g (126 + p)) ∨ (w = 5 ∧ r = nHeld g (Int32.ofNat p) ((1 : Int32) ≠ 0))
theorem x_pupilOf (h : mOK G a A) (hg : gOK (M.1 0)) {v w : Int32} (f1 : ¬ isP v → P 0 (mz z a A (mF M 1))) (f2 : isP v → w ∉ ([0, 1, 2, 3, 4, 5] : List Int32) → P 0 (mz z a A (mF M 2))) (hP : ∀ (p : Nat) (r : Int32), v = Int32.ofNat p → p < 6 → pup (M.1 0) p w r → P r (mz z a A (upS M 14 0))) : wX5_pupilOf G P PX (some a) v w (mz z a A M) := by
  unfold wX5_pupilOf wX5_pupilOfb0
  simp only [x_isPupil, br_0, br_1, m_rc, true_and, x_fails h]
  refine ⟨fun c1 => ?_, fun c1 => f1 c1⟩
  have f9 := f2 c1
  obtain ⟨p, hp, rfl⟩ := i_of (n := 5) c1.1 c1.2 (by omega)
  have hP := fun r => hP p r rfl (by omega)
  simp (disch := omega) only [m_g0, m_a0 h, ix114, ix120, ix126, i_nat, iv, true_and, m_rc, x_done h]
  exact ⟨fun q => hP _ (Or.inl ⟨q, rfl⟩), fun q => x_owned h hg ⟨m_rcv, (x_done h).mpr (hP _ (Or.inr (Or.inl ⟨q, rfl⟩)))⟩, fun q => x_heldBy h hg ⟨m_rcv, (x_done h).mpr (hP _ (Or.inr (Or.inr (Or.inl ⟨q, rfl⟩))))⟩, fun q => hP _ (Or.inr (Or.inr (Or.inr (Or.inl ⟨q, rfl⟩)))), fun q => hP _ (Or.inr (Or.inr (Or.inr (Or.inr (Or.inl ⟨q, rfl⟩))))), fun q => x_heldBy h hg ⟨m_rcv, (x_done h).mpr (hP _ (Or.inr (Or.inr (Or.inr (Or.inr (Or.inr ⟨q, rfl⟩))))))⟩, f9⟩
theorem x_errorPosition (h : mOK G a A) (f1 : M.2 8 = -1 → P 0 (mz z a A (mF M 1))) (hP : M.2 8 ≠ -1 → P (M.2 8) (mz z a A (upS M 14 0))) : wX5_errorPosition G P PX (some a) (mz z a A M) := by
  unfold wX5_errorPosition wX5_errorPositionb0
  simp only [m_i8, m_rc, true_and, x_done h, x_fails h]
  exact ⟨hP, f1⟩
theorem x_reason (h : mOK G a A) {v : Int32} (f1 : M.2 9 = 0 → P 0 (mz z a A (mF M 1))) (hP : M.2 9 ≠ 0 → P (if v = 0 then M.2 9 else M.2 10) (mz z a A (upS M 14 0))) : wX5_reason G P PX (some a) v (mz z a A M) := by
  unfold wX5_reason wX5_reasonb0 wX5_reasonb31
  simp only [m_i9, m_i10, m_rc, true_and, x_done h, x_fails h]
  exact ⟨fun q => ⟨fun w => by have h9 := hP q; rw [if_pos w] at h9; exact h9, fun w => by have h9 := hP q; rw [if_neg w] at h9; exact h9⟩, f1⟩
theorem x_append (h : mOK G a A) {v : Int32} {n : Nat} (hn : n ≤ 60) (h7 : M.2 7 = Int32.ofNat n) (f1 : ¬ (¬ v < 32 ∧ ¬ 126 < v) → P 0 (mz z a A (mF M 1))) (f2 : ¬ v < 32 → ¬ 126 < v → n = 60 → P 0 (mz z a A (mF M 2))) (hP : ¬ v < 32 → ¬ 126 < v → n ≠ 60 → P (Int32.ofNat (n + 1)) (mz z a A (upS (upS (upA M 6 n (vp_nar .char v)) 7 (Int32.ofNat (n + 1))) 14 0))) : wX5_append G P PX (some a) v (mz z a A M) := by
  unfold wX5_append wX5_appendb0
  simp only [x_in, br_0, br_1, m_rc, true_and, x_fails h, m_i7, m_g6, h7]
  refine ⟨fun c1 => ?_, fun c1 => f1 c1⟩
  rw [show (60 : Int32) = Int32.ofNat 60 from rfl, i_eq (by omega) (by omega)]
  refine ⟨fun q => ?_, fun q => f2 c1.1 c1.2 q⟩
  have e7 : (upA M 6 n (vp_nar .char v)).2 7 = Int32.ofNat n := h7
  simp (disch := omega) only [m_s6 h, i_nat, iv, true_and, m_i7, m_p7 h, e7, i_succ, m_rc, x_done h]
  exact hP c1.1 c1.2 q
end MQ4
