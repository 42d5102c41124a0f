/-! what the model is asked: the rest; undo, save, restore -/
set_option maxRecDepth 100000
/-- other arrays than the numbers are as they were; the numbers are g' -/
def mSame (M M' : mSt) (g' : Nat → Int32) (sc : Nat → Int32) : Prop := (∀ i, i < 223 → M'.1 0 i = g' i) ∧ (∀ k, k ≠ 0 → M'.1 k = M.1 k) ∧ M'.2 = sc
section MQ5
variable {G : gE} {z : hSt} {a : Nat} {A : Nat → Nat} {M : mSt} {PX : Nat → Nat → hSt → Prop} {P : Int32 → hSt → Prop}
theorem i_rd {k e : Nat} (he : e < 1000) (hk : k < 1000) : (Int32.ofNat k + Int32.ofNat e).toNatClampNeg = k + e := by rw [i_add, i_nat (by omega)]
def exc (g : Nat → Int32) (e : Nat) (w r : Int32) : Prop := (w = 7 ∧ r = Int32.ofNat e) ∨ (w = 6 ∧ r = g (102 + e) - 1) ∨ ∃ j : Nat, j < 6 ∧ w = Int32.ofNat j ∧ r = g (30 + 12 * j + e)
theorem x_excuseOf (h : mOK G a A) (hg : gOK (M.1 0)) {k t w : Int32} (f1 : ¬ (isX k t ∧ (¬ w < 0 ∧ ¬ 7 < w)) → P 0 (mz z a A (mF M 1))) (f2 : isX k t → ¬ w < 0 → ¬ 7 < w → noF (M.1 0) k t → P 0 (mz z a A (mF M 2))) (hP : ∀ e r, isX k t → ¬ w < 0 → ¬ 7 < w → isF (M.1 0) k t e → exc (M.1 0) e w r → P r (mz z a A (upS M 14 0))) : wX5_excuseOf G P PX (some a) k t w (mz z a A M) := by
  have hc := hg.1.1
  unfold wX5_excuseOf wX5_excuseOfb0 wX5_excuseOfb18 wX5_excuseOfb92
  simp only [x_isExcuse, x_in, br_0, br_1, m_rc, true_and, x_fails h]
  refine ⟨fun c1 => f1 fun u => c1 u.1, fun c1 => ⟨fun c2 => ?_, fun c2 => f1 fun u => c2 u.2⟩⟩
  obtain ⟨j, hj, rfl⟩ := i_of (n := 7) c2.1 c2.2 (by omega)
  rw [← setG_self M]
  refine x_placeOf h hg (fun e he => ?_) (fun hn => ?_)
  · have he12 : e < 12 := Nat.lt_of_lt_of_le he.1 hc
    refine ⟨fun _ => ?_, fun q9 => absurd q9 (ofNat_ne_neg (by omega))⟩
    rw [setG_self M, show (7 : Int32) = Int32.ofNat 7 from rfl, show (6 : Int32) = Int32.ofNat 6 from rfl, show (12 : Int32) = Int32.ofNat 12 from rfl, i_mul, ix30, i_eq (by omega) (by omega), i_eq (by omega) (by omega)]
    have hP := fun r => hP e r c1 c2.1 c2.2 he
    refine ⟨fun q7 => ⟨fun q6 => ?_, fun q6 => ?_⟩, fun q7 => ?_⟩
    · simp (disch := omega) only [m_g0, m_a0 h, i_add, i_nat, iv, true_and, m_rc, x_done h]
      exact hP _ (Or.inr (Or.inr ⟨j, by omega, rfl, rfl⟩))
    · simp (disch := omega) only [m_g0, m_a0 h, ix102, i_nat, iv, true_and, m_rc, x_done h]
      exact hP _ (Or.inr (Or.inl ⟨by rw [q6]; rfl, rfl⟩))
    · simp only [m_rc, true_and, x_done h]
      exact hP _ (Or.inl ⟨by rw [q7]; rfl, rfl⟩)
  · refine ⟨fun q9 => absurd rfl q9, fun _ => ?_⟩
    rw [setG_self M]
    exact ⟨m_rcv, (x_fails h).mpr (f2 c1 c2.1 c2.2 hn)⟩
theorem x_at (h : mOK G a A) (hg : gOK (M.1 0)) {v w : Int32} (f1 : (∀ e : Nat, v = Int32.ofNat e → ¬ e < cnt (M.1 0)) → P 0 (mz z a A (mF M 1))) (hP : ∀ e : Nat, v = Int32.ofNat e → e < cnt (M.1 0) → P (if w = 0 then M.1 0 (6 + e) else M.1 0 (18 + e)) (mz z a A (upS M 14 0))) : wX5_at G P PX (some a) v w (mz z a A M) := by
  have hc := hg.1.1
  unfold wX5_at wX5_atb0 wX5_atb32
  simp (disch := omega) only [m_g0, m_a0 h, it0, iz0, hg.1.2, true_and, x_in, br_0, br_1, m_rc, x_fails h]
  refine ⟨fun c => f1 fun e he hlt => c ?_, fun c => ?_⟩
  · subst he
    refine ⟨i_nn (by omega), ?_⟩
    rw [show (1 : Int32) = Int32.ofNat 1 from rfl, i_sub (by omega), i_lt (by omega) (by omega)]
    omega
  · by_cases h0 : cnt (M.1 0) = 0
    · exfalso
      rw [h0] at c
      have h1 := Int32.not_lt.mp c.1
      have h2 := Int32.not_lt.mp c.2
      have h3 := Int32.le_trans h1 h2
      exact absurd h3 (by decide)
    · rw [show (1 : Int32) = Int32.ofNat 1 from rfl, i_sub (by omega)] at c
      obtain ⟨e, he, rfl⟩ := i_of c.1 c.2 (by omega)
      have hp := hP e rfl (by omega)
      simp (disch := omega) only [m_a0 h, ix6, ix18, i_nat, iv, true_and, m_rc, x_done h]
      exact ⟨fun q => by rw [if_pos q] at hp; exact hp, fun q => by rw [if_neg q] at hp; exact hp⟩
theorem x_undo (h : mOK G a A) {c : Nat} (hc : c ≤ 6) (h3 : M.2 3 = Int32.ofNat c) (f1 : c = 0 → P 0 (mz z a A (mF M 1))) (hP : c ≠ 0 → ∀ M', mSame M M' (fun i => M.1 2 ((c - 1) * 223 + i)) (upS (upS M 3 (Int32.ofNat (c - 1))) 14 0).2 → P (Int32.ofNat (c - 1)) (mz z a A M')) : wX5_undo G P PX (some a) (mz z a A M) := by
  unfold wX5_undo wX5_undob0
  simp only [m_i3, h3, m_p3 h, m_g2, m_g0, m_rc, true_and, x_fails h]
  rw [show (0 : Int32) = Int32.ofNat 0 from rfl, i_eq (by omega) (by omega)]
  refine ⟨fun q => ?_, fun q => f1 q⟩
  have e3 : (upS M 3 (Int32.ofNat c - 1)).2 3 = Int32.ofNat (c - 1) := by
    show Int32.ofNat c - 1 = _
    exact i_sub (a := c) (b := 1) (by omega)
  have e4 : Int32.ofNat c - 1 = Int32.ofNat (c - 1) := i_sub (a := c) (b := 1) (by omega)
  rw [e3, e4, show (223 : Int32) = Int32.ofNat 223 from rfl, i_mul]
  refine x_copy h (n1 := 1338) (n2 := 223) (p2 := 0) (by decide) (by decide) (by decide) (by omega) (by omega) ?_
  simp only [m_i3, m_rc, true_and, x_done h]
  show P (Int32.ofNat (c - 1)) _
  refine hP q _ ⟨fun i hi => ?_, fun k hk => by rw [upS_1, cpN_o hk, upS_1], rfl⟩
  rw [upS_1, cpN_i (by omega) (by omega), upS_1]
  exact congrArg _ (by omega)
theorem x_save (h : mOK G a A) (hP : ∀ M', (∀ k, k ≠ 4 → M'.1 k = M.1 k) → (∀ i, i < 223 → M'.1 4 i = M.1 0 i) → M'.2 = (upS (upS M 5 1) 14 0).2 → P (M.1 0 0) (mz z a A M')) : wX5_save G P PX (some a) (mz z a A M) := by
  unfold wX5_save wX5_saveb0
  rw [m_g0, m_g4]
  refine x_copy h (n1 := 223) (n2 := 223) (p1 := 0) (p2 := 0) (by decide) (by decide) (by decide) (by omega) (by omega) ?_
  simp (disch := omega) only [m_p5 h, ok_1, m_g0, m_a0 h, it0, iz0, m_rc, true_and, x_done h]
  have e0 : (upS (cpN M 0 0 4 0 223) 5 1).1 0 0 = M.1 0 0 := by rw [upS_1, cpN_o (by omega)]
  rw [e0]
  refine hP _ (fun k hk => by rw [upS_1, upS_1, cpN_o hk]) (fun i hi => ?_) rfl
  rw [upS_1, upS_1, cpN_i (by omega) (by omega)]
  exact congrArg _ (by omega)
theorem x_restore (h : mOK G a A) (f1 : M.2 5 = 0 → P 0 (mz z a A (mF M 1))) (hP : M.2 5 ≠ 0 → ∀ M', mSame M M' (M.1 4) (upS (upS M 3 0) 14 0).2 → P (M.1 4 0) (mz z a A M')) : wX5_restore G P PX (some a) (mz z a A M) := by
  unfold wX5_restore wX5_restoreb0
  simp only [m_i5, m_rc, true_and, x_fails h, m_g4, m_g0]
  refine ⟨fun q => ?_, f1⟩
  refine x_copy h (n1 := 223) (n2 := 223) (p1 := 0) (p2 := 0) (by decide) (by decide) (by decide) (by omega) (by omega) ?_
  simp (disch := omega) only [m_p3 h, m_g0, m_a0 h, it0, iz0, m_rc, true_and, x_done h]
  have e0 : (upS (cpN M 4 0 0 0 223) 3 0).1 0 0 = M.1 4 0 := by rw [upS_1, cpN_i (by omega) (by omega)]
  rw [e0]
  refine hP q _ ⟨fun i hi => ?_, fun k hk => by rw [upS_1, upS_1, cpN_o hk], rfl⟩
  rw [upS_1, upS_1, cpN_i (by omega) (by omega)]
  exact congrArg _ (by omega)
end MQ5
