/-! what the model is asked: accounts, means, characters -/
set_option maxRecDepth 100000
section MQ6
variable {G : gE} {z : hSt} {a : Nat} {A : Nat → Nat} {M : mSt} {PX : Nat → Nat → hSt → Prop} {P : Int32 → hSt → Prop}
def acc (M : mSt) (w r : Int32) : Prop := (w = 0 ∧ r = M.1 0 0) ∨ (w = 1 ∧ r = nLent (M.1 0)) ∨ (w = 2 ∧ r = M.1 0 1) ∨ (w = 3 ∧ r = M.1 0 2 - 1) ∨ (w = 4 ∧ r = M.1 0 3) ∨ (w = 5 ∧ r = sumG (M.1 0) 135 3) ∨ (w = 6 ∧ r = sumG (M.1 0) 138 3) ∨ (w = 7 ∧ r = M.1 0 4) ∨ (w = 8 ∧ r = M.1 0 5) ∨ (w = 9 ∧ r = M.2 7) ∨ (w = 10 ∧ r = M.2 3)
theorem x_account (h : mOK G a A) (hg : gOK (M.1 0)) {w : Int32} (f1 : w ∉ ([0, 1, 2, 3, 4, 5, 6, 7, 8, 9, 10] : List Int32) → P 0 (mz z a A (mF M 1))) (hP : ∀ r, acc M w r → P r (mz z a A (upS M 14 0))) : wX5_account G P PX (some a) w (mz z a A M) := by
  unfold wX5_account wX5_accountb0
  simp (disch := omega) only [m_g0, m_a0 h, m_i7, m_i3, it0, iz0, it1, iz1, it2, iz2, it3, iz3, it4, iz4, it5, iz5, true_and, m_rc, x_done h, x_fails h]
  refine ⟨fun q => hP _ (Or.inl ⟨q, rfl⟩), fun q => x_lentOnes h hg ⟨m_rcv, (x_done h).mpr (hP _ (Or.inr (Or.inl ⟨q, rfl⟩)))⟩, fun q => hP _ (Or.inr (Or.inr (Or.inl ⟨q, rfl⟩))), fun q => hP _ (Or.inr (Or.inr (Or.inr (Or.inl ⟨q, rfl⟩)))), fun q => hP _ (Or.inr (Or.inr (Or.inr (Or.inr (Or.inl ⟨q, rfl⟩))))), fun q => x_sum h (b := 135) (n := 3) (by omega) ⟨m_rcv, (x_done h).mpr (hP _ (Or.inr (Or.inr (Or.inr (Or.inr (Or.inr (Or.inl ⟨q, rfl⟩)))))))⟩, fun q => x_sum h (b := 138) (n := 3) (by omega) ⟨m_rcv, (x_done h).mpr (hP _ (Or.inr (Or.inr (Or.inr (Or.inr (Or.inr (Or.inr (Or.inl ⟨q, rfl⟩))))))))⟩, fun q => hP _ (Or.inr (Or.inr (Or.inr (Or.inr (Or.inr (Or.inr (Or.inr (Or.inl ⟨q, rfl⟩)))))))), fun q => hP _ (Or.inr (Or.inr (Or.inr (Or.inr (Or.inr (Or.inr (Or.inr (Or.inr (Or.inl ⟨q, rfl⟩))))))))), fun q => hP _ (Or.inr (Or.inr (Or.inr (Or.inr (Or.inr (Or.inr (Or.inr (Or.inr (Or.inr (Or.inl ⟨q, rfl⟩)))))))))), fun q => hP _ (Or.inr (Or.inr (Or.inr (Or.inr (Or.inr (Or.inr (Or.inr (Or.inr (Or.inr (Or.inr ⟨q, rfl⟩)))))))))), f1⟩
theorem x_meanWear (h : mOK G a A) {Q : UInt64 → hSt → Prop} (f1 : M.1 0 0 = 0 → Q FP.dconst0 (mz z a A (upS M 14 1))) (hP : M.1 0 0 ≠ 0 → vf_n64 (FP.ddiv (FP.i2d (sumG (M.1 0) 42 12)) (FP.i2d (M.1 0 0))) ∧ Q (FP.ddiv (FP.i2d (sumG (M.1 0) 42 12)) (FP.i2d (M.1 0 0))) (mz z a A (upS M 14 0))) : wX5_meanWear G Q PX (some a) (mz z a A M) := by
  unfold wX5_meanWear wX5_meanWearb0 wX5_meanWearb15
  have e : ∀ x : Int32, (upS M 14 x).2 14 = x := fun x => rfl
  simp (disch := omega) only [m_g0, m_a0 h, it0, iz0, true_and, m_rc, m_p14 h, m_i14]
  refine ⟨fun q => ⟨fun w => absurd rfl w, fun _ => x_sum h (b := 42) (n := 12) (by omega) ?_⟩, fun q => ⟨fun _ => f1 q, fun w => absurd w (by rw [e]; decide)⟩⟩
  simp (disch := omega) only [m_g0, m_a0 h, it0, iz0, true_and]
  exact hP q
theorem x_believedShare (h : mOK G a A) {Q : UInt32 → hSt → Prop} (f1 : sumG (M.1 0) 135 3 = 0 → Q FP.fconst0 (mz z a A (upS M 14 1))) (hP : sumG (M.1 0) 135 3 ≠ 0 → vf_n32 (FP.fdiv (FP.i2f (sumG (M.1 0) 138 3)) (FP.i2f (sumG (M.1 0) 135 3))) ∧ Q (FP.fdiv (FP.i2f (sumG (M.1 0) 138 3)) (FP.i2f (sumG (M.1 0) 135 3))) (mz z a A (upS M 14 0))) : wX5_believedShare G Q PX (some a) (mz z a A M) := by
  unfold wX5_believedShare wX5_believedShareb0 wX5_believedShareb19
  have e : ∀ x : Int32, (upS M 14 x).2 14 = x := fun x => rfl
  refine ⟨m_rcv, x_sum h (b := 135) (n := 3) (by omega) ?_⟩
  simp (disch := omega) only [true_and, m_rc, m_p14 h, m_i14]
  refine ⟨fun q => ⟨fun w => absurd rfl w, fun _ => x_sum h (b := 138) (n := 3) (by omega) (hP q)⟩, fun q => ⟨fun _ => f1 q, fun w => absurd w (by rw [e]; decide)⟩⟩
theorem x_character (h : mOK G a A) {n : Nat} (hn : n ≤ 60) (h13 : M.2 13 = Int32.ofNat n) {v : Int32} (f1 : (∀ i : Nat, v = Int32.ofNat i → ¬ i < n) → P 0 (mz z a A (upS M 14 1))) (hP : ∀ i : Nat, v = Int32.ofNat i → i < n → okN .char (M.1 12 i) ∧ P (M.1 12 i) (mz z a A (upS M 14 0))) : wX5_character G P PX (some a) v (mz z a A M) := by
  unfold wX5_character wX5_characterb0 wX5_characterb20
  have e : ∀ x : Int32, (upS M 14 x).2 14 = x := fun x => rfl
  have okc : okN .char 0 := ⟨rfl, rfl⟩
  simp (disch := omega) only [x_in, br_0, br_1, m_rc, true_and, m_p14 h, m_i14, m_i13, h13, m_g12, m_a12 h]
  refine ⟨fun c => ⟨fun _ => ⟨okc, f1 fun i hi hlt => c ?_⟩, fun w => absurd w (by rw [e]; decide)⟩, fun c => ⟨fun w => absurd rfl w, fun _ => ?_⟩⟩
  · subst hi
    refine ⟨i_nn (by omega), ?_⟩
    rw [show (1 : Int32) = Int32.ofNat 1 from rfl, i_sub (by omega), i_lt (by omega) (by omega)]
    omega
  · by_cases h0 : n = 0
    · exfalso
      rw [h0] at c
      have h1 := Int32.not_lt.mp c.1
      have h2 := Int32.not_lt.mp c.2
      have h3 := Int32.le_trans h1 h2
      exact absurd h3 (by decide)
    · rw [show (1 : Int32) = Int32.ofNat 1 from rfl, i_sub (by omega)] at c
      obtain ⟨i, hi, rfl⟩ := i_of c.1 c.2 (by omega)
      rw [i_nat (by omega)]
      exact ⟨i_in (by omega) (by omega), hP i rfl (by omega)⟩
end MQ6
