/-! the model's changes: looked back, done, kept -/
set_option maxRecDepth 100000
/-- the history H takes the numbers g as its last, c before -/
def hPush (H H' : Nat → Int32) (c : Nat) (g : Nat → Int32) : Prop := (c < 6 → (∀ j, j < c → ∀ i, i < 223 → H' (j * 223 + i) = H (j * 223 + i)) ∧ ∀ i, i < 223 → H' (c * 223 + i) = g i) ∧ (c = 6 → (∀ j, j < 5 → ∀ i, i < 223 → H' (j * 223 + i) = H ((j + 1) * 223 + i)) ∧ ∀ i, i < 223 → H' (1115 + i) = g i)
def hLen (c : Nat) : Nat := if c = 6 then 6 else c + 1
/-- nothing has changed but these numbers; a change was kept -/
def mBack (M M' : mSt) (sc : Nat → Int32) : Prop := (∀ i, i < 223 → M'.1 0 i = M.1 0 i) ∧ (∀ k, k ≠ 0 → k ≠ 1 → M'.1 k = M.1 k) ∧ M'.2 = sc
def mPush (M M' : mSt) (g' : Nat → Int32) (c : Nat) : Prop := (∀ i, i < 223 → M'.1 0 i = g' i) ∧ (∀ k, k ≠ 0 → k ≠ 1 → k ≠ 2 → M'.1 k = M.1 k) ∧ hPush (M.1 2) (M'.1 2) c (M.1 0) ∧ M'.2 = (upS (upS M 14 0) 3 (Int32.ofNat (hLen c))).2
/-- the history moved on by one place, k numbers of it -/
def shN (M : mSt) (n : Nat) : mSt := (fun k i => if k = 2 then (if i < n then M.1 2 (i + 223) else M.1 2 i) else M.1 k i, M.2)
theorem shN_0 (M : mSt) : shN M 0 = M := by
  refine Prod.ext (funext fun k => funext fun i => ?_) rfl
  show (if k = 2 then (if i < 0 then _ else M.1 2 i) else M.1 k i) = M.1 k i
  by_cases h : k = 2
  · rw [if_pos h, if_neg (Nat.not_lt_zero i), h]
  · rw [if_neg h]
theorem shN_s {M : mSt} {n : Nat} : upA (shN M n) 2 n (M.1 2 (n + 223)) = shN M (n + 1) := by
  refine Prod.ext (funext fun k => funext fun i => ?_) rfl
  by_cases h : k = 2
  · have e1 : (upA (shN M n) 2 n (M.1 2 (n + 223))).1 k i = if i = n then M.1 2 (n + 223) else if i < n then M.1 2 (i + 223) else M.1 2 i := by simp [upA, shN, h]
    have e2 : (shN M (n + 1)).1 k i = if i < n + 1 then M.1 2 (i + 223) else M.1 2 i := by simp [shN, h]
    rw [e1, e2]
    by_cases h2 : i = n
    · rw [if_pos h2, if_pos (by omega), h2]
    · rw [if_neg h2]
      exact ifc ⟨fun q => by omega, fun q => by omega⟩
  · simp [upA, shN, h]
theorem shN_lt {M : mSt} {n i : Nat} (h : i < n) : (shN M n).1 2 i = M.1 2 (i + 223) := by
  show (if 2 = 2 then (if i < n then M.1 2 (i + 223) else M.1 2 i) else M.1 2 i) = _
  rw [if_pos rfl, if_pos h]
theorem shN_ge {M : mSt} {n i : Nat} (h : ¬ i < n) : (shN M n).1 2 i = M.1 2 i := by
  show (if 2 = 2 then (if i < n then M.1 2 (i + 223) else M.1 2 i) else M.1 2 i) = _
  rw [if_pos rfl, if_neg h]
theorem shN_n {M : mSt} {n k : Nat} (h : k ≠ 2) : (shN M n).1 k = M.1 k := by
  funext i
  show (if k = 2 then (if i < n then M.1 2 (i + 223) else M.1 2 i) else M.1 k i) = _
  rw [if_neg h]
theorem shN_r {M : mSt} {n : Nat} : (shN M n).1 2 (n + 223) = M.1 2 (n + 223) := shN_ge (by omega)
theorem cpN_o {M : mSt} {k1 p1 k2 p2 n k : Nat} (h : k ≠ k2) : (cpN M k1 p1 k2 p2 n).1 k = M.1 k := by
  funext i
  show (if k = k2 then (if p2 ≤ i ∧ i < p2 + n then M.1 k1 (p1 + (i - p2)) else M.1 k2 i) else M.1 k i) = _
  rw [if_neg h]
theorem cpN_i {M : mSt} {k1 p1 k2 p2 n i : Nat} (h1 : p2 ≤ i) (h2 : i < p2 + n) : (cpN M k1 p1 k2 p2 n).1 k2 i = M.1 k1 (p1 + (i - p2)) := by
  show (if k2 = k2 then (if p2 ≤ i ∧ i < p2 + n then M.1 k1 (p1 + (i - p2)) else M.1 k2 i) else M.1 k2 i) = _
  rw [if_pos rfl, if_pos ⟨h1, h2⟩]
theorem cpN_x {M : mSt} {k1 p1 k2 p2 n i : Nat} (h : ¬ (p2 ≤ i ∧ i < p2 + n)) : (cpN M k1 p1 k2 p2 n).1 k2 i = M.1 k2 i := by
  show (if k2 = k2 then (if p2 ≤ i ∧ i < p2 + n then M.1 k1 (p1 + (i - p2)) else M.1 k2 i) else M.1 k2 i) = _
  rw [if_pos rfl, if_neg h]
theorem setG_n {M : mSt} {g : Nat → Int32} {k : Nat} (h : k ≠ 0) : (setG M g).1 k = M.1 k := by
  show (if k = 0 then g else M.1 k) = _
  rw [if_neg h]
theorem upS_1 {M : mSt} {k : Nat} {x : Int32} : (upS M k x).1 = M.1 := rfl
section MK
variable {G : gE} {z : hSt} {a : Nat} {A : Nat → Nat} {M : mSt} {g : Nat → Int32} {PX : Nat → Nat → hSt → Prop} {P : Int32 → hSt → Prop}
theorem x_keptT (h : mOK G a A) {c : Nat} (hc : c < 6) (h3 : M.2 3 = Int32.ofNat c) {v : Int32} (hk : P v (mz z a A (upS (cpN M 1 0 2 (c * 223) 223) 3 (Int32.ofNat (c + 1))))) : wX5_keptb72 G P PX (some a) v (mz z a A M) := by
  unfold wX5_keptb72
  rw [m_g1, m_g2, m_i3, h3, show (223 : Int32) = Int32.ofNat 223 from rfl, i_mul]
  refine x_copy h (n1 := 223) (n2 := 1338) (p1 := 0) (by decide) (by decide) (by decide) (by omega) (by omega) ?_
  rw [m_i3, m_p3 h]
  show P v (mz z a A (upS (cpN M 1 0 2 (c * 223) 223) 3 (M.2 3 + 1)))
  rw [h3, i_succ]
  exact hk
theorem x_kept0 (h : mOK G a A) {n v : Int32} (hn : M.2 14 = n) (hn0 : n ≠ 0) (hk : P 0 (mz z a A (cpN M 1 0 0 0 223))) : wX5_kept G P PX (some a) v (mz z a A M) := by
  unfold wX5_kept wX5_keptb0
  rw [m_i14, hn]
  refine ⟨fun q => absurd q hn0, fun _ => ?_⟩
  rw [m_g1, m_g0]
  exact x_copy h (n1 := 223) (n2 := 223) (p1 := 0) (p2 := 0) (by decide) (by decide) (by decide) (by omega) (by omega) hk
theorem x_kept1 (h : mOK G a A) {c : Nat} (hc : c ≤ 6) (h3 : M.2 3 = Int32.ofNat c) {v : Int32} (hn : M.2 14 = 0) (hk : ∀ M', (∀ k, k ≠ 2 → M'.1 k = M.1 k) → hPush (M.1 2) (M'.1 2) c (M.1 1) → M'.2 = (upS M 3 (Int32.ofNat (hLen c))).2 → P v (mz z a A M')) : wX5_kept G P PX (some a) v (mz z a A M) := by
  unfold wX5_kept wX5_keptb0
  rw [m_i14, hn]
  refine ⟨fun _ => ?_, fun q => absurd rfl q⟩
  rw [m_i3, h3, show (6 : Int32) = Int32.ofNat 6 from rfl, i_eq (by omega) (by omega)]
  refine ⟨fun q => ?_, fun q => ?_⟩
  · refine x_keptT h (by omega) h3 (hk _ (fun k h2 => by rw [upS_1, cpN_o h2]) ⟨fun _ => ⟨fun j hj i hi => ?_, fun i hi => ?_⟩, fun w => absurd w q⟩ ?_)
    · rw [upS_1, cpN_x (by omega)]
    · rw [upS_1, cpN_i (by omega) (by omega)]
      exact congrArg _ (by omega)
    · unfold hLen
      rw [if_neg q]
      rfl
  · subst q
    refine lp_det 1115 (fun n => (some a, v, Int32.ofNat n, mz z a A (shN M n))) (fun y => 1115 - y.2.2.1.toNatClampNeg) (fun n hn => by show 1115 - (Int32.ofNat n).toNatClampNeg = _; rw [i_nat (by omega)]) (by rw [shN_0]; rfl) ?_
    intro n hn K hK
    unfold wX5_keptb33
    dsimp only
    rw [show (1115 : Int32) = Int32.ofNat 1115 from rfl, i_le (by omega) (by omega), show (223 : Int32) = Int32.ofNat 223 from rfl]
    refine ⟨fun q => ?_, fun q => ?_⟩
    · have : n = 1115 := by omega
      subst this
      rw [m_i3, m_p3 h]
      have e3 : (shN M 1115).2 3 - 1 = Int32.ofNat 5 := by
        show M.2 3 - 1 = _
        rw [h3]
        exact i_sub (a := 6) (b := 1) (by omega)
      rw [e3]
      refine x_keptT h (c := 5) (by omega) rfl (hk _ (fun k h2 => by rw [upS_1, cpN_o h2, upS_1, shN_n h2]) ⟨fun w => absurd w (by omega), fun _ => ⟨fun j hj i hi => ?_, fun i hi => ?_⟩⟩ ?_)
      · rw [upS_1, cpN_x (by omega), upS_1, shN_lt (by omega)]
        exact congrArg _ (by omega)
      · rw [upS_1, cpN_i (by omega) (by omega), upS_1, shN_n (by omega)]
        exact congrArg _ (by omega)
      · funext k
        show (if k = 3 then Int32.ofNat 6 else (if k = 3 then Int32.ofNat 5 else M.2 k)) = (if k = 3 then Int32.ofNat (hLen 6) else M.2 k)
        by_cases hk3 : k = 3
        · rw [if_pos hk3, if_pos hk3]; rfl
        · rw [if_neg hk3, if_neg hk3, if_neg hk3]
    · simp (disch := omega) only [m_g2, m_a2 h, m_s2 h, i_add, i_nat, iv, true_and, nar_i, shN_r, shN_s, i_succ]
      exact hK (by omega)
/-- behind an order, from the numbers looked back to -/
theorem y_back (h : mOK G a A) {sc : mSt → mSt} {v : Int32} (hs1 : ∀ N : mSt, (sc N).1 = N.1) (hs2 : ∀ N N' : mSt, N.2 = N'.2 → (sc N).2 = (sc N').2) (g' : Nat → Int32) (hn : (sc M).2 14 ≠ 0) (hk : ∀ M', mBack M M' (sc M).2 → P 0 (mz z a A M')) : wX5_kept G P PX (some a) v (mz z a A (setG (sc (cpN M 0 0 1 0 223)) g')) := by
  have e2 : (sc (cpN M 0 0 1 0 223)).2 = (sc M).2 := hs2 _ _ rfl
  have e1 := hs1 (cpN M 0 0 1 0 223)
  refine x_kept0 h (n := (sc M).2 14) (by show (sc (cpN M 0 0 1 0 223)).2 14 = _; rw [e2]) hn (hk _ ⟨fun i hi => ?_, fun k h0 h1 => ?_, e2⟩)
  · rw [cpN_i (by omega) (by omega), setG_n (by omega), e1, cpN_i (by omega) (by omega)]
    exact congrArg _ (by omega)
  · rw [cpN_o h0, setG_n h0, e1, cpN_o h1]
theorem y_push (h : mOK G a A) {c : Nat} (hc : c ≤ 6) (h3 : M.2 3 = Int32.ofNat c) {v : Int32} {g' : Nat → Int32} (hk : ∀ M', mPush M M' g' c → P v (mz z a A M')) : wX5_kept G P PX (some a) v (mz z a A (setG (upS (cpN M 0 0 1 0 223) 14 0) g')) := by
  refine x_kept1 h hc (by show (if 3 = 14 then 0 else M.2 3) = _; rw [if_neg (by omega)]; exact h3) rfl (fun M' h1 h2 h4 => hk M' ⟨fun i hi => by rw [h1 0 (by omega), setG_0], fun k k0 k1 k2 => by rw [h1 k k2, setG_n k0, upS_1, cpN_o k1], ⟨fun w => ⟨fun j hj i hi => ?_, fun i hi => ?_⟩, fun w => ⟨fun j hj i hi => ?_, fun i hi => ?_⟩⟩, h4⟩)
  · rw [(h2.1 w).1 j hj i hi, setG_n (by omega), upS_1, cpN_o (by omega)]
  · rw [(h2.1 w).2 i hi, setG_n (by omega), upS_1, cpN_i (by omega) (by omega)]
    exact congrArg _ (by omega)
  · rw [(h2.2 w).1 j hj i hi, setG_n (by omega), upS_1, cpN_o (by omega)]
  · rw [(h2.2 w).2 i hi, setG_n (by omega), upS_1, cpN_i (by omega) (by omega)]
    exact congrArg _ (by omega)
end MK
