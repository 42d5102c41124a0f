/-! the model's orders -/
set_option maxRecDepth 100000
theorem ifc {α : Type} {c d : Prop} [Decidable c] [Decidable d] {x y : α} (h : c ↔ d) : (if c then x else y) = if d then x else y := by
  by_cases q : c
  · rw [if_pos q, if_pos (h.mp q)]
  · rw [if_neg q, if_neg fun w => q (h.mpr w)]
def setG (M : mSt) (g : Nat → Int32) : mSt := (fun k => if k = 0 then g else M.1 k, M.2)
theorem setG_self (M : mSt) : setG M (M.1 0) = M := by
  refine Prod.ext (funext fun k => ?_) rfl
  show (if k = 0 then M.1 0 else M.1 k) = M.1 k
  by_cases h : k = 0
  · rw [if_pos h, h]
  · rw [if_neg h]
theorem setG_0 {M : mSt} {g : Nat → Int32} : (setG M g).1 0 = g := rfl
theorem setG_2 {M : mSt} {g : Nat → Int32} : (setG M g).2 = M.2 := rfl
theorem upA_setG {M : mSt} {g : Nat → Int32} {i : Nat} {x : Int32} : upA (setG M g) 0 i x = setG M (gu g i x) := by
  refine Prod.ext (funext fun k => funext fun j => ?_) rfl
  show (if k = 0 then (if j = i then x else (setG M g).1 k j) else (setG M g).1 k j) = (if k = 0 then gu g i x else M.1 k) j
  by_cases h : k = 0
  · subst h
    simp [gu, upd, setG]
  · simp [h, setG]
theorem upS_setG {M : mSt} {g : Nat → Int32} {k : Nat} {x : Int32} : upS (setG M g) k x = setG (upS M k x) g := rfl
section MO
variable {G : gE} {z : hSt} {a : Nat} {A : Nat → Nat} {M : mSt} {g : Nat → Int32} {PX : Nat → Nat → hSt → Prop} {P : Int32 → hSt → Prop}
theorem x_placeOf (h : mOK G a A) (hg : gOK g) {k t : Int32} (h1 : ∀ e, isF g k t e → P (Int32.ofNat e) (mz z a A (setG M g))) (h2 : noF g k t → P (-1) (mz z a A (setG M g))) : wX5_placeOf G P PX (some a) k t (mz z a A (setG M g)) := by
  unfold wX5_placeOf wX5_placeOfb0
  refine ⟨fun y => ∃ e, e ≤ cnt g ∧ (∀ j, j < e → ¬ (g (6 + j) = k ∧ g (18 + j) = t)) ∧ y = (some a, k, t, Int32.ofNat e, mz z a A (setG M g)), fun y => 12 - y.2.2.2.1.toNatClampNeg, ⟨0, Nat.zero_le _, fun j hj => absurd hj (Nat.not_lt_zero j), rfl⟩, ?_⟩
  rintro y ⟨e, he, hj, rfl⟩
  have hc := hg.1.1
  unfold wX5_placeOfb2 wX5_placeOfb40
  dsimp only
  simp (disch := omega) only [m_g0, m_a0 h, it0, iz0, setG_0, hg.1.2, true_and, i_le]
  refine ⟨fun h9 => h2 fun j hj2 => hj j (by omega), fun h9 => ?_⟩
  simp (disch := omega) only [ix6, ix18, i_nat, iv, true_and, i_succ]
  have hnext : ¬ (g (6 + e) = k ∧ g (18 + e) = t) → (∃ e', e' ≤ cnt g ∧ (∀ j, j < e' → ¬ (g (6 + j) = k ∧ g (18 + j) = t)) ∧ ((some a, k, t, Int32.ofNat (e + 1), mz z a A (setG M g)) : Option Nat × Int32 × Int32 × Int32 × hSt) = (some a, k, t, Int32.ofNat e', mz z a A (setG M g))) ∧ 12 - (e + 1) < 12 - e := fun hn => ⟨⟨e + 1, by omega, fun j hj3 => by
    by_cases q : j = e
    · subst q; exact hn
    · exact hj j (by omega), rfl⟩, by omega⟩
  refine ⟨fun q => hnext fun w => q w.1, fun q1 => ⟨fun q => hnext fun w => q w.2, fun q2 => h1 e ⟨by omega, q1, q2, hj⟩⟩⟩
theorem ofNat_ne_neg {e : Nat} (h : e < 2147483648) : ¬ Int32.ofNat e = -1 := fun q => by
  have := congrArg Int32.toInt q
  rw [i_toInt h] at this
  have h9 : (-1 : Int32).toInt = -1 := rfl
  omega
/-- refused, failed, done: the model's numbers -/
def mF (M : mSt) (n : Int32) : mSt := upS (upS M 14 n) 11 0
def mR (M : mSt) (r d n : Int32) : mSt := upS (upS (upS (upS M 9 r) 10 d) 14 n) 11 1
def mO (P : Int32 → hSt → Prop) (z : hSt) (a : Nat) (A : Nat → Nat) (M : mSt) (g : Nat → Int32) (n : Int32) : oR → Prop
  | .inl (r, d) => P 0 (mz z a A (setG (mR M r d n) g))
  | .inr (v, g') => P v (mz z a A (setG (upS M 14 0) g'))
theorem y_fails (h : mOK G a A) {v : Int32} : wX5_fails G P PX (some a) v (mz z a A (setG M g)) ↔ P 0 (mz z a A (setG (mF M v) g)) := x_fails h
theorem y_refused (h : mOK G a A) {r d v : Int32} : wX5_refused G P PX (some a) r d v (mz z a A (setG M g)) ↔ P 0 (mz z a A (setG (mR M r d v) g)) := x_refused h
theorem y_done (h : mOK G a A) {v : Int32} : wX5_done G P PX (some a) v (mz z a A (setG M g)) ↔ P v (mz z a A (setG (upS M 14 0) g)) := x_done h
abbrev isP (v : Int32) : Prop := ¬ v < 0 ∧ ¬ 5 < v
abbrev isS (v : Int32) : Prop := ¬ v < 0 ∧ ¬ 2 < v
abbrev isX (k t : Int32) : Prop := (¬ k < 0 ∧ ¬ 3 < k) ∧ (¬ t < 0 ∧ ¬ 9 < t)
abbrev isL (v : Int32) : Prop := ¬ v < 1 ∧ ¬ 9 < v
abbrev isE (v : Int32) : Prop := ¬ v < 0 ∧ ¬ 9 < v
theorem x_enters (h : mOK G a A) (hg : gOK g) {p k t q : Int32} (f1 : ¬ isP p → P 0 (mz z a A (setG (mF M 1) g))) (f2 : isP p → ¬ (isX k t ∧ isL q) → P 0 (mz z a A (setG (mF M 2) g))) (hk : isP p → isX k t → isL q → ∀ o, sEnter g p k t q o → mO P z a A M g 3 o) : wX5_enters G P PX (some a) p k t q (mz z a A (setG M g)) := by
  have hc := hg.1.1
  unfold wX5_enters wX5_entersb0 wX5_entersb32
  simp only [x_isPupil, x_isExcuse, x_in, br_0, br_1, m_rc, true_and, y_fails h]
  refine ⟨fun c1 => ⟨fun c2 => f2 c1 fun w => c2 w.1, fun c2 => ⟨fun c3 => ?_, fun c3 => f2 c1 fun w => c3 w.2⟩⟩, fun c1 => f1 c1⟩
  have ho := hk c1 c2 c3
  simp (disch := omega) only [m_g0, m_a0 h, it0, iz0, setG_0, hg.1.2, true_and, m_rc, y_refused h]
  rw [show (12 : Int32) = Int32.ofNat 12 from rfl, i_eq (by omega) (by omega)]
  refine ⟨fun h12 => x_placeOf h hg (fun e he => ?_) (fun hn => ?_), fun h12 => ho _ (Or.inl ⟨h12, rfl⟩)⟩
  · have he12 : e < 12 := Nat.lt_of_lt_of_le he.1 hc
    refine ⟨fun q9 => absurd q9 (ofNat_ne_neg (by omega)), fun _ => ?_⟩
    simp (disch := omega) only [m_g0, m_a0 h, ix30, i_nat, iv, setG_0, true_and, m_rc, y_refused h]
    exact ho _ (Or.inr (Or.inl ⟨h12, e, he, rfl⟩))
  · refine ⟨fun _ => ?_, fun q9 => absurd rfl q9⟩
    simp (disch := omega) only [m_g0, m_a0 h, m_s0 h, ix6, ix18, ix30, ix54, ix66, it0, iz0, i_nat, iv, setG_0, true_and, m_rc, y_done h, upA_setG, nar_i]
    have e0 : gu (gu (gu (gu (gu g (6 + cnt g) k) (18 + cnt g) t) (30 + cnt g) q) (54 + cnt g) p) (66 + cnt g) p 0 = g 0 := by
      rw [gu_n (by omega), gu_n (by omega), gu_n (by omega), gu_n (by omega), gu_n (by omega)]
    rw [gu_s, e0]
    exact ho _ (Or.inr (Or.inr ⟨h12, hn, rfl⟩))
theorem strG_0 {g : Nat → Int32} {e : Nat} : strG g e 0 = g 0 - 1 := rfl
/-- the rows of the struck excuse, up to the row r, and in it up to k -/
def strR (g : Nat → Int32) (e r k : Nat) : Nat → Int32 := fun i => if i = 0 then g 0 - 1 else if 6 ≤ i ∧ i < 114 ∧ e ≤ (i - 6) % 12 ∧ ((i - 6) / 12 < r ∨ ((i - 6) / 12 = r ∧ (i - 6) % 12 < k)) then (if (i - 6) % 12 < 11 then g (i + 1) else 0) else g i
theorem strR_end {g : Nat → Int32} {e : Nat} : strR g e 9 e = strG g e := by
  funext i
  unfold strR strG
  by_cases h0 : i = 0
  · rw [if_pos h0, if_pos h0]
  · rw [if_neg h0, if_neg h0]
    exact ifc ⟨fun q => ⟨q.1, q.2.1, q.2.2.1⟩, fun q => ⟨q.1, q.2.1, q.2.2, Or.inl (by omega)⟩⟩
theorem strR_row {g : Nat → Int32} {e r : Nat} (he : e < 12) : strR g e r 12 = strR g e (r + 1) e := by
  funext i
  unfold strR
  by_cases h0 : i = 0
  · rw [if_pos h0, if_pos h0]
  · rw [if_neg h0, if_neg h0]
    exact ifc ⟨fun q => ⟨q.1, q.2.1, q.2.2.1, by omega⟩, fun q => ⟨q.1, q.2.1, q.2.2.1, by omega⟩⟩
theorem strR_step {g : Nat → Int32} {e r k : Nat} (hr : r < 9) (hk : k < 12) (hek : e ≤ k) : gu (strR g e r k) (6 + r * 12 + k) (if k < 11 then g (6 + r * 12 + k + 1) else 0) = strR g e r (k + 1) := by
  funext i
  by_cases hi : i = 6 + r * 12 + k
  · subst hi
    rw [gu_s]
    have e1 : (6 + r * 12 + k - 6) % 12 = k := by omega
    have e2 : (6 + r * 12 + k - 6) / 12 = r := by omega
    have n0 : ¬ 6 + r * 12 + k = 0 := by omega
    have c0 : 6 ≤ 6 + r * 12 + k ∧ 6 + r * 12 + k < 114 ∧ e ≤ (6 + r * 12 + k - 6) % 12 ∧ ((6 + r * 12 + k - 6) / 12 < r ∨ ((6 + r * 12 + k - 6) / 12 = r ∧ (6 + r * 12 + k - 6) % 12 < k + 1)) := ⟨by omega, by omega, by omega, by omega⟩
    unfold strR
    rw [if_neg n0, if_pos c0, e1]
  · rw [gu_n hi]
    unfold strR
    by_cases h0 : i = 0
    · rw [if_pos h0, if_pos h0]
    · rw [if_neg h0, if_neg h0]
      exact ifc ⟨fun q => ⟨q.1, q.2.1, q.2.2.1, by omega⟩, fun q => ⟨q.1, q.2.1, q.2.2.1, by omega⟩⟩
theorem strR_read {g : Nat → Int32} {e r k : Nat} (hr : r < 9) (hk : k < 11) (hek : e ≤ k) : strR g e r k (6 + r * 12 + k + 1) = g (6 + r * 12 + k + 1) := by
  unfold strR
  rw [if_neg (by omega), if_neg (by omega)]
theorem x_strikes (h : mOK G a A) (hg : gOK g) {k t : Int32} (f1 : ¬ isX k t → P 0 (mz z a A (setG (mF M 1) g))) (hk : isX k t → ∀ o, sStrike g k t o → mO P z a A M g 2 o) : wX5_strikes G P PX (some a) k t (mz z a A (setG M g)) := by
  have hc := hg.1.1
  unfold wX5_strikes wX5_strikesb0
  simp only [x_isExcuse, br_0, br_1, m_rc, true_and, y_fails h]
  refine ⟨fun c1 => x_placeOf h hg (fun e he => ?_) (fun hn => ?_), fun c1 => f1 c1⟩
  · have he12 : e < 12 := Nat.lt_of_lt_of_le he.1 hc
    refine ⟨fun _ => ?_, fun q9 => absurd q9 (ofNat_ne_neg (by omega))⟩
    simp (disch := omega) only [m_g0, m_a0 h, m_s0 h, ix102, ix66, it0, iz0, i_nat, iv, setG_0, true_and, m_rc, y_refused h, upA_setG, nar_i]
    refine ⟨fun q => ?_, fun q => hk c1 _ (Or.inr ⟨e, he, Or.inl ⟨q, rfl⟩⟩)⟩
    have hfin := hk c1 _ (Or.inr ⟨e, he, Or.inr ⟨q, rfl⟩⟩)
    have hst0 : gu g 0 (g 0 - 1) = strR g e 0 e := by
      funext i
      unfold strR
      by_cases h0 : i = 0
      · subst h0; rw [gu_s, if_pos rfl]
      · rw [gu_n h0, if_neg h0]
        by_cases h1 : 6 ≤ i ∧ i < 114 ∧ e ≤ (i - 6) % 12 ∧ ((i - 6) / 12 < 0 ∨ ((i - 6) / 12 = 0 ∧ (i - 6) % 12 < e))
        · exact absurd h1 (by omega)
        · rw [if_neg h1]
    rw [hst0]
    refine lp_det 9 (fun r => (some a, Int32.ofNat e, Int32.ofNat (6 + r * 12), mz z a A (setG M (strR g e r e)))) (fun y => 9 - (y.2.2.1.toNatClampNeg - 6) / 12) (fun r hr => by show 9 - ((Int32.ofNat (6 + r * 12)).toNatClampNeg - 6) / 12 = _; rw [i_nat (by omega)]; omega) rfl ?_
    intro r hr K hK
    unfold wX5_strikesb82
    dsimp only
    rw [show (114 : Int32) = Int32.ofNat 114 from rfl, i_le (by omega) (by omega)]
    refine ⟨fun q9 => ?_, fun q9 => ?_⟩
    · have hr9 : r = 9 := by omega
      subst hr9
      simp (disch := omega) only [m_g0, m_a0 h, it0, iz0, setG_0, true_and, m_rc, y_done h, strR_end, strG_0]
      exact hfin
    · refine lp_from e 12 (by omega) (fun k => (some a, Int32.ofNat e, Int32.ofNat (6 + r * 12), Int32.ofNat k, mz z a A (setG M (strR g e r k)))) (fun y => 12 - y.2.2.2.1.toNatClampNeg) (fun k hk1 hk2 => by show 12 - (Int32.ofNat k).toNatClampNeg = _; rw [i_nat (by omega)]) rfl ?_
      intro k hk1 hk2 K2 hK2
      unfold wX5_strikesb92 wX5_strikesb131
      dsimp only
      rw [show (12 : Int32) = Int32.ofNat 12 from rfl, show (11 : Int32) = Int32.ofNat 11 from rfl, show (1 : Int32) = Int32.ofNat 1 from rfl, i_le (by omega) (by omega), i_le (by omega) (by omega)]
      refine ⟨fun q => ?_, fun q => ?_⟩
      · have : k = 12 := by omega
        subst this
        rw [i_add, strR_row he12, show 6 + r * 12 + 12 = 6 + (r + 1) * 12 by omega]
        exact hK (by omega)
      · simp (disch := omega) only [m_g0, m_a0 h, m_s0 h, i_add, i_nat, iv, setG_0, true_and, upA_setG, nar_i]
        have hnx := hK2 (by omega)
        rw [← strR_step (by omega) (by omega) hk1] at hnx
        refine ⟨fun q2 => ?_, fun q2 => ?_⟩
        · rw [if_neg (by omega)] at hnx
          exact hnx
        · rw [if_pos (by omega)] at hnx
          rw [strR_read (by omega) (by omega) hk1]
          exact hnx
  · refine ⟨fun q9 => absurd rfl q9, fun _ => ?_⟩
    simp (disch := omega) only [m_g0, m_a0 h, it0, iz0, setG_0, true_and, m_rc, y_refused h]
    exact hk c1 _ (Or.inl ⟨hn, rfl⟩)
theorem x_goesBack (h : mOK G a A) {e : Nat} (he : e < 12) {P : hSt → Prop} : wX5_goesBack G P PX (some a) (Int32.ofNat e) (mz z a A (setG M g)) ↔ P (mz z a A (setG M (bakG g e))) := by
  unfold wX5_goesBack wX5_goesBackb0
  simp (disch := omega) only [m_g0, m_a0 h, m_s0 h, ix54, ix66, ix102, i_nat, iv, setG_0, true_and, upA_setG, nar_i]
  rfl
theorem x_givesBack (h : mOK G a A) (hg : gOK g) {k t : Int32} (f1 : ¬ isX k t → P 0 (mz z a A (setG (mF M 1) g))) (hk : isX k t → ∀ o, sBack g k t o → mO P z a A M g 2 o) : wX5_givesBack G P PX (some a) k t (mz z a A (setG M g)) := by
  have hc := hg.1.1
  unfold wX5_givesBack wX5_givesBackb0
  simp only [x_isExcuse, br_0, br_1, m_rc, true_and, y_fails h]
  refine ⟨fun c1 => x_placeOf h hg (fun e he => ?_) (fun hn => ?_), fun c1 => f1 c1⟩
  · have he12 : e < 12 := Nat.lt_of_lt_of_le he.1 hc
    refine ⟨fun _ => ?_, fun q9 => absurd q9 (ofNat_ne_neg (by omega))⟩
    simp (disch := omega) only [m_g0, m_a0 h, ix102, ix66, i_nat, iv, setG_0, true_and, m_rc, y_refused h, x_goesBack h he12, y_done h]
    exact ⟨fun q => hk c1 _ (Or.inr ⟨e, he, Or.inr ⟨q, rfl⟩⟩), fun q => hk c1 _ (Or.inr ⟨e, he, Or.inl ⟨q, rfl⟩⟩)⟩
  · refine ⟨fun q9 => absurd rfl q9, fun _ => ?_⟩
    simp (disch := omega) only [m_g0, m_a0 h, it0, iz0, setG_0, true_and, m_rc, y_refused h]
    exact hk c1 _ (Or.inl ⟨hn, rfl⟩)
theorem x_mends (h : mOK G a A) (hg : gOK g) {k t q : Int32} (f1 : ¬ (isX k t ∧ isL q) → P 0 (mz z a A (setG (mF M 1) g))) (hk : isX k t → isL q → ∀ o, sMend g k t q o → mO P z a A M g 2 o) : wX5_mends G P PX (some a) k t q (mz z a A (setG M g)) := by
  have hc := hg.1.1
  unfold wX5_mends wX5_mendsb0 wX5_mendsb18
  simp only [x_isExcuse, x_in, br_0, br_1, m_rc, true_and, y_fails h]
  refine ⟨fun c1 => f1 fun w => c1 w.1, fun c1 => ⟨fun c2 => x_placeOf h hg (fun e he => ?_) (fun hn => ?_), fun c2 => f1 fun w => c2 w.2⟩⟩
  · have he12 : e < 12 := Nat.lt_of_lt_of_le he.1 hc
    obtain ⟨-, -, -, hd1, hd2⟩ := hg.2 e he.1
    refine ⟨fun _ => ?_, fun q9 => absurd q9 (ofNat_ne_neg (by omega))⟩
    simp (disch := omega) only [m_g0, m_a0 h, ix42, ix66, i_nat, iv, setG_0, true_and, m_rc, y_refused h]
    refine ⟨fun w1 => ?_, fun w1 => hk c1 c2 _ (Or.inr ⟨e, he, Or.inl ⟨w1, rfl⟩⟩)⟩
    rw [hd2]
    simp (disch := omega) only [m_g0, m_a0 h, m_s0 h, ix42, ix114, it3, iz3, i_nat, iv, setG_0, true_and, m_rc, y_refused h, y_done h, upA_setG, nar_i]
    refine ⟨fun w2 => ?_, fun w2 => hk c1 c2 _ (Or.inr ⟨e, he, Or.inr ⟨w1, Or.inl ⟨w2, rfl⟩⟩⟩)⟩
    have hfin := hk c1 c2 _ (Or.inr ⟨e, he, Or.inr ⟨w1, Or.inr ⟨w2, rfl⟩⟩⟩)
    have e1 : gu g (114 + dOf g e) (g (114 + dOf g e) - q) 3 = g 3 := gu_n (by omega)
    have e2 : gu (gu g (114 + dOf g e) (g (114 + dOf g e) - q)) 3 (g 3 + q) (42 + e) = g (42 + e) := by rw [gu_n (by omega), gu_n (by omega)]
    rw [e1, e2, gu_s]
    exact hfin
  · refine ⟨fun q9 => absurd rfl q9, fun _ => ?_⟩
    simp (disch := omega) only [m_g0, m_a0 h, it0, iz0, setG_0, true_and, m_rc, y_refused h]
    exact hk c1 c2 _ (Or.inl ⟨hn, rfl⟩)
theorem x_stricts (h : mOK G a A) {v x : Int32} (f1 : ¬ isS v → P 0 (mz z a A (setG (mF M 1) g))) (f2 : isS v → ¬ isL x → P 0 (mz z a A (setG (mF M 2) g))) (hk : ∀ s : Nat, v = Int32.ofNat s → s < 3 → isL x → ∀ o, sStrict g s x o → mO P z a A M g 3 o) : wX5_stricts G P PX (some a) v x (mz z a A (setG M g)) := by
  unfold wX5_stricts wX5_strictsb0
  simp only [x_isSchool, x_in, br_0, br_1, m_rc, true_and, y_fails h]
  refine ⟨fun c1 => ⟨fun c2 => ?_, fun c2 => f2 c1 c2⟩, fun c1 => f1 c1⟩
  obtain ⟨s, hs, rfl⟩ := i_of (n := 2) c1.1 c1.2 (by omega)
  have hk := hk s rfl (by omega) c2
  simp (disch := omega) only [m_g0, m_a0 h, m_s0 h, ix132, i_nat, iv, setG_0, true_and, m_rc, y_refused h, y_done h, upA_setG, nar_i]
  exact ⟨fun q => hk _ (Or.inr ⟨q, rfl⟩), fun q => hk _ (Or.inl ⟨q, rfl⟩)⟩
theorem x_weathers (h : mOK G a A) {t : Int32} (f1 : ¬ isE t → P 0 (mz z a A (setG (mF M 1) g))) (hk : isE t → ∀ o, sWeather g t o → mO P z a A M g 2 o) : wX5_weathers G P PX (some a) t (mz z a A (setG M g)) := by
  unfold wX5_weathers wX5_weathersb0
  simp only [x_in, br_0, br_1, m_rc, true_and, y_fails h]
  refine ⟨fun c1 => ?_, fun c1 => f1 c1⟩
  simp (disch := omega) only [m_g0, m_a0 h, m_s0 h, it2, iz2, setG_0, true_and, m_rc, y_refused h, y_done h, upA_setG, nar_i]
  exact ⟨fun q => hk c1 _ (Or.inr ⟨q, rfl⟩), fun q => hk c1 _ (Or.inl ⟨q, rfl⟩)⟩
end MO
