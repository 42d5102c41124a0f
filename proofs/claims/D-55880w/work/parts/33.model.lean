/-! what the model's methods do, on the numbers -/
set_option maxRecDepth 100000
/-- a copied stretch, n of it -/
def cpN (M : mSt) (k1 p1 k2 p2 n : Nat) : mSt := (fun k i => if k = k2 then (if p2 ≤ i ∧ i < p2 + n then M.1 k1 (p1 + (i - p2)) else M.1 k2 i) else M.1 k i, M.2)
theorem cpN_0 (M : mSt) (k1 p1 k2 p2 : Nat) : cpN M k1 p1 k2 p2 0 = M := by
  refine Prod.ext (funext fun k => funext fun i => ?_) rfl
  show (if k = k2 then _ else _) = _
  by_cases h : k = k2
  · subst h
    rw [if_pos rfl, if_neg (by omega)]
  · rw [if_neg h]
theorem cpN_s {M : mSt} {k1 p1 k2 p2 n : Nat} (hk : k1 ≠ k2) : upA (cpN M k1 p1 k2 p2 n) k2 (p2 + n) (M.1 k1 (p1 + n)) = cpN M k1 p1 k2 p2 (n + 1) := by
  refine Prod.ext (funext fun k => funext fun i => ?_) rfl
  by_cases h : k = k2
  · have e1 : (upA (cpN M k1 p1 k2 p2 n) k2 (p2 + n) (M.1 k1 (p1 + n))).1 k i = if i = p2 + n then M.1 k1 (p1 + n) else if p2 ≤ i ∧ i < p2 + n then M.1 k1 (p1 + (i - p2)) else M.1 k2 i := by simp [upA, cpN, h]
    have e2 : (cpN M k1 p1 k2 p2 (n + 1)).1 k i = if p2 ≤ i ∧ i < p2 + (n + 1) then M.1 k1 (p1 + (i - p2)) else M.1 k2 i := by simp [cpN, h]
    rw [e1, e2]
    by_cases h2 : i = p2 + n
    · have e9 : i - p2 = n := by omega
      have e8 : p2 ≤ i ∧ i < p2 + (n + 1) := by omega
      rw [if_pos h2, if_pos e8, e9]
    · rw [if_neg h2]
      by_cases h3 : p2 ≤ i ∧ i < p2 + n
      · rw [if_pos h3, if_pos (by omega)]
      · rw [if_neg h3, if_neg (by omega)]
  · simp [upA, cpN, h]
theorem cpN_r {M : mSt} {k1 p1 k2 p2 n i : Nat} (hk : k1 ≠ k2) : (cpN M k1 p1 k2 p2 n).1 k1 i = M.1 k1 i := by
  show (if k1 = k2 then _ else _) = _
  rw [if_neg hk]
section MC
variable {G : gE} {z : hSt} {a : Nat} {A : Nat → Nat} {M : mSt} {PX : Nat → Nat → hSt → Prop}
theorem x_copy (h : mOK G a A) {P : hSt → Prop} {k1 n1 p1 k2 n2 p2 : Nat} (h1 : (k1, 0, n1) ∈ mArr) (h2 : (k2, 0, n2) ∈ mArr) (hk : k1 ≠ k2) (b1 : p1 + 223 ≤ n1) (b2 : p2 + 223 ≤ n2) (hP : P (mz z a A (cpN M k1 p1 k2 p2 223))) : wX5_copy G P PX (some (A k1)) (Int32.ofNat p1) (some (A k2)) (Int32.ofNat p2) (mz z a A M) := by
  have hn1 : n1 ≤ 1338 := by
    simp only [mArr, List.mem_cons, List.not_mem_nil, or_false, Prod.mk.injEq] at h1
    omega
  have hn2 : n2 ≤ 1338 := by
    simp only [mArr, List.mem_cons, List.not_mem_nil, or_false, Prod.mk.injEq] at h2
    omega
  unfold wX5_copy wX5_copyb0
  refine lp_det 223 (fun e => (some (A k1), Int32.ofNat p1, some (A k2), Int32.ofNat p2, Int32.ofNat e, mz z a A (cpN M k1 p1 k2 p2 e))) (fun y => 223 - y.2.2.2.2.1.toNatClampNeg) (fun e he => by show 223 - (Int32.ofNat e).toNatClampNeg = _; rw [i_nat (by omega)]) (by rw [cpN_0]; rfl) ?_
  intro e he K hK
  unfold wX5_copyb3
  dsimp only
  rw [show (223 : Int32) = Int32.ofNat 223 from rfl, i_le (by omega) (by omega)]
  refine ⟨fun h9 => ?_, fun h9 => ?_⟩
  · have : e = 223 := by omega
    subst this
    exact hP
  · rw [m_aI h h1, i_add, i_nat (by omega)]
    refine ⟨i_in (by omega) (by omega), ?_⟩
    rw [m_sI h h2, i_add, i_nat (by omega)]
    refine ⟨i_in (by omega) (by omega), ?_⟩
    rw [nar_i, cpN_r hk, cpN_s hk, i_succ]
    exact hK (by omega)
theorem x_in {P : Int32 → hSt → Prop} {v lo hi : Int32} {y : hSt} : wX5_in G P PX v lo hi y ↔ P (if ¬ v < lo ∧ ¬ hi < v then 1 else 0) y := by
  unfold wX5_in wX5_inb0 wX5_inb14
  simp only [ok_0, ok_1, true_and]
  by_cases h1 : v < lo <;> by_cases h2 : hi < v <;> simp [h1, h2]
theorem x_isPupil {P : Int32 → hSt → Prop} {v : Int32} {y : hSt} : wX5_isPupil G P PX v y ↔ P (if ¬ v < 0 ∧ ¬ 5 < v then 1 else 0) y := by
  unfold wX5_isPupil wX5_isPupilb0
  simp only [x_in, ok_bi, true_and]
theorem x_isSchool {P : Int32 → hSt → Prop} {v : Int32} {y : hSt} : wX5_isSchool G P PX v y ↔ P (if ¬ v < 0 ∧ ¬ 2 < v then 1 else 0) y := by
  unfold wX5_isSchool wX5_isSchoolb0
  simp only [x_in, ok_bi, true_and]
theorem x_done (h : mOK G a A) {P : Int32 → hSt → Prop} {v : Int32} : wX5_done G P PX (some a) v (mz z a A M) ↔ P v (mz z a A (upS M 14 0)) := by
  unfold wX5_done wX5_doneb0
  simp only [m_p14 h]
theorem x_fails (h : mOK G a A) {P : Int32 → hSt → Prop} {v : Int32} : wX5_fails G P PX (some a) v (mz z a A M) ↔ P 0 (mz z a A (upS (upS M 14 v) 11 0)) := by
  unfold wX5_fails wX5_failsb0
  simp only [m_p14 h, m_p11 h, ok_0, true_and]
theorem x_refused (h : mOK G a A) {P : Int32 → hSt → Prop} {r d v : Int32} : wX5_refused G P PX (some a) r d v (mz z a A M) ↔ P 0 (mz z a A (upS (upS (upS (upS M 9 r) 10 d) 14 v) 11 1)) := by
  unfold wX5_refused wX5_refusedb0
  simp only [m_p14 h, m_p11 h, m_p9 h, m_p10 h, ok_1, true_and]
theorem x_isExcuse {P : Int32 → hSt → Prop} {k t : Int32} {y : hSt} : wX5_isExcuse G P PX k t y ↔ P (if (¬ k < 0 ∧ ¬ 3 < k) ∧ (¬ t < 0 ∧ ¬ 9 < t) then 1 else 0) y := by
  unfold wX5_isExcuse wX5_isExcuseb0 wX5_isExcuseb23
  simp only [x_in, ok_0, ok_1, true_and, br_0]
  by_cases h1 : ¬ k < 0 ∧ ¬ 3 < k <;> by_cases h2 : ¬ t < 0 ∧ ¬ 9 < t <;> simp only [h1, h2, not_true_eq_false, not_false_eq_true, false_implies, true_implies, and_true, true_and, if_true, if_false, and_false, false_and, and_self]
theorem x_looksBack (h : mOK G a A) {P : hSt → Prop} (hP : P (mz z a A (cpN M 0 0 1 0 223))) : wX5_looksBack G P PX (some a) (mz z a A M) := by
  unfold wX5_looksBack wX5_looksBackb0
  rw [m_g0, m_g1]
  exact x_copy h (n1 := 223) (n2 := 223) (p1 := 0) (p2 := 0) (by decide) (by decide) (by decide) (by omega) (by omega) hP
end MC
-- ===== what the numbers say =====
/-- the excuses' number, as it is told -/
def lft (g : Nat → Int32) (e : Nat) : Int32 := if 0 ≤ g (30 + e) - g (42 + e) then g (30 + e) - g (42 + e) else 0
def hbit (g : Nat → Int32) (s p k t : Nat) : Prop := (g (151 + (s * 6 + p) * 4 + k) >>> (Int32.ofNat t &&& 31)) &&& 1 = 1
def tim (g : Nat → Int32) (e : Nat) : Prop := ¬ g (6 + e) = 1 ∨ g 2 = g (18 + e) + 1
/-- the kind and the topic of the excuse e, whoever owns and holds it -/
def kOf (g : Nat → Int32) (e : Nat) : Nat := (g (6 + e)).toNatClampNeg
def tOf (g : Nat → Int32) (e : Nat) : Nat := (g (18 + e)).toNatClampNeg
def oOf (g : Nat → Int32) (e : Nat) : Nat := (g (54 + e)).toNatClampNeg
def dOf (g : Nat → Int32) (e : Nat) : Nat := (g (66 + e)).toNatClampNeg
def cnt (g : Nat → Int32) : Nat := (g 0).toNatClampNeg
def bel (g : Nat → Int32) (p e s : Nat) : Prop := ¬ hbit g s p (kOf g e) (tOf g e) ∧ ¬ lft g e < g (132 + s) ∧ tim g e
def ovw (g : Nat → Int32) (e : Nat) : Prop := g (6 + e) = 0 ∧ ¬ g (141 + tOf g e) ≤ 1
/-- the numbers are as they should be -/
def gOK (g : Nat → Int32) : Prop := (cnt g ≤ 12 ∧ g 0 = Int32.ofNat (cnt g)) ∧ ∀ e, e < cnt g → (kOf g e < 4 ∧ g (6 + e) = Int32.ofNat (kOf g e)) ∧ (tOf g e < 10 ∧ g (18 + e) = Int32.ofNat (tOf g e)) ∧ (oOf g e < 6 ∧ g (54 + e) = Int32.ofNat (oOf g e)) ∧ (dOf g e < 6 ∧ g (66 + e) = Int32.ofNat (dOf g e))
section MC2
variable {G : gE} {z : hSt} {a : Nat} {A : Nat → Nat} {M : mSt} {PX : Nat → Nat → hSt → Prop}
theorem x_leftOf (h : mOK G a A) {P : Int32 → hSt → Prop} {e : Nat} (he : e < 12) : wX5_leftOf G P PX (some a) (Int32.ofNat e) (mz z a A M) ↔ P (lft (M.1 0) e) (mz z a A M) := by
  unfold wX5_leftOf wX5_leftOfb0
  simp (disch := omega) only [m_g0, m_a0 h, ix30, ix42, i_nat, iv, true_and]
  unfold lft
  by_cases h1 : 0 ≤ M.1 0 (30 + e) - M.1 0 (42 + e) <;> simp [h1]
theorem x_heardAt {P : Int32 → hSt → Prop} {s p k : Nat} {y : hSt} : wX5_heardAt G P PX (Int32.ofNat s) (Int32.ofNat p) (Int32.ofNat k) y ↔ P (Int32.ofNat (151 + (s * 6 + p) * 4 + k)) y := by
  unfold wX5_heardAt wX5_heardAtb0
  rw [show (6 : Int32) = Int32.ofNat 6 from rfl, show (4 : Int32) = Int32.ofNat 4 from rfl, show (151 : Int32) = Int32.ofNat 151 from rfl]
  simp only [i_add, i_mul]
theorem x_isHeard (h : mOK G a A) {P : Int32 → hSt → Prop} {s p k t : Nat} (hs : s < 3) (hp : p < 6) (hk : k < 4) : wX5_isHeard G P PX (some a) (Int32.ofNat s) (Int32.ofNat p) (Int32.ofNat k) (Int32.ofNat t) (mz z a A M) ↔ ((hbit (M.1 0) s p k t → P 1 (mz z a A M)) ∧ (¬ hbit (M.1 0) s p k t → P 0 (mz z a A M))) := by
  unfold wX5_isHeard wX5_isHeardb0
  simp (disch := omega) only [m_g0, x_heardAt, m_a0 h, i_nat, iv, true_and, ok_0, ok_1]
  unfold hbit
  rw [and_comm]
theorem x_isTimely (h : mOK G a A) {P : Int32 → hSt → Prop} {e : Nat} (he : e < 12) : wX5_isTimely G P PX (some a) (Int32.ofNat e) (mz z a A M) ↔ ((tim (M.1 0) e → P 1 (mz z a A M)) ∧ (¬ tim (M.1 0) e → P 0 (mz z a A M))) := by
  unfold wX5_isTimely wX5_isTimelyb0 wX5_isTimelyb33
  simp (disch := omega) only [m_g0, m_a0 h, ix6, ix18, i_nat, iv, it2, iz2, true_and, ok_0, ok_1]
  unfold tim
  by_cases h1 : M.1 0 (6 + e) = 1 <;> by_cases h2 : M.1 0 2 = M.1 0 (18 + e) + 1 <;> simp [h1, h2]
theorem x_isOverworked (h : mOK G a A) (hg : gOK (M.1 0)) {P : Int32 → hSt → Prop} {e : Nat} (he : e < cnt (M.1 0)) : wX5_isOverworked G P PX (some a) (Int32.ofNat e) (mz z a A M) ↔ ((ovw (M.1 0) e → P 1 (mz z a A M)) ∧ (¬ ovw (M.1 0) e → P 0 (mz z a A M))) := by
  have he2 : e < 12 := Nat.lt_of_lt_of_le he hg.1.1
  obtain ⟨hk, ⟨ht, ht2⟩, -⟩ := hg.2 e he
  unfold wX5_isOverworked wX5_isOverworkedb0 wX5_isOverworkedb38
  simp (disch := omega) only [m_g0, m_a0 h, ix6, ix18, i_nat, iv, true_and, ok_0, ok_1, ht2, ix141]
  unfold ovw
  by_cases h1 : M.1 0 (6 + e) = 0 <;> by_cases h2 : M.1 0 (141 + tOf (M.1 0) e) ≤ 1 <;> simp [h1, h2]
theorem x_isBelieved (h : mOK G a A) (hg : gOK (M.1 0)) {P : Int32 → hSt → Prop} {p e s : Nat} (hp : p < 6) (he : e < cnt (M.1 0)) (hs : s < 3) : wX5_isBelieved G P PX (some a) (Int32.ofNat p) (Int32.ofNat e) (Int32.ofNat s) (mz z a A M) ↔ ((bel (M.1 0) p e s → P 1 (mz z a A M)) ∧ (¬ bel (M.1 0) p e s → P 0 (mz z a A M))) := by
  have he2 : e < 12 := Nat.lt_of_lt_of_le he hg.1.1
  obtain ⟨⟨hk, hk2⟩, ⟨ht, ht2⟩, -⟩ := hg.2 e he
  unfold wX5_isBelieved wX5_isBelievedb0 wX5_isBelievedb57
  simp (disch := omega) only [m_g0, m_a0 h, ix6, ix18, i_nat, iv, true_and, ok_0, ok_1, ht2, hk2, m_rc, x_isHeard h hs hp hk, x_leftOf h he2, ix132, x_isTimely h he2]
  unfold bel
  by_cases h1 : hbit (M.1 0) s p (kOf (M.1 0) e) (tOf (M.1 0) e) <;> by_cases h2 : lft (M.1 0) e < M.1 0 (132 + s) <;> by_cases h3 : tim (M.1 0) e <;> simp [h1, h2, h3]
end MC2
