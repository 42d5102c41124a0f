/-! the model's lines of text -/
set_option maxRecDepth 100000
/-- characters, as ints, are what they are -/
theorem nar_c {n : Nat} (h : n < 65536) : vp_nar .char (Int32.ofNat n) = Int32.ofNat n := lg_i2c_small (v := Int32.ofNat n) (by rw [i_toInt (by omega)]; omega) (by rw [i_toInt (by omega)]; omega)
theorem i2c_c {n : Nat} (h : n < 65536) : ((Int32.ofNat n).toUInt32 % 65536).toInt32 = Int32.ofNat n := lg_i2c_word (v := Int32.ofNat n) (by rw [i_toInt (by omega)]; omega) (by rw [i_toInt (by omega)]; omega)
theorem okN_c {n : Nat} (h : n < 65536) : okN .char (Int32.ofNat n) := by
  refine ⟨?_, ?_⟩
  · show Value.int _ = _
    exact congrArg Value.int (lg_i2c_small (v := Int32.ofNat n) (by rw [i_toInt (by omega)]; omega) (by rw [i_toInt (by omega)]; omega))
  · show (decide (0 ≤ Int32.ofNat n) && decide (Int32.ofNat n ≤ 65535)) = true
    rw [show (0 : Int32) = Int32.ofNat 0 from rfl, show (65535 : Int32) = Int32.ofNat 65535 from rfl, decide_eq_true ((i_le (by omega) (by omega)).mpr (by omega)), decide_eq_true ((i_le (by omega) (by omega)).mpr (by omega))]
    rfl
/-- the letters written: the text T (its characters' numbers) -/
def txM (M : mSt) (T : List Nat) : mSt := (fun k i => if k = 12 then ((T[i]?).map Int32.ofNat).getD (M.1 12 i) else M.1 k i, (upS M 13 (Int32.ofNat T.length)).2)
theorem txM_o {M : mSt} {T : List Nat} {k : Nat} (h : k ≠ 12) : (txM M T).1 k = M.1 k := by
  funext i
  show (if k = 12 then _ else M.1 k i) = _
  rw [if_neg h]
theorem txM_12 {M : mSt} {T : List Nat} {i : Nat} : (txM M T).1 12 i = ((T[i]?).map Int32.ofNat).getD (M.1 12 i) := by
  show (if 12 = 12 then ((T[i]?).map Int32.ofNat).getD (M.1 12 i) else M.1 12 i) = _
  rw [if_pos rfl]
theorem txM_0 {M : mSt} : upS M 13 0 = txM M [] := by
  refine Prod.ext (funext fun k => funext fun i => ?_) rfl
  show M.1 k i = (if k = 12 then _ else M.1 k i)
  by_cases h : k = 12
  · subst h; rw [if_pos rfl]; rfl
  · rw [if_neg h]
theorem txM_s {M : mSt} {T : List Nat} {c : Nat} : upS (upA (txM M T) 12 T.length (Int32.ofNat c)) 13 (Int32.ofNat (T.length + 1)) = txM M (T ++ [c]) := by
  refine Prod.ext (funext fun k => funext fun i => ?_) (funext fun k => ?_)
  · show (if k = 12 then (if i = T.length then Int32.ofNat c else (txM M T).1 k i) else (txM M T).1 k i) = (if k = 12 then (((T ++ [c])[i]?).map Int32.ofNat).getD (M.1 12 i) else M.1 k i)
    by_cases h : k = 12
    · subst h
      rw [if_pos rfl, if_pos rfl]
      by_cases h2 : i = T.length
      · rw [if_pos h2, h2, List.getElem?_append_right (Nat.le_refl _), Nat.sub_self]
        rfl
      · rw [if_neg h2]
        rw [txM_12]
        by_cases h3 : i < T.length
        · rw [List.getElem?_append_left h3]
        · rw [List.getElem?_eq_none (by omega), List.getElem?_eq_none (by rw [List.length_append]; simp; omega)]
    · rw [if_neg h, if_neg h, txM_o h]
  · show (if k = 13 then Int32.ofNat (T.length + 1) else (if k = 13 then Int32.ofNat T.length else M.2 k)) = (if k = 13 then Int32.ofNat (T ++ [c]).length else M.2 k)
    by_cases h : k = 13
    · rw [if_pos h, if_pos h, List.length_append]
      rfl
    · rw [if_neg h, if_neg h, if_neg h]
theorem txM_13 {M : mSt} {T : List Nat} : (txM M T).2 13 = Int32.ofNat T.length := rfl
/-- an excuse's name, a line, a bag -/
def kCh (k : Nat) : Nat := if k = 0 then 100 else if k = 1 then 119 else if k = 2 then 105 else 116
def nmT (g : Nat → Int32) (e : Nat) : List Nat := [kCh (kOf g e), 48 + tOf g e]
section MT
variable {G : gE} {z : hSt} {a : Nat} {A : Nat → Nat} {M : mSt} {PX : Nat → Nat → hSt → Prop}
theorem x_writes (h : mOK G a A) {P : hSt → Prop} {T : List Nat} {c : Nat} (hc : c < 65536) (hT : T.length < 60) (hP : P (mz z a A (txM M (T ++ [c])))) : wX5_writes G P PX (some a) (Int32.ofNat c) (mz z a A (txM M T)) := by
  unfold wX5_writes wX5_writesb0
  have e1 : (upA (txM M T) 12 T.length (Int32.ofNat c)).2 13 = Int32.ofNat T.length := rfl
  simp (disch := omega) only [m_g12, m_i13, txM_13, m_s12 h, i_nat, iv, true_and, i2c_c, nar_c, e1, m_p13 h, i_succ, txM_s]
  exact hP
theorem x_writesExcuse (h : mOK G a A) (hg : gOK (M.1 0)) {P : hSt → Prop} {T : List Nat} {e : Nat} (he : e < cnt (M.1 0)) (hT : T.length + 1 < 60) (hP : P (mz z a A (txM M (T ++ nmT (M.1 0) e)))) : wX5_writesExcuse G P PX (some a) (Int32.ofNat e) (mz z a A (txM M T)) := by
  have he2 : e < 12 := Nat.lt_of_lt_of_le he hg.1.1
  obtain ⟨⟨hk1, hk2⟩, ⟨ht1, ht2⟩, -⟩ := hg.2 e he
  have e0 : ∀ T' : List Nat, (txM M T').1 0 = M.1 0 := fun T' => txM_o (by omega)
  have fin : kCh (kOf (M.1 0) e) < 65536 := by unfold kCh; split <;> (try split) <;> (try split) <;> omega
  have go : ∀ c : Nat, c = kCh (kOf (M.1 0) e) → wX5_writesExcuseb42 G P PX (some a) (Int32.ofNat e) (some a) (Int32.ofNat c) (mz z a A (txM M T)) := by
    intro c hc
    unfold wX5_writesExcuseb42
    refine ⟨m_rcv, x_writes h (by omega) (by omega) ?_⟩
    simp (disch := omega) only [m_g0, m_a0 h, ix18, i_nat, iv, true_and, e0, ht2, m_rc]
    rw [show (48 : Int32) = Int32.ofNat 48 from rfl, i_add]
    refine x_writes h (by omega) (by simp; omega) ?_
    rw [hc, List.append_assoc]
    exact hP
  unfold wX5_writesExcuse wX5_writesExcuseb0
  simp (disch := omega) only [m_g0, m_a0 h, ix6, i_nat, iv, true_and, e0, hk2]
  rw [show (0 : Int32) = Int32.ofNat 0 from rfl, show (1 : Int32) = Int32.ofNat 1 from rfl, show (2 : Int32) = Int32.ofNat 2 from rfl, i_eq (by omega) (by omega), i_eq (by omega) (by omega), i_eq (by omega) (by omega)]
  exact ⟨fun q0 => ⟨fun q1 => ⟨fun q2 => go 116 (by unfold kCh; rw [if_neg q0, if_neg q1, if_neg q2]), fun q2 => go 105 (by unfold kCh; rw [if_neg q0, if_neg q1, if_pos q2])⟩, fun q1 => go 119 (by unfold kCh; rw [if_neg q0, if_pos q1])⟩, fun q0 => go 100 (by unfold kCh; rw [if_pos q0])⟩
theorem x_writesBehind (h : mOK G a A) {P : hSt → Prop} {T : List Nat} {c d : Nat} (hc : c < 65536) (hd : d < 10) (hT : T.length + 1 < 60) (hP : P (mz z a A (txM M (T ++ [c, 48 + d])))) : wX5_writesBehind G P PX (some a) (Int32.ofNat c) (Int32.ofNat d) (mz z a A (txM M T)) := by
  unfold wX5_writesBehind wX5_writesBehindb0
  refine ⟨m_rcv, x_writes h hc (by omega) ⟨m_rcv, ?_⟩⟩
  rw [show (48 : Int32) = Int32.ofNat 48 from rfl, i_add]
  refine x_writes h (by omega) (by simp; omega) ?_
  rw [List.append_assoc]
  exact hP
/-- qualities and wears are figures -/
def gQ (g : Nat → Int32) : Prop := ∀ e, e < cnt g → ((g (30 + e)).toNatClampNeg < 10 ∧ g (30 + e) = Int32.ofNat (g (30 + e)).toNatClampNeg) ∧ ((g (42 + e)).toNatClampNeg < 10 ∧ g (42 + e) = Int32.ofNat (g (42 + e)).toNatClampNeg)
noncomputable def linT (g : Nat → Int32) (e : Nat) : List Nat := nmT g e ++ [42, 48 + (g (30 + e)).toNatClampNeg] ++ [45, 48 + (g (42 + e)).toNatClampNeg] ++ [62, 48 + dOf g e] ++ (if g (102 + e) ≤ 0 then [] else [60, 48 + oOf g e])
theorem x_tell (h : mOK G a A) (hg : gOK (M.1 0)) (hq : gQ (M.1 0)) {k t : Int32} {P : Int32 → hSt → Prop} (f1 : ¬ isX k t → P 0 (mz z a A (mF M 1))) (f2 : isX k t → noF (M.1 0) k t → P 0 (mz z a A (mF M 2))) (hP : ∀ e, isX k t → isF (M.1 0) k t e → P (Int32.ofNat (linT (M.1 0) e).length) (mz z a A (upS (txM M (linT (M.1 0) e)) 14 0))) : wX5_tell G P PX (some a) k t (mz z a A M) := by
  have hc := hg.1.1
  unfold wX5_tell wX5_tellb0
  simp only [x_isExcuse, br_0, br_1, m_rc, true_and, x_fails h]
  refine ⟨fun c1 => ?_, fun c1 => f1 c1⟩
  rw [← setG_self M]
  refine x_placeOf h hg (fun e he => ?_) (fun hn => ?_)
  · have he12 : e < 12 := Nat.lt_of_lt_of_le he.1 hc
    refine ⟨fun _ => ?_, fun q9 => absurd q9 (ofNat_ne_neg (by omega))⟩
    rw [setG_self M]
    obtain ⟨-, -, ⟨ho1, ho2⟩, hd1, hd2⟩ := hg.2 e he.1
    obtain ⟨⟨hq1, hq2⟩, hw1, hw2⟩ := hq e he.1
    have hP := hP e c1 he
    have e0 : ∀ T' : List Nat, (txM M T').1 0 = M.1 0 := fun T' => txM_o (by omega)
    have hl : (nmT (M.1 0) e).length = 2 := rfl
    rw [m_p13 h, txM_0]
    refine ⟨m_rcv, x_writesExcuse h hg he.1 (by simp) ?_⟩
    rw [List.nil_append]
    simp (disch := omega) only [m_g0, m_a0 h, ix30, i_nat, iv, true_and, e0, m_rc]
    rw [hq2]
    refine x_writesBehind h (c := 42) (by omega) hq1 (by rw [hl]; omega) ?_
    simp (disch := omega) only [m_g0, m_a0 h, ix42, i_nat, iv, true_and, e0, m_rc]
    rw [hw2]
    refine x_writesBehind h (c := 45) (by omega) hw1 (by simp [hl]) ?_
    simp (disch := omega) only [m_g0, m_a0 h, ix66, i_nat, iv, true_and, e0, m_rc]
    rw [hd2]
    refine x_writesBehind h (c := 62) (by omega) (by omega) (by simp [hl]) ?_
    simp (disch := omega) only [m_g0, m_a0 h, ix102, ix54, i_nat, iv, true_and, e0, m_rc, ho2]
    unfold wX5_tellb114
    unfold linT at hP
    refine ⟨fun q => ?_, fun q => ?_⟩
    · rw [if_pos q, List.append_nil] at hP
      simp only [m_i13, m_rc, true_and, x_done h, txM_13]
      exact hP
    · rw [if_neg q] at hP
      refine x_writesBehind h (c := 60) (by omega) (by omega) (by simp [hl]) ?_
      simp only [m_i13, m_rc, true_and, x_done h, txM_13]
      exact hP
  · refine ⟨fun q9 => absurd rfl q9, fun _ => ?_⟩
    rw [setG_self M]
    exact ⟨m_rcv, (x_fails h).mpr (f2 c1 hn)⟩
/-- the bag's text behind the first excuses -/
noncomputable def bagT (g : Nat → Int32) (v : Int32) : Nat → List Nat
  | 0 => []
  | e + 1 => @ite (List Nat) (g (66 + e) = v) (Classical.propDecidable _) ((if (bagT g v e).length = 0 then [] else bagT g v e ++ [44]) ++ nmT g e) (bagT g v e)
theorem bagT_y {g : Nat → Int32} {v : Int32} {e : Nat} (h : g (66 + e) = v) : bagT g v (e + 1) = (if (bagT g v e).length = 0 then [] else bagT g v e ++ [44]) ++ nmT g e := @if_pos _ (Classical.propDecidable _) h _ _ _
theorem bagT_n {g : Nat → Int32} {v : Int32} {e : Nat} (h : ¬ g (66 + e) = v) : bagT g v (e + 1) = bagT g v e := @if_neg _ (Classical.propDecidable _) h _ _ _
theorem bagT_len {g : Nat → Int32} {v : Int32} : ∀ e, (bagT g v e).length ≤ 3 * e := by
  intro e
  induction e with
  | zero => simp [bagT]
  | succ e ih =>
    by_cases h : g (66 + e) = v
    · rw [bagT_y h]
      by_cases h0 : (bagT g v e).length = 0
      · rw [if_pos h0]; simp [nmT]; omega
      · rw [if_neg h0]; simp [nmT]; omega
    · rw [bagT_n h]; omega
theorem x_bag (h : mOK G a A) (hg : gOK (M.1 0)) {v : Int32} {P : Int32 → hSt → Prop} (f1 : ¬ isP v → P 0 (mz z a A (mF M 1))) (hP : isP v → P (Int32.ofNat (bagT (M.1 0) v (cnt (M.1 0))).length) (mz z a A (upS (txM M (bagT (M.1 0) v (cnt (M.1 0)))) 14 0))) : wX5_bag G P PX (some a) v (mz z a A M) := by
  have hc := hg.1.1
  unfold wX5_bag wX5_bagb0
  simp only [x_isPupil, br_0, br_1, m_rc, true_and, x_fails h, m_p13 h, txM_0]
  refine ⟨fun c1 => ?_, fun c1 => f1 c1⟩
  refine lp_det (cnt (M.1 0)) (fun e => (some a, v, Int32.ofNat e, mz z a A (txM M (bagT (M.1 0) v e)))) (fun y => cnt (M.1 0) - y.2.2.1.toNatClampNeg) (fun e he => by show _ - (Int32.ofNat e).toNatClampNeg = _; rw [i_nat (by omega)]) rfl ?_
  intro e he K hK
  have e0 : ∀ T' : List Nat, (txM M T').1 0 = M.1 0 := fun T' => txM_o (by omega)
  have hlen := bagT_len (g := M.1 0) (v := v) e
  unfold wX5_bagb20 wX5_bagb56 wX5_bagb61
  dsimp only
  simp (disch := omega) only [m_g0, m_a0 h, it0, iz0, e0, hg.1.2, true_and, i_le, m_i13, txM_13, m_rc, x_done h]
  refine ⟨fun q => ?_, fun q => ?_⟩
  · have : e = cnt (M.1 0) := by omega
    subst this
    exact hP c1
  · have hlt : e < cnt (M.1 0) := by omega
    have hk := hK hlt
    simp (disch := omega) only [m_g0, m_a0 h, ix66, i_nat, iv, e0, true_and, i_succ]
    refine ⟨fun w => by rw [bagT_n w] at hk; exact hk, fun w => ?_⟩
    rw [bagT_y w] at hk
    rw [show (0 : Int32) = Int32.ofNat 0 from rfl, i_le (by omega) (by omega)]
    refine ⟨fun u => ?_, fun u => ?_⟩
    · have h0 : (bagT (M.1 0) v e).length = 0 := by omega
      rw [if_pos h0] at hk
      refine x_writesExcuse h hg hlt (by omega) ?_
      rw [List.eq_nil_of_length_eq_zero h0]
      exact hk
    · have h0 : ¬ (bagT (M.1 0) v e).length = 0 := by omega
      rw [if_neg h0] at hk
      refine x_writes h (c := 44) (by omega) (by omega) ⟨m_rcv, ?_⟩
      exact x_writesExcuse h hg hlt (by simp; omega) hk
end MT
