/-! the model reads its input -/
set_option maxRecDepth 100000
theorem ltA_lt {U T : List Nat} {i k : Nat} (h : ltA U T i k) : i < T.length := by
  obtain ⟨c, h, -⟩ := h
  exact (List.getElem?_eq_some_iff.mp h).1
theorem fgA_lt {T : List Nat} {i d : Nat} (h : fgA T i d) : i < T.length := (List.getElem?_eq_some_iff.mp h.1).1
theorem oA_le {T : List Nat} {i i' : Nat} {q : cT} (h : oA T i q i') : i' ≤ T.length := by
  rcases h with ⟨-, p, k, t, d, -, -, -, h, -, e⟩ | ⟨-, k, t, h, -, -, e⟩ | ⟨-, k, t, p, d, -, -, -, h, -, e⟩ | ⟨-, k, t, h, -, -, e⟩ | ⟨-, k, t, d, -, -, h, -, e⟩ | ⟨-, p, k, t, d, -, -, -, h, -, e⟩ | ⟨-, p, d, -, h, -, e⟩ | ⟨-, d, h, -, e⟩ | ⟨h, -, e⟩
  · have := fgA_lt h.2; omega
  · have := fgA_lt h.2; omega
  · have := fgA_lt h.2; omega
  · have := fgA_lt h.2; omega
  · have := fgA_lt h.2; omega
  · have := fgA_lt h.2; omega
  · have := fgA_lt h.2; omega
  · have := fgA_lt h; omega
  · have := ltA_lt h; omega
theorem oC_le {T : List Nat} {qs : List cT} {m : Nat} (h : oC T qs m) : m ≤ T.length := by
  unfold oC at h
  cases hr : qs.reverse with
  | nil => rw [hr] at h; exact h.elim
  | cons q r =>
    rw [hr] at h
    rcases h with ⟨-, h⟩ | ⟨k, -, -, h⟩ <;> exact oA_le h
/-- all orders told -/
def tlds (D : Nat → Int32) (qs : List cT) : Prop := ∀ j q, qs[j]? = some q → tld D (5 * j) q
theorem tld_congr {D D' : Nat → Int32} {k m : Nat} {q : cT} (h : tld D k q) (hm : k + 4 < m) (hD : ∀ j, j < m → D' j = D j) : tld D' k q := by
  unfold tld at *
  rw [hD k (by omega), hD (k + 1) (by omega), hD (k + 2) (by omega), hD (k + 3) (by omega), hD (k + 4) (by omega)]
  exact h
theorem tlds_add {D D' : Nat → Int32} {qs : List cT} {q : cT} (h : tlds D qs) (hq : tld D' (5 * qs.length) q) (hD : ∀ j, j < 5 * qs.length → D' j = D j) : tlds D' (qs ++ [q]) := by
  intro j q' hj
  by_cases hl : j < qs.length
  · rw [List.getElem?_append_left hl] at hj
    exact tld_congr (h j q' hj) (m := 5 * qs.length) (by omega) hD
  · have hlt := (List.getElem?_eq_some_iff.mp hj).1
    rw [List.length_append, List.length_singleton] at hlt
    have : j = qs.length := by omega
    subst this
    rw [List.getElem?_append_right (Nat.le_refl _), Nat.sub_self] at hj
    cases hj
    exact hq
/-- what reading never changes -/
def rdM (M M' : mSt) : Prop := (∀ k, k ≠ 0 → k ≠ 1 → k ≠ 2 → k ≠ 17 → M'.1 k = M.1 k) ∧ M'.2 7 = 0 ∧ M'.2 5 = M.2 5 ∧ M'.2 13 = M.2 13
section MR5
variable {G : gE} {z : hSt} {a : Nat} {A : Nat → Nat} {M : mSt} {PX : Nat → Nat → hSt → Prop} {P : Int32 → hSt → Prop} {T : List Nat}
theorem mSt_ext {M N : mSt} (h1 : M.1 = N.1) (h2 : ∀ k, M.2 k = N.2 k) : M = N := Prod.ext h1 (funext h2)
theorem cpN_2 {M : mSt} {k1 p1 k2 p2 n : Nat} : (cpN M k1 p1 k2 p2 n).2 = M.2 := rfl
/-- the orders that were read are done -/
theorem mrun_k (h : mOK G a A) {X : mSt} {c N : Nat} {qs : List cT} (hJ : GJ N (X.1 0)) (hc : c ≤ 6) (h3 : X.2 3 = Int32.ofNat c) (hq : ∀ q ∈ qs, qOK q) (hl : qs.length ≤ 50) (hD : tlds (X.1 17) qs)
    (fI : ∀ M', rnR qs (X.1 0) (.inl none) → (∀ i, i < 223 → M'.1 0 i = X.1 0 i) → (∀ k, k ≠ 0 → k ≠ 1 → M'.1 k = X.1 k) → (∀ k, k ≠ 14 → k ≠ 11 → M'.2 k = X.2 k) → M'.2 14 = 2 → P 0 (mz z a A M'))
    (fR : ∀ r d M', rnR qs (X.1 0) (.inl (some (r, d))) → (∀ i, i < 223 → M'.1 0 i = X.1 0 i) → (∀ k, k ≠ 0 → k ≠ 1 → M'.1 k = X.1 k) → (∀ k, k ≠ 14 → k ≠ 11 → k ≠ 9 → k ≠ 10 → M'.2 k = X.2 k) → M'.2 9 = r → M'.2 10 = d → M'.2 14 = 3 → P 0 (mz z a A M'))
    (fP : ∀ g' M', rnR qs (X.1 0) (.inr g') → (∀ i, i < 223 → M'.1 0 i = g' i) → (∀ k, k ≠ 0 → k ≠ 1 → k ≠ 2 → M'.1 k = X.1 k) → hPush (X.1 2) (M'.1 2) c (X.1 0) → (∀ k, k ≠ 14 → k ≠ 3 → M'.2 k = X.2 k) → M'.2 3 = Int32.ofNat (hLen c) → M'.2 14 = 0 → P (Int32.ofNat qs.length) (mz z a A M')) :
    lpI (fun (K130 : (Option Nat × Int32 × Int32 × hSt) → Prop) (y : (Option Nat × Int32 × Int32 × hSt)) => wX5_readb130 G P PX K130 (y.1) (y.2.1) (y.2.2.1) (y.2.2.2)) (some a, Int32.ofNat qs.length, 0, mz z a A (cpN X 0 0 1 0 223)) := by
  refine lp_n (fun n y => ∃ i Y gi, i ≤ qs.length ∧ n = qs.length - i ∧ y = (some a, Int32.ofNat qs.length, Int32.ofNat i, mz z a A (setG Y gi)) ∧ Y.1 = (cpN X 0 0 1 0 223).1 ∧ (∀ k, k ≠ 14 → Y.2 k = X.2 k) ∧ GJ (N + i) gi ∧ ∀ out, rnR (qs.drop i) gi out → rnR qs (X.1 0) out) qs.length ⟨0, cpN X 0 0 1 0 223, X.1 0, Nat.zero_le _, rfl, ?_, rfl, fun _ _ => rfl, hJ, fun out w => by rw [List.drop_zero] at w; exact w⟩ ?_
  · have e : setG (cpN X 0 0 1 0 223) (X.1 0) = cpN X 0 0 1 0 223 := by
      have := setG_self (cpN X 0 0 1 0 223)
      rw [cpN_o (by decide)] at this
      exact this
    rw [e]
    rfl
  rintro n y ⟨i, Y, gi, hil, rfl, rfl, hY1, hY2, hJi, hrun⟩ K hK
  unfold wX5_readb130
  dsimp only
  rw [i_le (by omega) (by omega)]
  refine ⟨fun w => ⟨m_rcv, ?_⟩, fun w => ⟨m_rcv, ?_⟩⟩
  · have hi : i = qs.length := by omega
    have hrn := hrun (.inr gi) (by rw [hi, List.drop_length]; rfl)
    rw [y_done h]
    have eY : upS Y 14 0 = upS (cpN X 0 0 1 0 223) 14 0 := mSt_ext hY1 fun k => by
      by_cases q : k = 14
      · simp [upS, q]
      · simp [upS, q, hY2 k q, cpN_2]
    rw [eY]
    refine ⟨m_rcv, y_push h hc h3 fun M' hM => ?_⟩
    obtain ⟨a1, a2, a3, a4⟩ := hM
    refine fP gi M' hrn a1 a2 a3 (fun k q1 q2 => ?_) ?_ ?_
    · rw [a4]; simp [upS, q1, q2]
    · rw [a4]; simp [upS]
    · rw [a4]; simp [upS]
  · have hlt : i < qs.length := by omega
    have hqi : qs[i]? = some qs[i] := List.getElem?_eq_getElem hlt
    have hdrop : qs.drop i = qs[i] :: qs.drop (i + 1) := List.drop_eq_getElem_cons hlt
    have hok := hq _ (List.mem_of_getElem? hqi)
    have hDi : tld (Y.1 17) (5 * i) qs[i] := by
      rw [hY1, cpN_o (by decide)]
      exact hD i _ hqi
    rw [show (5 : Int32) = Int32.ofNat 5 from rfl, i_mul]
    -- the end of what failed: Y' as the state then is
    have bad : ∀ (Y' : mSt) (g' : Nat → Int32) (v nn : Int32) (tt : Int32), Y'.1 = (cpN X 0 0 1 0 223).1 → tt ≠ 0 → (∀ M', mBack X M' (upS Y' 14 tt).2 → P 0 (mz z a A M')) → wX5_readb164 G P PX (some a) v (some a) tt (mz z a A (setG Y' g')) := by
      intro Y' g' v nn tt h1 htt hk
      unfold wX5_readb164
      rw [m_p14 h, upS_setG]
      have e : upS Y' 14 tt = (fun N0 : mSt => ((N0.1, (upS Y' 14 tt).2) : mSt)) (cpN X 0 0 1 0 223) := Prod.ext h1 rfl
      rw [e]
      exact ⟨m_rcv, y_back h (sc := fun N0 : mSt => ((N0.1, (upS Y' 14 tt).2) : mSt)) (fun _ => rfl) (fun _ _ _ => rfl) g' (by show (upS Y' 14 tt).2 14 ≠ 0; simp [upS]; exact htt) hk⟩
    refine x_does h hJi.1.1 hok (by omega) hDi (fun hn n hn0 => ?_) (fun r d n hr ho hn0 => ?_) fun v g' hr ho => ?_
    · have hrn := hrun (.inl none) (by rw [hdrop]; exact Or.inl ⟨hn, rfl⟩)
      have e14 : (setG (mF Y n) gi).2 14 = n := by simp [setG, mF, upS]
      have e11 : (setG (mF Y n) gi).2 11 = 0 := by simp [setG, mF, upS]
      rw [m_i14, e14]
      refine ⟨fun q => absurd q hn0, fun _ => ?_⟩
      rw [m_i11, e11]
      refine ⟨fun _ => bad (mF Y n) gi _ 0 2 hY1 (by decide) fun M' hM => ?_, fun q => absurd rfl q⟩
      obtain ⟨a1, a2, a3⟩ := hM
      refine fI M' hrn a1 a2 (fun k q1 q2 => ?_) ?_
      · rw [a3]; simp [upS, mF, q1, q2, hY2 k q1]
      · rw [a3]; simp [upS]
    · have hrn := hrun (.inl (some (r, d))) (by rw [hdrop]; exact Or.inr (Or.inl ⟨hr, r, d, ho, rfl⟩))
      have e14 : (setG (mR Y r d n) gi).2 14 = n := by simp [setG, mR, upS]
      have e11 : (setG (mR Y r d n) gi).2 11 = 1 := by simp [setG, mR, upS]
      rw [m_i14, e14]
      refine ⟨fun q => absurd q hn0, fun _ => ?_⟩
      rw [m_i11, e11]
      refine ⟨fun q => absurd q n01, fun _ => bad (mR Y r d n) gi _ 0 3 hY1 (by decide) fun M' hM => ?_⟩
      obtain ⟨a1, a2, a3⟩ := hM
      refine fR r d M' hrn a1 a2 (fun k q1 q2 q3 q4 => ?_) ?_ ?_ ?_
      · rw [a3]; simp [upS, mR, q1, q2, q3, q4, hY2 k q1]
      · rw [a3]; simp [upS, mR]
      · rw [a3]; simp [upS, mR]
      · rw [a3]; simp [upS]
    · have e14 : (setG (upS Y 14 0) g').2 14 = 0 := by simp [setG, upS]
      rw [m_i14, e14]
      refine ⟨fun _ => ?_, fun q => absurd rfl q⟩
      rw [i_succ]
      refine hK (qs.length - (i + 1)) _ (by omega) ⟨i + 1, upS Y 14 0, g', hlt, rfl, rfl, hY1, fun k q => by simp [upS, q, hY2 k q], GJ_cDo hJi hok.2.1 hok.2.2.1 hr ho, fun out w => hrun _ ?_⟩
      rw [hdrop]
      exact Or.inr (Or.inr ⟨hr, v, g', ho, w⟩)
theorem x_read (h : mOK G a A) (hT : inp M T) {c N : Nat} (hJ : GJ N (M.1 0)) (hc : c ≤ 6) (h3 : M.2 3 = Int32.ofNat c)
    (fB : ∀ j M', oE T j → rdM M M' → M'.1 0 = M.1 0 → M'.1 2 = M.1 2 → M'.2 3 = M.2 3 → M'.2 8 = Int32.ofNat j → M'.2 9 = M.2 9 → M'.2 10 = M.2 10 → M'.2 14 = 1 → P 0 (mz z a A M'))
    (fI : ∀ qs M', oC T qs T.length → rnR qs (M.1 0) (.inl none) → rdM M M' → (∀ i, i < 223 → M'.1 0 i = M.1 0 i) → M'.1 2 = M.1 2 → M'.2 3 = M.2 3 → M'.2 8 = M.2 8 → M'.2 9 = M.2 9 → M'.2 10 = M.2 10 → M'.2 14 = 2 → P 0 (mz z a A M'))
    (fR : ∀ qs r d M', oC T qs T.length → rnR qs (M.1 0) (.inl (some (r, d))) → rdM M M' → (∀ i, i < 223 → M'.1 0 i = M.1 0 i) → M'.1 2 = M.1 2 → M'.2 3 = M.2 3 → M'.2 8 = M.2 8 → M'.2 9 = r → M'.2 10 = d → M'.2 14 = 3 → P 0 (mz z a A M'))
    (fP : ∀ qs g' M', oC T qs T.length → rnR qs (M.1 0) (.inr g') → rdM M M' → (∀ i, i < 223 → M'.1 0 i = g' i) → hPush (M.1 2) (M'.1 2) c (M.1 0) → M'.2 3 = Int32.ofNat (hLen c) → M'.2 8 = M.2 8 → M'.2 9 = M.2 9 → M'.2 10 = M.2 10 → M'.2 14 = 0 → P (Int32.ofNat qs.length) (mz z a A M')) : wX5_read G P PX (some a) (mz z a A M) := by
  have hT60 := hT.2.1
  unfold wX5_read wX5_readb0
  rw [m_p15 h]
  refine ⟨ok_b0, ?_⟩
  rw [m_p16 h]
  have e0 : upS (upS M 15 0) 16 0 = prM M 0 0 (M.1 17) := by
    refine mSt_ext (funext fun k => ?_) fun k => ?_
    · show M.1 k = if k = 17 then M.1 17 else M.1 k
      by_cases q : k = 17
      · rw [if_pos q, q]
      · rw [if_neg q]
    · by_cases q1 : k = 15
      · simp [upS, prM, q1]
      · by_cases q2 : k = 16
        · simp [upS, prM, q2]
        · simp [upS, prM, q1, q2]
  rw [e0]
  -- the loop over the orders: more to come, or the end, good or bad
  refine lp_n (fun n y => ∃ i D v2 w qs nn, y = (some a, Int32.ofNat nn, v2, mz z a A (prM M i w D)) ∧ ((v2 = 1 ∧ w = 0 ∧ nn = qs.length ∧ i ≤ T.length ∧ n = T.length + 1 - i ∧ tlds D qs ∧ ((qs = [] ∧ i = 0) ∨ ∃ m, oC T qs m ∧ m < T.length ∧ T[m]? = some 59 ∧ i = m + 1)) ∨ (v2 = 0 ∧ w = 0 ∧ nn = qs.length ∧ n = 0 ∧ tlds D qs ∧ oC T qs i ∧ T[i]? ≠ some 59) ∨ (v2 = 0 ∧ w = 1 ∧ n = 0 ∧ oE T i))) (T.length + 1) ⟨0, M.1 17, 1, 0, [], 0, rfl, Or.inl ⟨rfl, rfl, rfl, Nat.zero_le _, rfl, fun j q hj => by simp at hj, Or.inl ⟨rfl, rfl⟩⟩⟩ ?_
  rintro n y ⟨i, D, v2, w, qs, nn, rfl, hst⟩ K hK
  unfold wX5_readb14
  dsimp only
  -- the end: a wrong text
  have badE : ∀ (i : Nat) (D : Nat → Int32) (nn : Nat) (w : Int32), oE T i → wX5_readb95 G P PX (some a) (Int32.ofNat nn) (some a) 1 (mz z a A (prM M i w D)) := by
    intro i D nn w hj
    unfold wX5_readb95
    refine ⟨ok_b1, ?_⟩
    rw [m_p16 h, prM_s16, m_p7 h, m_i16]
    have e16 : (upS (prM M i 1 D) 7 0).2 16 = 1 := by simp [upS, prM]
    rw [e16]
    refine ⟨fun q => absurd q n01, fun _ => ?_⟩
    have e15 : (upS (prM M i 1 D) 7 0).2 15 = Int32.ofNat i := by simp [upS, prM]
    rw [m_i15, e15, m_p8 h]
    refine ⟨m_rcv, (x_fails h).mpr (fB i _ hj ⟨fun k q1 q2 q3 q4 => ?_, ?_, ?_, ?_⟩ ?_ ?_ ?_ ?_ ?_ ?_ ?_)⟩
    · show (if k = 17 then D else M.1 k) = M.1 k
      rw [if_neg q4]
    all_goals first | rfl | simp [upS, prM]
  rcases hst with ⟨rfl, rfl, rfl, hi, rfl, hD, hqs⟩ | ⟨rfl, rfl, rfl, rfl, hD, hoc, h59⟩ | ⟨rfl, rfl, rfl, hj⟩
  · refine ⟨fun q => absurd q n01, fun _ => ?_⟩
    have hlen : qs.length ≤ 31 := by
      rcases hqs with ⟨rfl, -⟩ | ⟨m, hoc, hm, -, -⟩
      · simp
      · have := oC_len hoc; omega
    rw [show (5 : Int32) = Int32.ofNat 5 from rfl, i_mul]
    have b49 : ∀ (i : Nat) (D : Nat → Int32) (w : Int32) (nn : Nat), K (some a, Int32.ofNat nn, 0, mz z a A (prM M i w D)) → wX5_readb48 G P PX K (some a) (Int32.ofNat nn) (mz z a A (prM M i w D)) := by
      intro i D w nn hk
      unfold wX5_readb48 wX5_readb49
      rw [m_i15, prM_15]
      refine ⟨fun _ => ?_, fun q => absurd rfl q⟩
      unfold wX5_readb64
      rw [Int32.add_zero, m_p15 h, prM_s15]
      exact hk
    refine ⟨m_rcv, x_readsOrder h hT (by omega) (by omega) (fun q i' D' ho htl hfr => ?_) fun j D' hb => ?_⟩
    · have hoc' : oC T (qs ++ [q]) i' := by
        rcases hqs with ⟨rfl, rfl⟩ | ⟨m, hoc, -, h59, rfl⟩
        · exact oC_one ho
        · exact oC_more hoc h59 ho
      have hle := oA_le ho
      have hlt := oA_lt ho
      have hD' := tlds_add hD htl hfr
      rw [m_i16, prM_16, i_succ]
      refine ⟨fun q => absurd rfl q, fun _ => ⟨m_rcv, x_here h hT (by omega) ⟨fun u => b49 _ _ _ _ (hK 0 _ (by omega) ⟨i', D', 0, 0, qs ++ [q], qs.length + 1, rfl, Or.inr (Or.inl ⟨rfl, rfl, by simp, rfl, hD', hoc', fun h59 => u ?_⟩)⟩), fun u => ?_⟩⟩⟩
      · rw [hv_s h59]; rfl
      · have h59 := hv_c (c := 59) hT (by omega) u
        have hlt' := (List.getElem?_eq_some_iff.mp h59).1
        unfold wX5_readb49
        rw [m_i15, prM_15]
        refine ⟨fun q => absurd q n01, fun _ => ?_⟩
        unfold wX5_readb64
        rw [i_succ, m_p15 h, prM_s15]
        exact hK (T.length + 1 - (i' + 1)) _ (by omega) ⟨i' + 1, D', 1, 0, qs ++ [q], qs.length + 1, rfl, Or.inl ⟨rfl, rfl, by simp, by omega, rfl, hD', Or.inr ⟨i', hoc', hlt', h59, rfl⟩⟩⟩
    · have hj : oE T j := by
        rcases hqs with ⟨rfl, rfl⟩ | ⟨m, hoc, hm, h59, rfl⟩
        · exact Or.inl hb
        · exact Or.inr ⟨qs, m, hoc, hm, Or.inr ⟨h59, hb⟩⟩
      rw [m_i16, prM_16, i_succ]
      exact ⟨fun _ => b49 _ _ _ _ (hK 0 _ (by omega) ⟨j, D', 0, 1, qs, qs.length + 1, rfl, Or.inr (Or.inr ⟨rfl, rfl, rfl, hj⟩)⟩), fun q => absurd q n01⟩
  · have hle := oC_le hoc
    have hlen := oC_len hoc
    refine ⟨fun _ => ?_, fun q => absurd rfl q⟩
    rw [m_i16, prM_16]
    refine ⟨fun q => absurd rfl q, fun _ => ?_⟩
    rw [m_i15, prM_15, m_i7, prM_7, hT.1, i_le (by omega) (by omega)]
    refine ⟨fun u => ?_, fun u => ?_⟩
    · have hiT : i = T.length := by omega
      subst hiT
      unfold wX5_readb95
      refine ⟨ok_b0, ?_⟩
      rw [m_p16 h, prM_s16, m_p7 h, m_i16]
      have e16 : (upS (prM M T.length 0 D) 7 0).2 16 = 0 := by simp [upS, prM]
      rw [e16]
      refine ⟨fun _ => ⟨m_rcv, x_looksBack h ?_⟩, fun q => absurd rfl q⟩
      have hX0 : ∀ k, k ≠ 17 → (upS (prM M T.length 0 D) 7 0).1 k = M.1 k := fun k q => by
        show (if k = 17 then D else M.1 k) = M.1 k
        rw [if_neg q]
      have hX17 : (upS (prM M T.length 0 D) 7 0).1 17 = D := rfl
      have hX2 : ∀ k, k ≠ 7 → k ≠ 15 → k ≠ 16 → (upS (prM M T.length 0 D) 7 0).2 k = M.2 k := fun k q1 q2 q3 => by simp [upS, prM, q1, q2, q3]
      have hX7 : (upS (prM M T.length 0 D) 7 0).2 7 = 0 := by simp [upS]
      generalize upS (prM M T.length 0 D) 7 0 = X at *
      have r : ∀ M' : mSt, (∀ k, k ≠ 0 → k ≠ 1 → k ≠ 2 → M'.1 k = X.1 k) → (∀ k, k ≠ 14 → k ≠ 11 → k ≠ 9 → k ≠ 10 → k ≠ 3 → M'.2 k = X.2 k) → rdM M M' := fun M' a1 a2 => ⟨fun k q1 q2 q3 q4 => by rw [a1 k q1 q2 q3, hX0 k q4], by rw [a2 7 (by decide) (by decide) (by decide) (by decide) (by decide)]; exact hX7, by rw [a2 5 (by decide) (by decide) (by decide) (by decide) (by decide), hX2 5 (by decide) (by decide) (by decide)], by rw [a2 13 (by decide) (by decide) (by decide) (by decide) (by decide), hX2 13 (by decide) (by decide) (by decide)]⟩
      have x0 := hX0 0 (by decide)
      have x2 := hX0 2 (by decide)
      refine mrun_k h (N := N) (c := c) (by rw [x0]; exact hJ) hc (by rw [hX2 3 (by decide) (by decide) (by decide)]; exact h3) (fun q hq => oC_ok hoc hq) (by omega) (by rw [hX17]; exact hD) (fun M' hr a1 a2 a3 a4 => ?_) (fun r' d M' hr a1 a2 a3 a4 a5 a6 => ?_) fun g' M' hr a1 a2 a3 a4 a5 a6 => ?_
      · rw [x0] at hr a1
        exact fI qs M' hoc hr (r M' (fun k q1 q2 _ => a2 k q1 q2) fun k q1 q2 _ _ _ => a3 k q1 q2) a1 ((a2 2 (by decide) (by decide)).trans x2) ((a3 3 (by decide) (by decide)).trans (hX2 3 (by decide) (by decide) (by decide))) ((a3 8 (by decide) (by decide)).trans (hX2 8 (by decide) (by decide) (by decide))) ((a3 9 (by decide) (by decide)).trans (hX2 9 (by decide) (by decide) (by decide))) ((a3 10 (by decide) (by decide)).trans (hX2 10 (by decide) (by decide) (by decide))) a4
      · rw [x0] at hr a1
        exact fR qs r' d M' hoc hr (r M' (fun k q1 q2 _ => a2 k q1 q2) fun k q1 q2 q3 q4 _ => a3 k q1 q2 q3 q4) a1 ((a2 2 (by decide) (by decide)).trans x2) ((a3 3 (by decide) (by decide) (by decide) (by decide)).trans (hX2 3 (by decide) (by decide) (by decide))) ((a3 8 (by decide) (by decide) (by decide) (by decide)).trans (hX2 8 (by decide) (by decide) (by decide))) a4 a5 a6
      · rw [x0] at hr a3
        rw [x2] at a3
        exact fP qs g' M' hoc hr (r M' a2 fun k q1 _ _ _ q5 => a4 k q1 q5) a1 a3 a5 ((a4 8 (by decide) (by decide)).trans (hX2 8 (by decide) (by decide) (by decide))) ((a4 9 (by decide) (by decide)).trans (hX2 9 (by decide) (by decide) (by decide))) ((a4 10 (by decide) (by decide)).trans (hX2 10 (by decide) (by decide) (by decide))) a6
    · unfold wX5_readb90
      exact badE i D _ _ (Or.inr ⟨qs, i, hoc, by omega, Or.inl ⟨h59, rfl⟩⟩)
  · refine ⟨fun _ => ?_, fun q => absurd rfl q⟩
    rw [m_i16, prM_16]
    refine ⟨fun _ => ?_, fun q => absurd q n01⟩
    unfold wX5_readb90
    exact badE i D nn 1 hj
end MR5
