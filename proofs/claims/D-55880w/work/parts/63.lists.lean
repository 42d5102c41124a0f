/-! lists -/
set_option maxRecDepth 100000
theorem elOk.ev {G : gE} {W : Nat → Nat → Prop} {c : Nat} {σ τ : hSt} {L : List Nat} {y : Option Nat} (h : elOk σ L y) (he : ev G W c σ τ) (hL : ∀ ci ∈ L, ci < 100) : elOk τ L y := by
  rcases h with h | ⟨b, ci, fs, h1, h2, h3⟩
  · exact Or.inl h
  · obtain ⟨e', h4, h5⟩ := he.k h2
    obtain ⟨ti, x⟩ | ⟨ci', fs'⟩ := e'
    · have h6 : 100 + ti = ci := h5
      have := hL ci h3
      omega
    · have h6 : ci' = ci := h5
      subst h6
      exact Or.inr ⟨b, ci', fs', h1, h4, h3⟩
/-- a is an ArrayList of the objects l, in the array arr -/
def AL (G : gE) (σ : hSt) (a arr : Nat) (md : Int32) (l : List Nat) : Prop := ∃ cap f, σ.1 a = some (.inr (15, [.int md, va_rf (some arr), .int (Int32.ofNat l.length)])) ∧ σ.1 arr = some (.inl (5, cap, .inr (.inr (.inr (.inr f))))) ∧ l.length ≤ cap ∧ cap ≤ 60 ∧ (∀ i x, l[i]? = some x → f i = some x ∧ elOk σ [1, 6, 7] (some x)) ∧ ((¬ gX G arr ∧ 0 < cap) ∨ (arr = gA G 41 ∧ cap = 0))
/-- what a list's change may touch -/
abbrev Wl (G : gE) (a arr : Nat) : Nat → Nat → Prop := fun b k => (b = a ∧ k = 15) ∨ (b = arr ∧ k = 105 ∧ ¬ gX G arr)
theorem AL.ev {G : gE} {W : Nat → Nat → Prop} {c : Nat} {σ τ : hSt} {a arr : Nat} {md : Int32} {l : List Nat} (h : AL G σ a arr md l) (he : ev G W c σ τ) (h1 : ¬ W a 15) (h2 : ¬ W arr 105) : AL G τ a arr md l := by
  obtain ⟨cap, f, q1, q2, q3, q4, q5, q6⟩ := h
  exact ⟨cap, f, he.o q1 h1 (by decide) (by decide), he.a q2 h2, q3, q4, fun i x hx => ⟨(q5 i x hx).1, (q5 i x hx).2.ev he (by decide)⟩, q6⟩
section LIST
variable {G : gE} {σ : hSt} {PX : Nat → Nat → hSt → Prop} {a arr : Nat} {md : Int32} {l : List Nat}
theorem AL.rc (h : AL G σ a arr md l) : rcv σ (some a) 15 := by
  obtain ⟨cap, f, q1, -⟩ := h
  exact rco q1
theorem al_size {P : Int32 → hSt → Prop} (h : AL G σ a arr md l) (hP : P (Int32.ofNat l.length) σ) : wJ7_size G P PX (some a) σ := by
  obtain ⟨cap, f, q1, -⟩ := h
  unfold wJ7_size wJ7_sizeb0
  exact gI q1 (by decide) rfl hP
theorem ck_k {P : Int32 → hSt → Prop} {i n : Nat} (hi : i < n) (hn : n < 2147483648) (hP : P (Int32.ofNat i) σ) : wJ47_checkIndex G P PX (Int32.ofNat i) (Int32.ofNat n) σ := by
  unfold wJ47_checkIndex wJ47_checkIndexb0 wJ36_checkIndex wJ36_checkIndexb0
  exact ⟨fun w => absurd w (i_nn (by omega)), fun _ => ⟨fun _ => hP, fun w => absurd ((i_lt (by omega) hn).mpr hi) w⟩⟩
theorem al_get {P : Option Nat → hSt → Prop} {i x : Nat} (h : AL G σ a arr md l) (hx : l[i]? = some x) (hP : P (some x) σ) : wJ7_get G P PX (some a) (Int32.ofNat i) σ := by
  have hrc := h.rc
  obtain ⟨cap, f, q1, q2, q3, q4, q5, q6⟩ := h
  have hi : i < l.length := (List.getElem?_eq_some_iff.mp hx).1
  unfold wJ7_get wJ7_getb0
  refine gI q1 (by decide) rfl (ck_k hi (by omega) ⟨hrc, ?_⟩)
  unfold wJ7_elementData wJ7_elementDatab0
  exact gR q1 (by decide) rfl (aR q2 (by decide) (by omega) (by omega) (by rw [(q5 i x hx).1]; exact hP))
/-- a new list -/
theorem al_new {P : hSt → Prop} {c0 c1 c2 : Value} (hS : SI G σ) (h : σ.1 a = some (.inr (15, [c0, c1, c2]))) (h2 : c2 = .int 0) (hP : ∀ τ, ev G (W1 a 15) 0 σ τ → AL G τ a (gA G 41) 0 [] → P τ) : wJ7_init G P PX (some a) σ := by
  unfold wJ7_init wJ7_initb0 wJ6_init wJ6_initb0 wJ3_init wJ3_initb0
  refine ⟨⟨a, rfl⟩, ⟨a, rfl⟩, ⟨a, rfl⟩, pO hS h (by decide) (by simp) (by decide) fun τ1 w1 e1 => pO e1.t w1.1 (by decide) (by simp) (by decide) fun τ2 w2 e2 => ?_⟩
  subst h2
  refine hP τ2 ((e1.tr e2).le' (by omega)) ⟨0, _, w2.1, e2.t.2.2.2.2.1.2, Nat.le_refl _, by omega, fun i x hx => (nomatch hx), Or.inr ⟨rfl, rfl⟩⟩
theorem shr1 : ∀ n, n < 100 → Int32.ofNat n >>> ((1 : Int32) &&& 31) = Int32.ofNat (n / 2) := by decide +kernel
theorem va_cpy_i (f g : Nat → Option Nat) (n i : Nat) : va_cpy f g 0 0 n i = if i < n then f i else g i := by
  unfold va_cpy
  by_cases h : i < n
  · simp [h]
  · simp [h]
/-- the store at the end of add -/
theorem add_fin {P : hSt → Prop} {cap n x : Nat} {f : Nat → Option Nat} (hS : SI G σ) (h1 : σ.1 a = some (.inr (15, [.int md, va_rf (some arr), .int (Int32.ofNat l.length)]))) (h2 : σ.1 arr = some (.inl (5, cap, .inr (.inr (.inr (.inr f)))))) (hn : n = l.length) (hlt : n < cap) (hc : cap ≤ 60) (hf : ∀ i x, l[i]? = some x → f i = some x ∧ elOk σ [1, 6, 7] (some x)) (hX : ¬ gX G arr) (hx : elOk σ [1, 6, 7] (some x)) (hP : ∀ τ, ev G (Wl G a arr) 0 σ τ → AL G τ a arr md (l ++ [x]) → P τ) : wJ7_add_2b11 G P PX (some a) (some x) (some arr) (Int32.ofNat n) σ := by
  subst hn
  have hne : a ≠ arr := by
    rintro rfl
    rw [h1] at h2; exact nomatch h2
  unfold wJ7_add_2b11
  refine sR (L := [1, 6, 7]) hS h2 (by decide) hX (by omega) hlt hx fun τ1 w1 e1 => pO e1.t (by rw [w1.o hne]; exact h1) (by decide) (by simp) (by decide) fun τ2 w2 e2 => ?_
  have e01 : ev G (Wl G a arr) 0 σ τ1 := e1.mono (fun b k _ w => Or.inr ⟨w.1, w.2, hX⟩) (Nat.le_refl _)
  have e02 : ev G (Wl G a arr) 0 σ τ2 := (e01.tr (e2.mono (fun b k _ w => Or.inl w) (Nat.le_refl _))).le' (by omega)
  refine hP τ2 e02 ⟨cap, _, by rw [w2.1, List.length_append, List.length_singleton, ← i_succ]; rfl, by rw [w2.o (Ne.symm hne)]; exact w1.1, by simp; omega, hc, fun i y hy => ?_, Or.inl ⟨hX, by omega⟩⟩
  by_cases hi : i = l.length
  · subst hi
    rw [List.getElem?_append_right (Nat.le_refl _), Nat.sub_self] at hy
    cases hy
    exact ⟨if_pos rfl, hx.ev e02 (by decide)⟩
  · have hi2 : i < l.length := by
      have := (List.getElem?_eq_some_iff.mp hy).1
      simp at this
      omega
    rw [List.getElem?_append_left hi2] at hy
    exact ⟨by rw [if_neg hi]; exact (hf i y hy).1, (hf i y hy).2.ev e02 (by decide)⟩
theorem al_add {P : Int32 → hSt → Prop} {x : Nat} (hS : SI G σ) (h : AL G σ a arr md l) (hl : l.length ≤ 33) (hx : elOk σ [1, 6, 7] (some x)) (hb : bd G σ 80) (hP : ∀ τ arr', ev G (Wl G a arr) (11 + 2 * l.length) σ τ → AL G τ a arr' (md + 1) (l ++ [x]) → arr' = arr ∨ σ.2.1 ≤ arr' → P 1 τ) : wJ7_add G P PX (some a) (some x) σ := by
  obtain ⟨cap, f, q1, q2, q3, q4, q5, q6⟩ := h
  have hne : arr ≠ a := by
    rintro rfl
    rw [q1] at q2; exact nomatch q2
  unfold wJ7_add wJ7_addb0
  refine gI q1 (by decide) rfl (pO hS q1 (by decide) (by simp) (by decide) fun τ1 w1 e1 => ?_)
  have q21 : τ1.1 arr = some (.inl (5, cap, .inr (.inr (.inr (.inr f))))) := by rw [w1.o hne]; exact q2
  have e01 : ev G (Wl G a arr) 0 σ τ1 := e1.mono (fun b k _ w => Or.inl w) (Nat.le_refl _)
  have hx1 := hx.ev e01 (by decide)
  refine gR w1.1 (by decide) rfl (gI w1.1 (by decide) rfl ⟨rco w1.1, ?_⟩)
  unfold wJ7_add_2 wJ7_add_2b0
  refine aL q21 ⟨fun w => ?_, fun w => ⟨rco w1.1, ?_⟩⟩
  · have hlt : l.length < cap := by
      rw [i_eq (by omega) (by omega)] at w
      omega
    have hX : ¬ gX G arr := by
      rcases q6 with ⟨h, -⟩ | ⟨-, h⟩
      · exact h
      · omega
    exact add_fin e1.t w1.1 q21 rfl hlt q4 (fun i y hy => ⟨(q5 i y hy).1, (q5 i y hy).2.ev e01 (by decide)⟩) hX hx1 fun τ2 e2 hA => ⟨ok_b1, hP τ2 arr ((e01.tr e2).le' (by omega)) hA (Or.inl rfl)⟩
  · have heq : l.length = cap := (i_eq (by omega) (by omega)).mp w
    -- the grown array
    have fin : ∀ τ2 arr' cap', ev G (Wl G a arr) (10 + 2 * l.length) σ τ2 → τ2.1 a = some (.inr (15, [.int (md + 1), va_rf (some arr'), .int (Int32.ofNat l.length)])) → (∃ f', τ2.1 arr' = some (.inl (5, cap', .inr (.inr (.inr (.inr f'))))) ∧ ∀ i y, l[i]? = some y → f' i = some y) → l.length < cap' → cap' ≤ 60 → ¬ gX G arr' → σ.2.1 ≤ arr' → wJ7_add_2b11 G (fun z5 => (okN .boolean 1 ∧ P 1 z5)) PX (some a) (some x) (some arr') (Int32.ofNat l.length) τ2 := by
      intro τ2 arr' cap' e2 ha ⟨f', hf', hff⟩ hlt hc hX hle
      refine add_fin e2.t ha hf' rfl hlt hc (fun i y hy => ⟨hff i y hy, (q5 i y hy).2.ev e2 (by decide)⟩) hX (hx.ev e2 (by decide)) fun τ3 e3 hA => ⟨ok_b1, hP τ3 arr' ?_ hA (Or.inr hle)⟩
      refine (e2.trans e3 fun b k hb w => ?_).le' (by omega)
      rcases w with w | w
      · exact Or.inl w
      · exfalso
        have := w.1
        omega
    unfold wJ7_grow wJ7_growb0
    refine gI w1.1 (by decide) rfl ⟨rco w1.1, ?_⟩
    rw [i_succ]
    unfold wJ7_grow_2 wJ7_grow_2b0
    refine gR w1.1 (by decide) rfl (aL q21 ⟨fun w => ?_, fun w => gR w1.1 (by decide) rfl ⟨fun _ => ?_, fun w2 => ?_⟩⟩)
    · have hpos : 0 < cap := by
        rw [show (0 : Int32) = Int32.ofNat 0 from rfl, i_lt (by omega) (by omega)] at w
        exact w
      unfold wJ7_grow_2b20 wJ33_newLength wJ33_newLengthb0
      have e9 : Int32.ofNat (l.length + 1) - Int32.ofNat cap = Int32.ofNat 1 := by rw [i_sub (by omega)]; congr 1; omega
      rw [e9, shr1 cap (by omega)]
      have e8 : (Int32.ofNat cap + (if Int32.ofNat 1 < Int32.ofNat (cap / 2) then Int32.ofNat (cap / 2) else Int32.ofNat 1)) = Int32.ofNat (cap + (if 1 < cap / 2 then cap / 2 else 1)) := by
        by_cases h9 : 1 < cap / 2
        · rw [if_pos ((i_lt (by omega) (by omega)).mpr h9), if_pos h9, i_add]
        · rw [if_neg fun w => h9 ((i_lt (by omega) (by omega)).mp w), if_neg h9, i_add]
      rw [e8]
      have hc' : cap + (if 1 < cap / 2 then cap / 2 else 1) ≤ 50 ∧ cap < cap + (if 1 < cap / 2 then cap / 2 else 1) ∧ cap + (if 1 < cap / 2 then cap / 2 else 1) ≤ 2 * cap + 1 := by
        by_cases h9 : 1 < cap / 2
        · rw [if_pos h9]; omega
        · rw [if_neg h9]; omega
      generalize cap + (if 1 < cap / 2 then cap / 2 else 1) = cap' at hc'
      obtain ⟨hc1, hc2, hc3⟩ := hc'
      refine ⟨fun w => ?_, fun _ => ⟨fun w => ?_, fun _ => ?_⟩⟩
      · rw [show (0 : Int32) = Int32.ofNat 0 from rfl, i_le (by omega) (by omega)] at w
        omega
      · rw [show (2147483639 : Int32) = Int32.ofNat 2147483639 from rfl, i_lt (by omega) (by omega)] at w
        omega
      refine gR w1.1 (by decide) rfl ?_
      unfold wJ35_copyOf_2 wJ35_copyOf_2b0
      refine ⟨⟨arr, cap, _, rfl, q21⟩, ?_⟩
      unfold wJ35_copyOf_3 wJ35_copyOf_3b0
      refine ⟨fun w => absurd rfl w, fun _ => nA e1.t (by omega) (e1.rm hb (by omega)) fun arr' τ2 n2 hX2 e2 => aL (n2.o q21) (Or.inr (Or.inr (Or.inr ?_)))⟩
      have e02 := e01.tr e2.up0
      have hmin : (if Int32.ofNat cap' < Int32.ofNat cap then Int32.ofNat cap' else Int32.ofNat cap) = Int32.ofNat cap := if_neg fun w => by
        rw [i_lt (by omega) (by omega)] at w
        omega
      rw [hmin]
      have h0n : (0 : Int32).toNatClampNeg = 0 := rfl
      refine ⟨arr, cap, f, arr', cap', _, rfl, n2.o q21, rfl, n2.2.1, hX2, by decide, by decide, i_nn (by omega), by rw [h0n, i_nat (by omega)]; omega, by rw [h0n, i_nat (by omega)]; omega, fun i hi => ?_, ?_⟩
      · rw [i_nat (by omega)] at hi
        have hi2 : i < l.length := by omega
        have hq := q5 i l[i] (List.getElem?_eq_getElem hi2)
        rw [h0n, Nat.zero_add, hq.1]
        exact hq.2.ev e02 (by decide)
      · have hw := wr_set (σ := τ2) (a := arr') (e := .inl (5, cap', .inr (.inr (.inr (.inr (va_cpy f (fun _ => none) (0 : Int32).toNatClampNeg (0 : Int32).toNatClampNeg (Int32.ofNat cap).toNatClampNeg))))))
        have e3 := wr_ev e2.t n2.2.1 hw rfl (fun ci1 fs1 e1 => nomatch e1) (fun x _ => hX2) fun ci1 fs1 e1 => nomatch e1
        have ha2 : τ2.1 a = some (.inr (15, [.int (md + 1), va_rf (some arr), .int (Int32.ofNat l.length)])) := n2.o w1.1
        have hna : a ≠ arr' := n2.ne w1.1
        refine pO e3.t (by rw [hw.o hna]; exact ha2) (by decide) (by simp) (by decide) fun τ4 w4 e4 => ?_
        have hle : σ.2.1 ≤ arr' := by rw [n2.1]; exact e1.le
        have e04 : ev G (Wl G a arr) (10 + 2 * l.length) σ τ4 := (((e02.f1 e3 hle).tr (e4.mono (fun b k _ w => Or.inl w) (Nat.le_refl _))).le' (by omega))
        refine fin τ4 arr' cap' e04 w4.1 ⟨_, by rw [w4.o (Ne.symm hna)]; exact hw.1, fun i y hy => ?_⟩ (by omega) (by omega) hX2 hle
        have hi2 : i < l.length := (List.getElem?_eq_some_iff.mp hy).1
        rw [h0n, i_nat (by omega), va_cpy_i, if_pos (by omega)]
        exact (q5 i y hy).1
    · have h0 : cap = 0 := by
        rcases Nat.eq_zero_or_pos cap with h9 | h9
        · exact h9
        · exact absurd ((i_lt (by omega) (by omega) : Int32.ofNat 0 < Int32.ofNat cap ↔ _).mpr h9) w
      have hl0 : l.length = 0 := by omega
      have e10 : (if (10 : Int32) < Int32.ofNat (l.length + 1) then Int32.ofNat (l.length + 1) else 10) = Int32.ofNat 10 := by
        rw [hl0]; rfl
      rw [e10]
      refine nA e1.t (by omega) (e1.rm hb (by omega)) fun arr' τ2 n2 hX2 e2 => ?_
      have ha2 : τ2.1 a = some (.inr (15, [.int (md + 1), va_rf (some arr), .int (Int32.ofNat l.length)])) := n2.o w1.1
      have hna : a ≠ arr' := n2.ne w1.1
      refine pO e2.t ha2 (by decide) (by simp) (by decide) fun τ4 w4 e4 => ?_
      have hle : σ.2.1 ≤ arr' := by rw [n2.1]; exact e1.le
      have e04 : ev G (Wl G a arr) (11 + 2 * l.length) σ τ4 := (((e01.tr e2.up0).tr (e4.mono (fun b k _ w => Or.inl w) (Nat.le_refl _))).le' (by omega))
      unfold wJ7_add_2b11
      refine sR (L := [1, 6, 7]) e4.t (by rw [w4.o (Ne.symm hna)]; exact n2.2.1) (by decide) hX2 (by omega) (i := l.length) (by omega) (hx.ev e04 (by decide)) fun τ5 w5 e5 => pO e5.t (by rw [w5.o hna]; exact w4.1) (by decide) (by simp) (by decide) fun τ6 w6 e6 => ⟨ok_b1, ?_⟩
      have e06 : ev G (Wl G a arr) (11 + 2 * l.length) σ τ6 := (((e04.f1 e5 hle).tr (e6.mono (fun b k _ w => Or.inl w) (Nat.le_refl _))).le' (by omega))
      have hle0 : l = [] := List.length_eq_zero_iff.mp hl0
      subst hle0
      refine hP τ6 arr' e06 ⟨10, _, w6.1, by rw [w6.o (Ne.symm hna)]; exact w5.1, by simp, by omega, fun i y hy => ?_, Or.inl ⟨hX2, by omega⟩⟩ (Or.inr hle)
      cases i with
      | zero => cases hy; exact ⟨if_pos rfl, hx.ev e06 (by decide)⟩
      | succ i => exact nomatch hy
    · have h0 : cap = 0 := by
        rcases Nat.eq_zero_or_pos cap with h9 | h9
        · exact h9
        · exact absurd ((i_lt (by omega) (by omega) : Int32.ofNat 0 < Int32.ofNat cap ↔ _).mpr h9) w
      rcases q6 with ⟨-, h⟩ | ⟨h, -⟩
      · omega
      · exact absurd (by rw [h]) w2
end LIST
