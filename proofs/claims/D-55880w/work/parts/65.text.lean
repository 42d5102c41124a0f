/-! texts: strings, builders -/
set_option maxRecDepth 100000
theorem shr0 : ∀ n, n < 200 → Int32.ofNat n >>> ((0 : Int32) &&& 31) = Int32.ofNat n := by decide +kernel
theorem shl0 : ∀ n, n < 200 → Int32.ofNat n <<< ((0 : Int32) &&& 31) = Int32.ofNat n := by decide +kernel
theorem sub_le0 : ∀ a, a < 150 → ∀ b, b < 150 → (Int32.ofNat a - Int32.ofNat b ≤ 0 ↔ a ≤ b) := by decide +kernel
theorem ch255 : ∀ c, c < 128 → (((Int32.ofNat c &&& 255 : Int32).toUInt32 % 65536).toInt32) = Int32.ofNat c := by decide +kernel
theorem ch8 : ∀ c, c < 128 → (Int32.ofNat c : Int32).toInt8.toInt32 = Int32.ofNat c := by decide +kernel
theorem nar_b : ∀ c, c < 128 → vp_nar .byte (Int32.ofNat c) = Int32.ofNat c := by decide +kernel
theorem fit_b : ∀ c, c < 128 → fits .byte (.int (Int32.ofNat c)) = true := by decide +kernel
theorem okN_y0 : okN .byte 0 := ⟨rfl, rfl⟩
/-- bytes that are letters -/
def byT (f : Nat → Int32) (T : List Nat) : Prop := ∀ i c, T[i]? = some c → f i = Int32.ofNat c ∧ c < 128
def byF (f : Nat → Int32) : Prop := ∀ i, fits .byte (.int (f i)) = true
/-- s is a String of the letters T -/
def ST (σ : hSt) (s : Nat) (T : List Nat) : Prop := ∃ arr h hz f, σ.1 s = some (.inr (17, [va_rf (some arr), .int 0, .int h, .int hz])) ∧ σ.1 arr = some (.inl (2, T.length, .inl f)) ∧ byT f T ∧ T.length < 150
theorem ST.ev {G : gE} {W : Nat → Nat → Prop} {c : Nat} {σ τ : hSt} {s : Nat} {T : List Nat} (h : ST σ s T) (he : ev G W c σ τ) (hW : ∀ b, ¬ W b 17 ∧ ¬ W b 102) : ST τ s T := by
  obtain ⟨arr, h, hz, f, q1, q2, q3⟩ := h
  exact ⟨arr, h, hz, f, he.o q1 (hW _).1 (by decide) (by decide), he.a q2 (hW _).2, q3⟩
/-- a String whose letters lie in an array that is so -/
def STq (σ : hSt) (s : Nat) (Q : Nat → Prop) (T : List Nat) : Prop := ∃ arr h hz f, σ.1 s = some (.inr (17, [va_rf (some arr), .int 0, .int h, .int hz])) ∧ σ.1 arr = some (.inl (2, T.length, .inl f)) ∧ byT f T ∧ T.length < 150 ∧ Q arr
theorem STq.st {σ : hSt} {s : Nat} {Q : Nat → Prop} {T : List Nat} (h : STq σ s Q T) : ST σ s T := by
  obtain ⟨arr, a, hz, f, q1, q2, q3, q4, -⟩ := h
  exact ⟨arr, a, hz, f, q1, q2, q3, q4⟩
theorem STq.mono {σ : hSt} {s : Nat} {Q Q' : Nat → Prop} {T : List Nat} (h : STq σ s Q T) (hQ : ∀ a e, σ.1 a = some e → Q a → Q' a) : STq σ s Q' T := by
  obtain ⟨arr, a, hz, f, q1, q2, q3, q4, q5⟩ := h
  exact ⟨arr, a, hz, f, q1, q2, q3, q4, hQ _ _ q2 q5⟩
theorem STq.ev {G : gE} {W : Nat → Nat → Prop} {c : Nat} {σ τ : hSt} {s : Nat} {Q : Nat → Prop} {T : List Nat} (h : STq σ s Q T) (he : ev G W c σ τ) (h17 : ∀ b, ¬ W b 17) (hW : ∀ a, Q a → ¬ W a 102) : STq τ s Q T := by
  obtain ⟨arr, a, hz, f, q1, q2, q3, q4, q5⟩ := h
  exact ⟨arr, a, hz, f, he.o q1 (h17 _) (by decide) (by decide), he.a q2 (hW _ q5), q3, q4, q5⟩
theorem ST_c {G : gE} {σ : hSt} (hS : SI G σ) {k : Nat} (hk : k < 17) (h0 : k = 0 ∨ 10 ≤ k) : ST σ (gA G k) (txt k) := by
  obtain ⟨-, hz, q1⟩ := hS.2.2.1 k hk
  obtain ⟨-, q2⟩ := hS.2.2.2.1 k hk h0
  have h9 : k = 0 ∨ k = 10 ∨ k = 11 ∨ k = 12 ∨ k = 13 ∨ k = 14 ∨ k = 15 ∨ k = 16 := by omega
  refine ⟨_, _, hz, _, q1, q2, fun i c hc => ⟨by unfold chF; rw [hc]; rfl, ?_⟩, ?_⟩
  · have := List.mem_of_getElem? hc
    revert this
    rcases h9 with rfl | rfl | rfl | rfl | rfl | rfl | rfl | rfl <;> simp [txt] <;> omega
  · rcases h9 with rfl | rfl | rfl | rfl | rfl | rfl | rfl | rfl <;> decide
section STR
variable {G : gE} {σ : hSt} {PX : Nat → Nat → hSt → Prop} {s : Nat} {T : List Nat}
theorem ST.rc (h : ST σ s T) : rcv σ (some s) 17 := by
  obtain ⟨arr, h, hz, f, q1, -⟩ := h
  exact rco q1
theorem st_coder {P : Int32 → hSt → Prop} (h : ST σ s T) (hP : P 0 σ) : wJ10_coder G P PX (some s) σ := by
  obtain ⟨arr, h, hz, f, q1, -⟩ := h
  unfold wJ10_coder wJ10_coderb0
  exact ⟨fun w => absurd w (by decide), fun _ => gI q1 (by decide) rfl ⟨okN_y0, hP⟩⟩
theorem st_lat {P : Int32 → hSt → Prop} (h : ST σ s T) (hP : P 1 σ) : wJ10_isLatin1 G P PX (some s) σ := by
  obtain ⟨arr, h, hz, f, q1, -⟩ := h
  unfold wJ10_isLatin1 wJ10_isLatin1b0
  exact ⟨fun w => absurd w (by decide), fun _ => gI q1 (by decide) rfl ⟨fun w => absurd rfl w, fun _ => ⟨ok_b1, hP⟩⟩⟩
theorem st_len {P : Int32 → hSt → Prop} (h : ST σ s T) (hP : P (Int32.ofNat T.length) σ) : wJ10_length G P PX (some s) σ := by
  have h' := h
  obtain ⟨arr, h, hz, f, q1, q2, q3, q4⟩ := h
  unfold wJ10_length wJ10_lengthb0
  refine gR q1 (by decide) rfl (aL q2 ⟨h'.rc, st_coder h' ?_⟩)
  rw [shr0 _ (by omega)]; exact hP
theorem ck36 {P : Int32 → hSt → Prop} {i n : Nat} {r : Option Nat} (hi : i < n) (hn : n < 2147483648) (hP : P (Int32.ofNat i) σ) : wJ36_checkIndex G P PX (Int32.ofNat i) (Int32.ofNat n) r σ := by
  unfold wJ36_checkIndex wJ36_checkIndexb0
  exact ⟨fun w => absurd w (i_nn (by omega)), fun _ => ⟨fun _ => hP, fun w => absurd ((i_lt (by omega) hn).mpr hi) w⟩⟩
theorem st_char {P : Int32 → hSt → Prop} {i c : Nat} (h : ST σ s T) (hc : T[i]? = some c) (hP : P (Int32.ofNat c) σ) : wJ10_charAt G P PX (some s) (Int32.ofNat i) σ := by
  have h' := h
  obtain ⟨arr, h, hz, f, q1, q2, q3, q4⟩ := h
  have hi : i < T.length := (List.getElem?_eq_some_iff.mp hc).1
  have hf := q3 i c hc
  unfold wJ10_charAt wJ10_charAtb0
  refine ⟨h'.rc, st_lat h' ⟨fun w => absurd w (by decide), fun _ => gR q1 (by decide) rfl ?_⟩⟩
  unfold wJ32_charAt wJ32_charAtb0
  refine aL q2 ?_
  unfold wJ10_checkIndex wJ10_checkIndexb0
  refine fun r => ck36 hi (by omega) (aI q2 (by omega) hi ?_)
  rw [hf.1, ch255 _ hf.2]
  exact ⟨okN_c (by omega), okN_c (by omega), hP⟩
/-- the place of a letter -/
def idxR (T : List Nat) (c : Nat) (x : Int32) : Prop := (∃ i, T[i]? = some c ∧ (∀ j, j < i → T[j]? ≠ some c) ∧ x = Int32.ofNat i) ∨ ((∀ j : Nat, T[j]? ≠ some c) ∧ x = -1)
theorem st_idx {P : Int32 → hSt → Prop} {c : Nat} (h : ST σ s T) (hT : T ≠ []) (hc : c < 128) (hP : ∀ x, idxR T c x → P x σ) : wJ10_indexOf G P PX (some s) (Int32.ofNat c) σ := by
  have h' := h
  obtain ⟨arr, h, hz, f, q1, q2, q3, q4⟩ := h
  have hpos := Nat.pos_of_ne_zero fun w => hT (List.length_eq_zero_iff.mp w)
  unfold wJ10_indexOf wJ10_indexOfb0
  refine ⟨h'.rc, ?_⟩
  unfold wJ10_indexOf_2 wJ10_indexOf_2b0
  refine ⟨h'.rc, st_lat h' ⟨fun w => absurd w (by decide), fun _ => gR q1 (by decide) rfl ⟨h'.rc, st_len h' ?_⟩⟩⟩
  unfold wJ32_indexOf wJ32_indexOfb0 wJ32_canEncode_2 wJ32_canEncode_2b0
  refine ⟨fun w => absurd w (i_nn (by omega)), fun _ => ⟨fun w => ?_, fun _ => ⟨ok_b1, fun _ => ?_, fun w => absurd w (by decide)⟩⟩⟩
  · rw [show (255 : Int32) = Int32.ofNat 255 from rfl, i_lt (by omega) (by omega)] at w
    omega
  refine aL q2 ?_
  have e1 : (if (0 : Int32) < 0 then (0 : Int32) else 0) = 0 := rfl
  have e2 : (if Int32.ofNat T.length < Int32.ofNat T.length then Int32.ofNat T.length else Int32.ofNat T.length) = Int32.ofNat T.length := by
    by_cases w : Int32.ofNat T.length < Int32.ofNat T.length
    · rw [if_pos w]
    · rw [if_neg w]
  rw [e1, e2]
  refine ⟨fun _ => ?_, fun w => absurd ((i_lt (by omega) (by omega) : Int32.ofNat 0 < Int32.ofNat T.length ↔ _).mpr hpos) w⟩
  unfold wJ32_indexOfChar wJ32_indexOfCharb0
  rw [ch8 c hc]
  refine lp_n (fun n y => ∃ j, j ≤ T.length ∧ n = T.length - j ∧ y = (some arr, Int32.ofNat T.length, Int32.ofNat c, Int32.ofNat j, σ) ∧ ∀ i, i < j → T[i]? ≠ some c) T.length ⟨0, Nat.zero_le _, rfl, rfl, fun i hi => absurd hi (Nat.not_lt_zero _)⟩ ?_
  rintro n y ⟨j, hj, rfl, rfl, hno⟩ K hK
  unfold wJ32_indexOfCharb7
  refine ⟨fun w => hP _ (Or.inr ⟨fun i => ?_, rfl⟩), fun w => ?_⟩
  · rw [i_le (by omega) (by omega)] at w
    by_cases hi : i < T.length
    · exact hno i (by omega)
    · rw [List.getElem?_eq_none (by omega)]; exact fun w => nomatch w
  · have hjl : j < T.length := by
      rw [i_le (by omega) (by omega)] at w
      omega
    have hq := q3 j _ (List.getElem?_eq_getElem hjl)
    refine aI q2 (by omega) hjl ⟨fun w2 => ?_, fun w2 => ?_⟩
    · rw [i_succ]
      refine hK (T.length - (j + 1)) _ (by omega) ⟨j + 1, by omega, rfl, rfl, fun i hi => ?_⟩
      by_cases e : i = j
      · subst e
        rw [List.getElem?_eq_getElem hjl]
        intro e
        injection e with e
        rw [hq.1, e] at w2
        exact w2 rfl
      · exact hno i (by omega)
    · rw [hq.1, i_eq (by omega) (by omega)] at w2
      exact hP _ (Or.inl ⟨j, by rw [List.getElem?_eq_getElem hjl, w2], hno, rfl⟩)
end STR
/-- b is a StringBuilder of the letters T, in the array arr -/
def SB (G : gE) (σ : hSt) (b arr : Nat) (T : List Nat) : Prop := ∃ cap f ml, σ.1 b = some (.inr (16, [va_rf (some arr), .int 0, .int ml, .int (Int32.ofNat T.length)])) ∧ σ.1 arr = some (.inl (2, cap, .inl f)) ∧ byT f T ∧ T.length ≤ cap ∧ (cap = 16 ∨ cap = 34 ∨ cap = 70) ∧ ¬ gX G arr ∧ byF f
/-- what a builder's change may touch -/
abbrev Wb (b arr : Nat) : Nat → Nat → Prop := fun c k => (c = b ∧ k = 16) ∨ (c = arr ∧ k = 102)
theorem SB.ev {G : gE} {W : Nat → Nat → Prop} {c : Nat} {σ τ : hSt} {b arr : Nat} {T : List Nat} (h : SB G σ b arr T) (he : ev G W c σ τ) (h1 : ¬ W b 16) (h2 : ¬ W arr 102) : SB G τ b arr T := by
  obtain ⟨cap, f, ml, q1, q2, q3⟩ := h
  exact ⟨cap, f, ml, he.o q1 h1 (by decide) (by decide), he.a q2 h2, q3⟩
theorem byT_app {f : Nat → Int32} {T : List Nat} {c : Nat} (h : byT f T) (hc : c < 128) : byT (upd f T.length (Int32.ofNat c)) (T ++ [c]) := by
  intro i d hd
  by_cases e : i = T.length
  · subst e
    rw [List.getElem?_append_right (Nat.le_refl _), Nat.sub_self] at hd
    cases hd
    exact ⟨by simp [upd], hc⟩
  · have hi : i < T.length := by
      have := (List.getElem?_eq_some_iff.mp hd).1
      simp at this
      omega
    rw [List.getElem?_append_left hi] at hd
    exact ⟨by simp [upd, e]; exact (h i d hd).1, (h i d hd).2⟩
theorem va_cpyI (f g : Nat → Int32) (p n i : Nat) : va_cpy f g 0 p n i = if p ≤ i ∧ i < p + n then f (i - p) else g i := by
  unfold va_cpy
  by_cases h : p ≤ i ∧ i < p + n
  · simp [h]
  · simp [h]
theorem acB {G : gE} {σ : hSt} {K : hSt → Prop} {a0 a1 n0 n1 p n : Nat} {f g : Nat → Int32} (hS : SI G σ) (h0 : σ.1 a0 = some (.inl (2, n0, .inl f))) (h1 : σ.1 a1 = some (.inl (2, n1, .inl g))) (hX : ¬ gX G a1) (hn : n ≤ n0) (hp : p + n ≤ n1) (hb : n < 2147483648) (hb2 : p < 2147483648) (hf : ∀ i, i < n → fits .byte (.int (f i)) = true) (hK : ∀ τ, wr σ τ a1 (.inl (2, n1, .inl (va_cpy f g 0 p n))) → ev G (W1 a1 102) 0 σ τ → K τ) : acA G σ (some a0) 0 (some a1) (Int32.ofNat p) (Int32.ofNat n) K := by
  refine Or.inr (Or.inl ⟨a0, n0, f, a1, n1, g, rfl, h0, rfl, h1, hX, by decide, i_nn hb2, i_nn hb, ?_, ?_, fun i hi => ?_, ?_⟩)
  · rw [i_nat hb, show (0 : Int32).toNatClampNeg = 0 from rfl]; omega
  · rw [i_nat hb, i_nat hb2]; exact hp
  · rw [i_nat hb] at hi
    rw [show (0 : Int32).toNatClampNeg = 0 from rfl, Nat.zero_add]
    exact hf i hi
  · rw [i_nat hb, i_nat hb2, show (0 : Int32).toNatClampNeg = 0 from rfl]
    exact hK _ wr_set (wr_ev hS h1 wr_set rfl (fun ci1 fs1 e1 => nomatch e1) (fun x _ => hX) fun ci1 fs1 e1 => nomatch e1)
section BLD
variable {G : gE} {σ : hSt} {PX : Nat → Nat → hSt → Prop} {b arr : Nat} {T : List Nat}
theorem SB.rc (h : SB G σ b arr T) : rcv σ (some b) 16 := by
  obtain ⟨cap, f, ml, q1, -⟩ := h
  exact rco q1
theorem sb_lat {P : Int32 → hSt → Prop} (h : SB G σ b arr T) (hP : P 1 σ) : wJ8_isLatin1 G P PX (some b) σ := by
  obtain ⟨cap, f, ml, q1, -⟩ := h
  unfold wJ8_isLatin1 wJ8_isLatin1b0
  exact ⟨fun w => absurd w (by decide), fun _ => gI q1 (by decide) rfl ⟨fun w => absurd rfl w, fun _ => ⟨ok_b1, hP⟩⟩⟩
theorem sb_len {P : Int32 → hSt → Prop} (h : SB G σ b arr T) (hP : P (Int32.ofNat T.length) σ) : wJ9_length G P PX (some b) σ := by
  obtain ⟨cap, f, ml, q1, -⟩ := id h
  unfold wJ9_length wJ9_lengthb0 wJ8_length wJ8_lengthb0
  exact ⟨h.rc, gI q1 (by decide) rfl hP⟩
theorem sb_new {P : hSt → Prop} {c0 c1 c2 c3 : Value} (hS : SI G σ) (h : σ.1 b = some (.inr (16, [c0, c1, c2, c3]))) (h2 : c2 = .int 0) (h3 : c3 = .int 0) (hb : bd G σ 17) (hP : ∀ τ arr, ev G (W1 b 16) 17 σ τ → σ.2.1 ≤ arr → SB G τ b arr [] → P τ) : wJ9_init G P PX (some b) σ := by
  subst h2
  subst h3
  unfold wJ9_init wJ9_initb0 wJ8_init wJ8_initb0
  refine ⟨⟨b, rfl⟩, ⟨b, rfl⟩, fun w => absurd w (by decide), fun _ => nA (n := 16) hS (by omega) hb fun arr τ n hX e => ?_⟩
  have hne : b ≠ arr := n.ne h
  refine pO e.t (n.o h) (by decide) (by simp) (by decide) fun τ1 w1 e1 => ⟨okN_y0, pO e1.t w1.1 (by decide) (by simp) (by decide) fun τ2 w2 e2 => ?_⟩
  refine hP τ2 arr (((e.up0.tr e1).tr e2).le' (by omega)) (by rw [n.1]; exact Nat.le_refl _) ⟨16, _, 0, w2.1, by rw [w2.o (Ne.symm hne), w1.o (Ne.symm hne)]; exact n.2.1, fun i c hc => (nomatch hc), Nat.zero_le _, Or.inl rfl, hX, fun _ => rfl⟩
/-- room for M letters in all -/
theorem sb_ens {P : hSt → Prop} {M : Nat} (hS : SI G σ) (h : SB G σ b arr T) (hM : M ≤ 70) (hMT : M ≤ T.length + 17) (hb : bd G σ 71) (hP : ∀ τ arr' cap f ml, ev G (W1 b 16) 71 σ τ → arr' = arr ∨ σ.2.1 ≤ arr' → τ.1 b = some (.inr (16, [va_rf (some arr'), .int 0, .int ml, .int (Int32.ofNat T.length)])) → τ.1 arr' = some (.inl (2, cap, .inl f)) → byT f T → M ≤ cap → T.length ≤ cap → (cap = 16 ∨ cap = 34 ∨ cap = 70) → ¬ gX G arr' → byF f → P τ) : wJ8_ensureCapacityInternal G P PX (some b) (Int32.ofNat M) σ := by
  have hrc := h.rc
  obtain ⟨cap, f, ml, q1, q2, q3, q4, q5, q7, q8⟩ := h
  unfold wJ8_ensureCapacityInternal wJ8_ensureCapacityInternalb0
  refine gR q1 (by decide) rfl (aL q2 (gI q1 (by decide) rfl ?_))
  rw [shr0 _ (by omega), sub_le0 _ (by omega) _ (by omega)]
  refine ⟨fun w => hP σ arr cap f ml ((ev.refl hS).le' (by omega)) (Or.inl rfl) q1 q2 q3 w q4 q5 q7 q8, fun w => gR q1 (by decide) rfl ⟨hrc, ?_⟩⟩
  unfold wJ8_newCapacity wJ8_newCapacityb0
  refine gR q1 (by decide) rfl (aL q2 (gI q1 (by decide) rfl (gI q1 (by decide) rfl ?_)))
  have hc34 : cap ≤ 34 := by omega
  rw [shl0 _ (by omega), show ((2 : Int32) <<< ((0 : Int32) &&& 31)) = Int32.ofNat 2 from by decide +kernel, i_add, i_sub (by omega)]
  unfold wJ33_newLength wJ33_newLengthb0
  have e8 : (Int32.ofNat cap + (if Int32.ofNat (M - cap) < Int32.ofNat (cap + 2) then Int32.ofNat (cap + 2) else Int32.ofNat (M - cap))) = Int32.ofNat (cap + (cap + 2)) := by
    rw [if_pos ((i_lt (by omega) (by omega)).mpr (by omega)), i_add]
  rw [e8]
  refine ⟨fun w => ?_, fun _ => ⟨fun w => ?_, fun _ => ⟨fun _ => gI q1 (by decide) rfl ?_, fun w => ?_⟩⟩⟩
  · rw [show (0 : Int32) = Int32.ofNat 0 from rfl, i_le (by omega) (by omega)] at w
    omega
  · rw [show (2147483639 : Int32) = Int32.ofNat 2147483639 from rfl, i_lt (by omega) (by omega)] at w
    omega
  · rw [shr0 _ (by omega)]
    refine gI q1 (by decide) rfl ?_
    rw [shl0 _ (by omega)]
    unfold wJ35_copyOf wJ35_copyOfb0
    refine aL q2 ⟨fun _ => nA hS (by omega) (hb.mono (by omega)) fun arr' τ n hX e => aL (n.o q2) ?_, fun w => ?_⟩
    · have hmin : (if Int32.ofNat (cap + (cap + 2)) < Int32.ofNat cap then Int32.ofNat (cap + (cap + 2)) else Int32.ofNat cap) = Int32.ofNat cap := if_neg fun w => by
        rw [i_lt (by omega) (by omega)] at w
        omega
      rw [hmin]
      refine acB (p := 0) e.t (n.o q2) n.2.1 hX (by omega) (by omega) (by omega) (by omega) (fun i _ => q8 i) fun τ1 w1 e1 => ?_
      have hb1 : τ1.1 b = some (.inr (16, [va_rf (some arr), .int 0, .int ml, .int (Int32.ofNat T.length)])) := by rw [w1.o (n.ne q1)]; exact n.o q1
      refine pO e1.t hb1 (by decide) (by simp) (by decide) fun τ2 w2 e2 => ?_
      have hle : σ.2.1 ≤ arr' := by rw [n.1]; exact Nat.le_refl _
      refine hP τ2 arr' (cap + (cap + 2)) _ ml ((((e.up0.f1 e1 hle).tr e2)).le' (by omega)) (Or.inr hle) w2.1 (by rw [w2.o (Ne.symm (n.ne q1))]; exact w1.1) (fun i c hc => ⟨?_, (q3 i c hc).2⟩) (by omega) (by omega) (by omega) hX fun i => ?_
      · have hi : i < T.length := (List.getElem?_eq_some_iff.mp hc).1
        rw [va_cpyI, if_pos (by omega), Nat.sub_zero]
        exact (q3 i c hc).1
      · rw [va_cpyI]
        split
        · exact q8 _
        · rfl
    · rw [i_eq (by omega) (by omega)] at w
      omega
  · rw [show (2147483647 : Int32) = Int32.ofNat 2147483647 from rfl, i_eq (by omega) (by omega)] at w
    omega
/-- one letter more -/
theorem sb_put {P : hSt → Prop} {cap : Nat} {f : Nat → Int32} {ml n : Int32} {c : Nat} (hS : SI G σ) (q1 : σ.1 b = some (.inr (16, [va_rf (some arr), .int 0, .int ml, .int n]))) (q2 : σ.1 arr = some (.inl (2, cap, .inl f))) (q3 : byT f T) (hl : T.length < cap) (hc16 : cap = 16 ∨ cap = 34 ∨ cap = 70) (hX : ¬ gX G arr) (hF : byF f) (hc : c < 128) (hn : n = Int32.ofNat (T.length + 1)) (hP : ∀ τ, ev G (W1 arr 102) 0 σ τ → SB G τ b arr (T ++ [c]) → P τ) : asI G σ (some arr) 2 .byte (Int32.ofNat T.length) (Int32.ofNat c) P := by
  have hne : b ≠ arr := by
    rintro rfl
    rw [q1] at q2; exact nomatch q2
  refine sI hS q2 hX (by omega) hl fun τ w e => hP τ e ⟨cap, _, ml, by rw [w.o hne, q1, hn, List.length_append]; rfl, w.1, ?_, by rw [List.length_append, List.length_singleton]; omega, hc16, hX, fun i => ?_⟩
  · rw [nar_b c hc]; exact byT_app q3 hc
  · rw [nar_b c hc]
    unfold upd
    split
    · exact fit_b c hc
    · exact hF i
theorem sb_char {P : Option Nat → hSt → Prop} {c : Nat} (hS : SI G σ) (h : SB G σ b arr T) (hT : T.length < 70) (hc : c < 128) (hb : bd G σ 71) (hP : ∀ τ arr', ev G (Wb b arr) 71 σ τ → arr' = arr ∨ σ.2.1 ≤ arr' → SB G τ b arr' (T ++ [c]) → P (some b) τ) : wJ9_append_3 G P PX (some b) (Int32.ofNat c) σ := by
  obtain ⟨cap0, f0, ml0, q1, -⟩ := id h
  unfold wJ9_append_3 wJ9_append_3b0
  refine ⟨h.rc, ?_⟩
  unfold wJ8_append_3 wJ8_append_3b0
  refine gI q1 (by decide) rfl ⟨h.rc, ?_⟩
  rw [i_succ]
  refine sb_ens hS h (by omega) (by omega) hb fun τ arr' cap f ml e ha r1 r2 r3 r4 r5 r6 r7 r8 => ⟨rco r1, ?_⟩
  have hSB : SB G τ b arr' T := ⟨cap, f, ml, r1, r2, r3, r5, r6, r7, r8⟩
  refine sb_lat hSB ⟨fun w => absurd w (by decide), fun _ => ?_⟩
  unfold wJ32_canEncode wJ32_canEncodeb0
  refine ⟨fun w => ?_, fun _ => ⟨ok_b1, fun w => absurd w (by decide), fun _ => gR r1 (by decide) rfl (gI r1 (by decide) rfl (pO e.t r1 (by decide) (by simp) (by decide) fun τ1 w1 e1 => ?_))⟩⟩
  · rw [show (255 : Int32) = Int32.ofNat 255 from rfl, i_lt (by omega) (by omega)] at w
    omega
  rw [ch8 c hc]
  have hne : arr' ≠ b := by
    rintro rfl
    rw [r1] at r2; exact nomatch r2
  refine sb_put (c := c) e1.t w1.1 (by rw [w1.o hne]; exact r2) r3 (by omega) r6 r7 r8 hc (i_succ _) fun τ2 e2 hB => ?_
  unfold wJ8_append_3b75
  refine hP τ2 arr' ?_ ha hB
  refine ((((e.mono (fun b k _ w => Or.inl w) (Nat.le_refl _)).tr (e1.mono (fun b k _ w => Or.inl w) (Nat.le_refl _))).trans e2 fun b k hb w => ?_).le' (by omega))
  obtain ⟨rfl, rfl⟩ := w
  rcases ha with rfl | ha
  · exact Or.inr ⟨rfl, rfl⟩
  · omega
theorem dig9 : ∀ v, v < 10 → Int32.ofNat (48 + (-(-Int32.ofNat v) : Int32).toNatClampNeg % 10) = Int32.ofNat (48 + v) := by decide +kernel
theorem neg10 : ∀ v, v < 10 → ¬ (-Int32.ofNat v : Int32) ≤ -10 ∧ (-100 : Int32) < -Int32.ofNat v ∧ (-9 : Int32) ≤ -Int32.ofNat v ∧ -(-Int32.ofNat v : Int32) = Int32.ofNat v := by decide +kernel
/-- a figure more -/
theorem sb_fig {P : Option Nat → hSt → Prop} {v : Nat} (hS : SI G σ) (h : SB G σ b arr T) (hT : T.length < 70) (hvk : v < 10) (hb : bd G σ 71) (hP : ∀ τ arr', ev G (Wb b arr) 71 σ τ → arr' = arr ∨ σ.2.1 ≤ arr' → SB G τ b arr' (T ++ [48 + v]) → P (some b) τ) : wJ9_append_2 G P PX (some b) (Int32.ofNat v) σ := by
  obtain ⟨cap0, f0, ml0, q1, -⟩ := id h
  obtain ⟨n1, n2, n3, n4⟩ := neg10 v hvk
  unfold wJ9_append_2 wJ9_append_2b0
  refine ⟨h.rc, ?_⟩
  unfold wJ8_append_2 wJ8_append_2b0
  refine gI q1 (by decide) rfl ?_
  unfold wJ31_stringSize wJ31_stringSizeb0 wJ31_stringSizeb11
  refine ⟨fun w => absurd w (i_nn (by omega)), fun _ => ⟨fun y => y = (-Int32.ofNat v, 0, -10, 1, σ), fun _ => 0, rfl, ?_⟩⟩
  rintro y rfl
  unfold wJ31_stringSizeb16
  dsimp only
  refine ⟨fun w => absurd w (by decide), fun _ => ⟨fun w => absurd w n1, fun _ => ⟨h.rc, ?_⟩⟩⟩
  rw [show ((1 : Int32) + 0) = 1 from rfl, i_succ]
  refine sb_ens hS h (by omega) (by omega) hb fun τ arr' cap f ml e ha r1 r2 r3 r4 r5 r6 r7 r8 => ⟨rco r1, ?_⟩
  have hSB : SB G τ b arr' T := ⟨cap, f, ml, r1, r2, r3, r5, r6, r7, r8⟩
  refine sb_lat hSB ⟨fun w => absurd w (by decide), fun _ => gR r1 (by decide) rfl ?_⟩
  unfold wJ31_getChars wJ31_getCharsb0
  refine ⟨fun _ => ?_, fun w => absurd ((i_le (by omega) (by omega) : Int32.ofNat 0 ≤ Int32.ofNat v ↔ _).mpr (Nat.zero_le _)) w⟩
  unfold wJ31_getCharsb12
  refine ⟨fun w => absurd rfl w, fun _ => ⟨fun y => y = (-Int32.ofNat v, some arr', Int32.ofNat (T.length + 1), 0, τ), fun _ => 0, rfl, ?_⟩⟩
  rintro y rfl
  unfold wJ31_getCharsb22
  dsimp only
  refine ⟨fun _ => ?_, fun w => absurd n2 w⟩
  obtain ⟨-, hd⟩ := e.t.2.2.2.2.2.2.1
  rw [n4]
  refine aI hd (by omega) (by omega) ?_
  have e9 : Int32.ofNat (T.length + 1) + (-1) = Int32.ofNat T.length := by
    rw [show (-1 : Int32) = -(1 : Int32) from rfl, ← Int32.sub_eq_add_neg, show (1 : Int32) = Int32.ofNat 1 from rfl, i_sub (by omega)]
    congr 1
  rw [e9, show 48 + v % 10 = 48 + v by omega]
  have hne : arr' ≠ b := by
    rintro rfl
    rw [r1] at r2; exact nomatch r2
  -- the letter is written ahead of the count
  refine sI e.t r2 r7 (by omega) (by omega) fun τ1 w1 e1 => ⟨fun _ => ?_, fun w => absurd n3 w⟩
  unfold wJ31_getCharsb104 wJ31_getCharsb118
  refine ⟨fun _ => pO e1.t (by rw [w1.o (Ne.symm hne)]; exact r1) (by decide) (by simp) (by decide) fun τ2 w2 e2 => ?_, fun w => absurd rfl w⟩
  refine hP τ2 arr' ?_ ha ⟨cap, _, ml, by rw [w2.1, List.length_append, List.length_singleton]; rfl, by rw [w2.o hne]; exact w1.1, ?_, by rw [List.length_append, List.length_singleton]; omega, r6, r7, fun i => ?_⟩
  · refine ((((e.mono (fun b k _ w => Or.inl w) (Nat.le_refl _)).trans e1 fun b k hb w => ?_).tr (e2.mono (fun b k _ w => Or.inl w) (Nat.le_refl _))).le' (by omega))
    obtain ⟨rfl, rfl⟩ := w
    rcases ha with rfl | ha
    · exact Or.inr ⟨rfl, rfl⟩
    · omega
  · rw [nar_b _ (by omega)]; exact byT_app r3 (by omega)
  · rw [nar_b _ (by omega)]
    unfold upd
    split
    · exact fit_b _ (by omega)
    · exact r8 i
theorem byT_cat {f g : Nat → Int32} {T U : List Nat} (h : byT g T) (hf : byT f U) : byT (va_cpy f g 0 T.length U.length) (T ++ U) := by
  intro i c hc
  rw [va_cpyI]
  by_cases hi : i < T.length
  · rw [List.getElem?_append_left hi] at hc
    rw [if_neg (by omega)]
    exact h i c hc
  · rw [List.getElem?_append_right (by omega)] at hc
    have := (List.getElem?_eq_some_iff.mp hc).1
    rw [if_pos (by omega)]
    exact hf _ c hc
/-- a text more -/
theorem sb_str {P : Option Nat → hSt → Prop} {s : Nat} {U : List Nat} (hS : SI G σ) (h : SB G σ b arr T) (hs : ST σ s U) (hT : T.length + U.length ≤ 70) (hU : U.length ≤ 17) (hb : bd G σ 71) (hP : ∀ τ arr', ev G (Wb b arr) 71 σ τ → arr' = arr ∨ σ.2.1 ≤ arr' → SB G τ b arr' (T ++ U) → P (some b) τ) : wJ9_append G P PX (some b) (some s) σ := by
  obtain ⟨cap0, f0, ml0, q1, -⟩ := id h
  unfold wJ9_append wJ9_appendb0
  refine ⟨h.rc, ?_⟩
  unfold wJ8_append wJ8_appendb0
  refine ⟨fun _ => ⟨hs.rc, st_len hs (gI q1 (by decide) rfl ⟨h.rc, ?_⟩)⟩, fun w => nomatch w⟩
  rw [i_add]
  refine sb_ens hS h hT (by omega) hb fun τ arr' cap f ml e ha r1 r2 r3 r4 r5 r6 r7 r8 => gI r1 (by decide) rfl ⟨rco r1, ?_⟩
  have hs1 : ST τ s U := hs.ev e fun c => ⟨fun w => by have := w.2; omega, fun w => by have := w.2; omega⟩
  unfold wJ8_putStringAt wJ8_putStringAtb0
  refine ⟨rco r1, ?_⟩
  unfold wJ8_inflateIfNeededFor wJ8_inflateIfNeededForb0
  refine ⟨fun w => absurd w (by decide), fun _ => gI r1 (by decide) rfl ⟨hs1.rc, st_coder hs1 ⟨fun _ => gR r1 (by decide) rfl (gI r1 (by decide) rfl ⟨hs1.rc, ?_⟩), fun w => absurd rfl w⟩⟩⟩
  unfold wJ10_getBytes wJ10_getBytesb0
  refine ⟨hs1.rc, st_coder hs1 ⟨fun w => absurd rfl w, fun _ => ?_⟩⟩
  obtain ⟨as, hh, hz, fs, g1, g2, g3, g4⟩ := id hs1
  refine gR g1 (by decide) rfl (gR g1 (by decide) rfl (aL g2 ?_))
  rw [shl0 _ (by omega)]
  have hne : arr' ≠ b := by
    rintro rfl
    rw [r1] at r2; exact nomatch r2
  refine acB e.t g2 r2 r7 (Nat.le_refl _) (by omega) (by omega) (by omega) (fun i hi => ?_) fun τ1 w1 e1 => ?_
  · have := g3 i _ (List.getElem?_eq_getElem hi)
    rw [this.1]; exact fit_b _ this.2
  have hb1 : τ1.1 b = some (.inr (16, [va_rf (some arr'), .int 0, .int ml, .int (Int32.ofNat T.length)])) := by rw [w1.o (Ne.symm hne)]; exact r1
  refine gI hb1 (by decide) rfl (pO e1.t hb1 (by decide) (by simp) (by decide) fun τ2 w2 e2 => ?_)
  refine hP τ2 arr' ?_ ha ⟨cap, _, ml, by rw [w2.1, List.length_append, ← i_add]; rfl, by rw [w2.o hne]; exact w1.1, byT_cat r3 g3, by rw [List.length_append]; omega, r6, r7, fun i => ?_⟩
  · refine ((((e.mono (fun b k _ w => Or.inl w) (Nat.le_refl _)).trans e1 fun b k hb w => ?_).tr (e2.mono (fun b k _ w => Or.inl w) (Nat.le_refl _))).le' (by omega))
    obtain ⟨rfl, rfl⟩ := w
    rcases ha with rfl | ha
    · exact Or.inr ⟨rfl, rfl⟩
    · omega
  · rw [va_cpyI]
    by_cases hi : T.length ≤ i ∧ i < T.length + U.length
    · rw [if_pos hi]
      have := g3 (i - T.length) _ (List.getElem?_eq_getElem (by omega))
      rw [this.1]; exact fit_b _ this.2
    · rw [if_neg hi]; exact r8 i
/-- the builder's text as a String -/
theorem sb_string {P : Option Nat → hSt → Prop} (hS : SI G σ) (h : SB G σ b arr T) (hb : bd G σ 76) (hP : ∀ τ s, ev G W0 76 σ τ → σ.2.1 ≤ s → STq τ s (fun a => σ.2.1 ≤ a) T → P (some s) τ) : wJ9_toString G P PX (some b) σ := by
  obtain ⟨cap, f, ml, q1, q2, q3, q4, q5, q6, q7⟩ := id h
  unfold wJ9_toString wJ9_toStringb0
  refine nO hS (hb.mono (by omega)) (fun w => by omega) fun s τ n hX e => ⟨⟨s, rfl⟩, ?_⟩
  unfold wJ10_init wJ10_initb0
  refine ⟨⟨s, rfl⟩, ?_⟩
  have h1 : SB G τ b arr T := h.ev e (fun w => w) fun w => w
  have q11 := n.o q1
  have q21 := n.o q2
  unfold wJ10_init_2 wJ10_init_2b0 wJ8_getValue wJ8_getValueb0
  refine ⟨⟨s, rfl⟩, h1.rc, gR q11 (by decide) rfl ⟨h1.rc, sb_len h1 ⟨h1.rc, sb_lat h1 ⟨fun w => absurd w (by decide), fun _ => ⟨okN_y0, pO17 e.t n.2.1 (by simp) hX fun τ1 w1 e1 => ?_⟩⟩⟩⟩⟩
  have hsa : arr ≠ s := n.ne q2
  have q22 : τ1.1 arr = some (.inl (2, cap, .inl f)) := by rw [w1.o hsa]; exact q21
  have hle : σ.2.1 ≤ s := by rw [n.1]; exact Nat.le_refl _
  have e01 : ev G W0 5 σ τ1 := (e.f1 e1 hle).le' (by omega)
  have fin : ∀ τ2 a2 f2, ev G W0 71 τ1 τ2 → τ2.1 a2 = some (.inl (2, T.length, .inl f2)) → byT f2 T → σ.2.1 ≤ a2 → ptV G τ2 (some s) [17] 0 (va_rf (some a2)) (fun z11 => P (some s) z11) := by
    intro τ2 a2 f2 e2 h2 h3 h9
    have hs2 := e2.o w1.1 (fun w => w) (by decide) (by decide)
    have hne : a2 ≠ s := by
      rintro rfl
      rw [hs2] at h2; exact nomatch h2
    refine pO17 e2.t hs2 (by simp) hX fun τ3 w3 e3 => hP τ3 s (((e01.tr e2).f1 e3 hle).le' (by omega)) hle ⟨a2, _, _, f2, w3.1, by rw [w3.o hne]; exact h2, h3, by omega, h9⟩
  unfold wJ35_copyOfRange wJ35_copyOfRangeb0
  refine ⟨fun w => absurd rfl w, fun _ => aL q22 ⟨fun w => ?_, fun w => ?_⟩⟩
  · have hlen : T.length = cap := (i_eq (by omega) (by omega)).mp w
    have hb1 := e01.rm hb (m := 71) (by omega)
    refine ⟨arr, cap, f, rfl, q22, fun i _ => q7 i, by have := hb1.1; omega, by have := hb1.2; omega, fun hf2 hX2 => ?_⟩
    have e2 : ev G W0 (1 + cap) τ1 (hnew τ1 (.inl (2, cap, .inl f)) cap) := nw_ev e01.t hf2 fun ci1 fs1 e1 => nomatch e1
    have hn := nw_new (σ := τ1) (e := .inl (2, cap, .inl f)) (N := cap) hf2
    refine ⟨Or.inr ⟨_, _, _, rfl, hn.2.1, by decide⟩, fin _ _ f (e2.le' (by omega)) (by rw [hlen]; exact hn.2.1) q3 e01.le⟩
  · unfold wJ35_copyOfRangeb10 wJ35_copyOfRangeByte wJ35_copyOfRangeByteb0 wJ35_checkLength wJ35_checkLengthb0
    refine ⟨fun _ => ?_, fun w => absurd ((i_le (by omega) (by omega) : Int32.ofNat 0 ≤ Int32.ofNat T.length ↔ _).mpr (Nat.zero_le _)) w⟩
    rw [show Int32.ofNat T.length - 0 = Int32.ofNat T.length from Int32.sub_zero _]
    refine nA e01.t (by omega) (e01.rm hb (by omega)) fun a2 τ2 n2 hX2 e2 => aL (n2.o q22) ?_
    have hmin : (if Int32.ofNat T.length < Int32.ofNat cap - 0 then Int32.ofNat T.length else Int32.ofNat cap - 0) = Int32.ofNat T.length := by
      rw [show Int32.ofNat cap - 0 = Int32.ofNat cap from Int32.sub_zero _]
      by_cases w9 : Int32.ofNat T.length < Int32.ofNat cap
      · rw [if_pos w9]
      · rw [if_neg w9, i_eq (by omega) (by omega)]
        rw [i_lt (by omega) (by omega)] at w9
        omega
    rw [hmin]
    refine acB (p := 0) e2.t (n2.o q22) n2.2.1 hX2 (by omega) (by omega) (by omega) (by omega) (fun i _ => q7 i) fun τ3 w3 e3 => fin τ3 a2 _ (((e2.f1 e3 (by rw [n2.1]; exact Nat.le_refl _))).le' (by omega)) w3.1 (fun i c hc => ⟨?_, (q3 i c hc).2⟩) (by rw [n2.1]; exact e01.le)
    have hi : i < T.length := (List.getElem?_eq_some_iff.mp hc).1
    rw [va_cpyI, if_pos (by omega), Nat.sub_zero]
    exact (q3 i c hc).1
/-- the builder emptied -/
theorem sb_clear {P : hSt → Prop} (hS : SI G σ) (h : SB G σ b arr T) (hb : bd G σ 71) (hP : ∀ τ arr', ev G (W1 b 16) 71 σ τ → arr' = arr ∨ σ.2.1 ≤ arr' → SB G τ b arr' [] → P τ) : wJ9_setLength G P PX (some b) 0 σ := by
  unfold wJ9_setLength wJ9_setLengthb0
  refine ⟨h.rc, ?_⟩
  unfold wJ8_setLength wJ8_setLengthb0
  refine ⟨fun _ => ⟨h.rc, sb_ens (M := 0) hS h (by omega) (by omega) hb fun τ arr' cap f ml e ha r1 r2 r3 r4 r5 r6 r7 r8 => gI r1 (by decide) rfl ⟨fun _ => gI r1 (by decide) rfl ?_, fun w => ?_⟩⟩, fun w => absurd (by decide) w⟩
  · have hne : arr' ≠ b := by
      rintro rfl
      rw [r1] at r2; exact nomatch r2
    have fin : ∀ τ1 ml', ev G (W1 b 16) 71 σ τ1 → τ1.1 b = some (.inr (16, [va_rf (some arr'), .int 0, .int ml', .int (Int32.ofNat T.length)])) → τ1.1 arr' = τ.1 arr' → wJ8_setLengthb76 G (fun z1 => P z1) PX (some b) 0 τ1 := by
      intro τ1 ml' e1 h1 h2
      unfold wJ8_setLengthb76
      refine pO e1.t h1 (by decide) (by simp) (by decide) fun τ2 w2 e2 => hP τ2 arr' ((e1.tr e2).le' (by omega)) ha ⟨cap, f, ml', w2.1, by rw [w2.o hne, h2]; exact r2, fun i c hc => (nomatch hc), Nat.zero_le _, r6, r7, r8⟩
    exact ⟨fun _ => fin τ ml e r1 rfl, fun _ => ⟨ok_b1, pO e.t r1 (by decide) (by simp) (by decide) fun τ1 w1 e1 => fin τ1 1 ((e.tr e1).le' (by omega)) w1.1 (w1.o hne)⟩⟩
  · exact absurd ((i_le (by omega) (by omega) : Int32.ofNat 0 ≤ Int32.ofNat T.length ↔ _).mpr (Nat.zero_le _)) w
end BLD
