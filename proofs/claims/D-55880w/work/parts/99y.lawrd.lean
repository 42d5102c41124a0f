/-! one reading of a text; answers are functions; the object's other questions -/
set_option maxRecDepth 100000
section RDU
variable {T U : List Nat} {i i' j d k : Nat} {q : cT}
theorem fgA_un {d' : Nat} (h : fgA T i d) (h' : fgA T i d') : d = d' := by
  have := h.1.symm.trans h'.1
  injection this with this
  omega
theorem ltA_un {k' : Nat} (h : ltA U T i k) (h' : ltA U T i k') : k = k' := by
  obtain ⟨c, h1, h2, h3⟩ := h
  obtain ⟨c', h1', h2', h3'⟩ := h'
  have hc := h1.symm.trans h1'
  injection hc with hc
  subst hc
  rcases Nat.lt_trichotomy k k' with w | w | w
  · exact absurd h2 (h3' k w)
  · exact w
  · exact absurd h2' (h3 k' w)
noncomputable def fgF (T : List Nat) (i : Nat) : Option Nat := @dite (Option Nat) (∃ d, fgA T i d) (Classical.propDecidable _) (fun h => some h.choose) fun _ => none
theorem fgF_A (h : fgA T i d) : fgF T i = some d := by
  unfold fgF
  have he : ∃ d, fgA T i d := ⟨d, h⟩
  rw [dif_pos he, fgA_un he.choose_spec h]
theorem fgF_N (h : fgN T i) : fgF T i = none := by
  unfold fgF
  exact dif_neg fun w => h _ w.choose_spec
noncomputable def ltF (U T : List Nat) (i : Nat) : Option Nat := @dite (Option Nat) (∃ d, ltA U T i d) (Classical.propDecidable _) (fun h => some h.choose) fun _ => none
theorem ltF_A (h : ltA U T i d) : ltF U T i = some d := by
  unfold ltF
  have he : ∃ d, ltA U T i d := ⟨d, h⟩
  rw [dif_pos he, ltA_un he.choose_spec h]
theorem ltF_N (h : ltN U T i) : ltF U T i = none := by
  unfold ltF
  refine dif_neg fun w => ?_
  obtain ⟨d, c, h1, h2, -⟩ := w
  exact h c h1 d h2
noncomputable def nmF (T : List Nat) (i : Nat) : (Nat × Nat) ⊕ Nat := match ltF (txt 15) T i with
  | none => .inr i
  | some k => match fgF T (i + 1) with
    | none => .inr (i + 1)
    | some t => .inl (k, t)
theorem nmF_A {t : Nat} (h : nmA T i k t) : nmF T i = .inl (k, t) := by
  unfold nmF
  rw [ltF_A h.1, fgF_A h.2]
theorem nmF_B (h : nmB T i j) : nmF T i = .inr j := by
  unfold nmF
  rcases h with ⟨h, rfl⟩ | ⟨⟨k, hk⟩, h, rfl⟩
  · rw [ltF_N h]
  · rw [ltF_A hk, fgF_N h]
noncomputable def bhF (T : List Nat) (m i : Nat) : Nat ⊕ Nat := if T[i]? = some m then (match fgF T (i + 1) with
    | none => .inr (i + 1)
    | some d => .inl d) else .inr i
theorem bhF_A {m : Nat} (h : bhA T m i d) : bhF T m i = .inl d := by
  unfold bhF
  rw [if_pos h.1, fgF_A h.2]
theorem bhF_B {m : Nat} (h : bhB T m i j) : bhF T m i = .inr j := by
  unfold bhF
  rcases h with ⟨h, rfl⟩ | ⟨h1, h2, rfl⟩
  · rw [if_neg h]
  · rw [if_pos h1, fgF_N h2]
/-- the order that stands at i, or the first wrong place -/
noncomputable def oF (T : List Nat) (i : Nat) : (cT × Nat) ⊕ Nat := match ltF (txt 16) T i with
  | some 0 => match fgF T (i + 1) with
    | none => .inr (i + 1)
    | some p => match nmF T (i + 2) with
      | .inr j => .inr j
      | .inl kt => match bhF T 42 (i + 4) with
        | .inr j => .inr j
        | .inl d => .inl ((1, Int32.ofNat p, kt.1, kt.2, Int32.ofNat d), i + 6)
  | some 1 => match nmF T (i + 1) with
    | .inr j => .inr j
    | .inl kt => .inl ((2, -1, kt.1, kt.2, -1), i + 3)
  | some 2 => match nmF T (i + 1) with
    | .inr j => .inr j
    | .inl kt => match bhF T 62 (i + 3) with
      | .inr j => .inr j
      | .inl p => match bhF T 43 (i + 5) with
        | .inr j => .inr j
        | .inl d => .inl ((3, Int32.ofNat p, kt.1, kt.2, Int32.ofNat d), i + 7)
  | some 3 => match nmF T (i + 1) with
    | .inr j => .inr j
    | .inl kt => .inl ((4, -1, kt.1, kt.2, -1), i + 3)
  | some 4 => match nmF T (i + 1) with
    | .inr j => .inr j
    | .inl kt => match bhF T 45 (i + 3) with
      | .inr j => .inr j
      | .inl d => .inl ((5, -1, kt.1, kt.2, Int32.ofNat d), i + 5)
  | some 5 => match fgF T (i + 1) with
    | none => .inr (i + 1)
    | some p => match nmF T (i + 2) with
      | .inr j => .inr j
      | .inl kt => match bhF T 64 (i + 4) with
        | .inr j => .inr j
        | .inl d => .inl ((6, Int32.ofNat p, kt.1, kt.2, Int32.ofNat d), i + 6)
  | some 6 => match fgF T (i + 1) with
    | none => .inr (i + 1)
    | some p => match bhF T 61 (i + 2) with
      | .inr j => .inr j
      | .inl d => .inl ((7, Int32.ofNat p, 0, 0, Int32.ofNat d), i + 4)
  | some 7 => match fgF T (i + 1) with
    | none => .inr (i + 1)
    | some d => .inl ((8, -1, 0, 0, Int32.ofNat d), i + 2)
  | some _ => .inl ((9, -1, 0, 0, -1), i + 1)
  | none => .inr i
theorem oF_A (h : oA T i q i') : oF T i = .inl (q, i') := by
  unfold oF
  rcases h with ⟨hl, p, k, t, d, h1, hn, -, hb, rfl, rfl⟩ | ⟨hl, k, t, hn, -, rfl, rfl⟩ | ⟨hl, k, t, p, d, hn, -, hb, hb2, rfl, rfl⟩ | ⟨hl, k, t, hn, -, rfl, rfl⟩ | ⟨hl, k, t, d, hn, -, hb, rfl, rfl⟩ | ⟨hl, p, k, t, d, h1, hn, -, hb, rfl, rfl⟩ | ⟨hl, p, d, h1, hb, rfl, rfl⟩ | ⟨hl, d, h1, rfl, rfl⟩ | ⟨hl, rfl, rfl⟩
  · rw [ltF_A hl, fgF_A h1, nmF_A hn, bhF_A hb] <;> rfl
  · rw [ltF_A hl, nmF_A hn] <;> rfl
  · rw [ltF_A hl, nmF_A hn, bhF_A hb, bhF_A hb2] <;> rfl
  · rw [ltF_A hl, nmF_A hn] <;> rfl
  · rw [ltF_A hl, nmF_A hn, bhF_A hb] <;> rfl
  · rw [ltF_A hl, fgF_A h1, nmF_A hn, bhF_A hb] <;> rfl
  · rw [ltF_A hl, fgF_A h1, bhF_A hb] <;> rfl
  · rw [ltF_A hl, fgF_A h1] <;> rfl
  · rw [ltF_A hl] <;> rfl
theorem oF_B (h : oB T i j) : oF T i = .inr j := by
  unfold oF
  rcases h with ⟨hl, rfl⟩ | ⟨hl, hn, rfl⟩ | ⟨hl, ⟨p, hp⟩, hn⟩ | ⟨hl, hn⟩ | ⟨hl, ⟨p, hp⟩, ⟨k, t, hn⟩, hb⟩ | ⟨hl, ⟨p, hp⟩, ⟨k, t, hn⟩, hb⟩ | ⟨hl, ⟨p, hp⟩, hb⟩ | ⟨hl, ⟨k, t, hn⟩, hb⟩ | ⟨hl, ⟨k, t, hn⟩, ⟨d, hd⟩, hb⟩ | ⟨hl, ⟨k, t, hn⟩, hb⟩
  · rw [ltF_N hl] <;> rfl
  · rcases hl with hl | hl | hl | hl <;> rw [ltF_A hl, fgF_N hn] <;> rfl
  · rcases hl with hl | hl <;> rw [ltF_A hl, fgF_A hp, nmF_B hn] <;> rfl
  · rcases hl with hl | hl | hl | hl <;> rw [ltF_A hl, nmF_B hn] <;> rfl
  · rw [ltF_A hl, fgF_A hp, nmF_A hn, bhF_B hb] <;> rfl
  · rw [ltF_A hl, fgF_A hp, nmF_A hn, bhF_B hb] <;> rfl
  · rw [ltF_A hl, fgF_A hp, bhF_B hb] <;> rfl
  · rw [ltF_A hl, nmF_A hn, bhF_B hb] <;> rfl
  · rw [ltF_A hl, nmF_A hn, bhF_A hd, bhF_B hb] <;> rfl
  · rw [ltF_A hl, nmF_A hn, bhF_B hb] <;> rfl
/-- what has been read behind n + 1 orders -/
noncomputable def rdF (T : List Nat) : Nat → Option (List cT × Nat)
  | 0 => match oF T 0 with
    | .inl x => some ([x.1], x.2)
    | .inr _ => none
  | n + 1 => match rdF T n with
    | none => none
    | some y => if T[y.2]? = some 59 then (match oF T (y.2 + 1) with
      | .inl x => some (x.1 :: y.1, x.2)
      | .inr _ => none) else none
theorem rdF_0 {n : Nat} (h : rdF T n = none) : ∀ m, n ≤ m → rdF T m = none := by
  intro m
  induction m with
  | zero => intro hm; have : n = 0 := by omega
            subst this; exact h
  | succ m ih =>
    intro hm
    by_cases e : n = m + 1
    · rw [← e]; exact h
    · show (match rdF T m with
        | none => none
        | some y => if T[y.2]? = some 59 then (match oF T (y.2 + 1) with
          | .inl x => some (x.1 :: y.1, x.2)
          | .inr _ => none) else none) = none
      rw [ih (by omega)]
theorem rdF_s {n : Nat} {y : List cT × Nat} (h : rdF T n = some y) : rdF T (n + 1) = if T[y.2]? = some 59 then (match oF T (y.2 + 1) with
      | .inl x => some (x.1 :: y.1, x.2)
      | .inr _ => none) else none := by
  show (match rdF T n with
        | none => none
        | some y => if T[y.2]? = some 59 then (match oF T (y.2 + 1) with
          | .inl x => some (x.1 :: y.1, x.2)
          | .inr _ => none) else none) = _
  rw [h]
theorem oCr_rdF : ∀ (r : List cT) (m : Nat), oCr T r m → rdF T (r.length - 1) = some (r, m) := by
  intro r
  induction r with
  | nil => intro m h; exact h.elim
  | cons q r ih =>
    intro m h
    rcases h with ⟨rfl, h⟩ | ⟨k, h1, h2, h3⟩
    · show (match oF T 0 with
        | .inl x => some ([x.1], x.2)
        | .inr _ => none) = _
      rw [oF_A h]
    · have hr : r ≠ [] := by
        rintro rfl
        exact h1
      have hl : (q :: r).length - 1 = (r.length - 1) + 1 := by
        have := List.length_pos_iff.mpr hr
        rw [List.length_cons]; omega
      rw [hl, rdF_s (ih k h1), if_pos h2, oF_A h3]
theorem oC_rdF {qs : List cT} {m : Nat} (h : oC T qs m) : rdF T (qs.length - 1) = some (qs.reverse, m) := by
  have := oCr_rdF _ _ h
  rw [List.length_reverse] at this
  exact this
/-- where reading ends -/
theorem rdF_un {n n' : Nat} {y y' : List cT × Nat} (h : rdF T n = some y) (h1 : rdF T (n + 1) = none) (h' : rdF T n' = some y') (h1' : rdF T (n' + 1) = none) : y = y' := by
  rcases Nat.lt_trichotomy n n' with w | w | w
  · rw [rdF_0 h1 n' w] at h'; exact nomatch h'
  · subst w
    rw [h] at h'
    injection h'
  · rw [rdF_0 h1' n w] at h; exact nomatch h
theorem rd_cc {qs qs' : List cT} (h : oC T qs T.length) (h' : oC T qs' T.length) : qs = qs' := by
  have e : ∀ qs, oC T qs T.length → rdF T (qs.length - 1 + 1) = none := fun qs h => by
    rw [rdF_s (oC_rdF h)]
    exact if_neg fun w => by
      have := (List.getElem?_eq_some_iff.mp w).1
      exact Nat.lt_irrefl _ this
  have := rdF_un (oC_rdF h) (e _ h) (oC_rdF h') (e _ h')
  injection this with this
  exact List.reverse_inj.mp this
theorem oE_rdF (h : oE T j) : (rdF T 0 = none ∧ oF T 0 = .inr j) ∨ ∃ n r m, rdF T n = some (r, m) ∧ rdF T (n + 1) = none ∧ m < T.length ∧ ((T[m]? ≠ some 59 ∧ j = m) ∨ (T[m]? = some 59 ∧ oF T (m + 1) = .inr j)) := by
  rcases h with h | ⟨qs, m, hc, hm, ⟨h1, h2⟩ | ⟨h1, h2⟩⟩
  · refine Or.inl ⟨?_, oF_B h⟩
    show (match oF T 0 with
        | .inl x => some ([x.1], x.2)
        | .inr _ => none) = none
    rw [oF_B h]
  · exact Or.inr ⟨_, _, m, oC_rdF hc, by rw [rdF_s (oC_rdF hc)]; exact if_neg h1, hm, Or.inl ⟨h1, h2⟩⟩
  · refine Or.inr ⟨_, _, m, oC_rdF hc, ?_, hm, Or.inr ⟨h1, oF_B h2⟩⟩
    rw [rdF_s (oC_rdF hc)]
    show (if T[m]? = some 59 then _ else _) = none
    rw [if_pos h1, oF_B h2]
theorem rd_ce {qs : List cT} (h : oC T qs T.length) (h' : oE T j) : False := by
  have e : rdF T (qs.length - 1 + 1) = none := by
    rw [rdF_s (oC_rdF h)]
    exact if_neg fun w => by
      have := (List.getElem?_eq_some_iff.mp w).1
      exact Nat.lt_irrefl _ this
  rcases oE_rdF h' with ⟨h1, -⟩ | ⟨n, r, m, h1, h2, h3, -⟩
  · have h0 := rdF_0 h1 (qs.length - 1) (Nat.zero_le _)
    rw [oC_rdF h] at h0
    exact nomatch h0
  · have := rdF_un (oC_rdF h) e h1 h2
    injection this with _ this
    omega
theorem rd_ee {j' : Nat} (h : oE T j) (h' : oE T j') : j = j' := by
  rcases oE_rdF h with ⟨a1, a2⟩ | ⟨n, r, m, a1, a2, a3, a4⟩ <;> rcases oE_rdF h' with ⟨b1, b2⟩ | ⟨n', r', m', b1, b2, b3, b4⟩
  · have := a2.symm.trans b2
    injection this
  · rw [rdF_0 a1 n' (Nat.zero_le _)] at b1; exact nomatch b1
  · rw [rdF_0 b1 n (Nat.zero_le _)] at a1; exact nomatch a1
  · have := rdF_un a1 a2 b1 b2
    injection this with _ this
    subst this
    rcases a4 with ⟨c1, rfl⟩ | ⟨c1, c2⟩ <;> rcases b4 with ⟨d1, rfl⟩ | ⟨d1, d2⟩
    · rfl
    · exact absurd d1 c1
    · exact absurd c1 d1
    · have := c2.symm.trans d2
      injection this
end RDU
-- ===== answers are functions =====
theorem n_eq {v : Int32} {a b : Nat} (ha : v = Int32.ofNat a) (hb : v = Int32.ofNat b) (h1 : a < 1000) (h2 : b < 1000) : a = b := (i_eq (by omega) (by omega)).mp (ha.symm.trans hb)
theorem isP_n {v : Int32} {p : Nat} (h : v = Int32.ofNat p) (hp : p < 6) : isP v := by
  rw [h]; exact ⟨i_nn (by omega), by rw [show (5 : Int32) = Int32.ofNat 5 from rfl, i_lt (by omega) (by omega)]; omega⟩
theorem isS_n {v : Int32} {p : Nat} (h : v = Int32.ofNat p) (hp : p < 3) : isS v := by
  rw [h]; exact ⟨i_nn (by omega), by rw [show (2 : Int32) = Int32.ofNat 2 from rfl, i_lt (by omega) (by omega)]; omega⟩
theorem isE_n {v : Int32} {p : Nat} (h : v = Int32.ofNat p) (hp : p < 10) : isE v := by
  rw [h]; exact ⟨i_nn (by omega), by rw [show (9 : Int32) = Int32.ofNat 9 from rfl, i_lt (by omega) (by omega)]; omega⟩
theorem isX_n {k t : Int32} {k' t' : Nat} (hk : k = Int32.ofNat k') (hk4 : k' < 4) (ht : t = Int32.ofNat t') (ht10 : t' < 10) : isX k t := by
  rw [hk, ht]; exact nO_isX hk4 ht10
theorem tw_01 {p : Prop} : tw p = 0 ∨ tw p = 1 := by
  by_cases h : p
  · exact Or.inr (tw_1 h)
  · exact Or.inl (tw_0 h)
theorem cDo_6 {g g' : Nat → Int32} {k t : Nat} {one ot v : Int32} (h : cDo g 6 one k t ot (.inr (v, g'))) : v = 0 ∨ v = 1 := by
  rcases h with ⟨w, -⟩ | ⟨w, -⟩ | ⟨w, -⟩ | ⟨w, -⟩ | ⟨w, -⟩ | ⟨-, p, s, -, -, -, -, h⟩ | ⟨w, -⟩ | ⟨w, -⟩ | ⟨w, -⟩
  · exact absurd w (by decide)
  · exact absurd w (by decide)
  · exact absurd w (by decide)
  · exact absurd w (by decide)
  · exact absurd w (by decide)
  · rcases h with ⟨-, h⟩ | ⟨e, -, ⟨-, h⟩ | ⟨-, ⟨-, h⟩ | ⟨-, d, is, -, hi, h⟩⟩⟩
    · exact nomatch h
    · exact nomatch h
    · exact nomatch h
    · injection h with h; injection h with h1 h2
      rcases hi with hi | hi
      · exact Or.inr (h1.trans hi.2)
      · exact Or.inl (h1.trans hi.2)
  · exact absurd w (by decide)
  · exact absurd w (by decide)
  · exact absurd w (by decide)
theorem exc_un {g : Nat → Int32} {e : Nat} {w r r' : Int32} (h : exc g e w r) (h' : exc g e w r') : r = r' := by
  have n7 : ∀ j : Nat, j < 6 → (7 : Int32) ≠ Int32.ofNat j := fun j hj q => by
    have := (i_eq (a := 7) (by omega) (by omega)).mp (show Int32.ofNat 7 = Int32.ofNat j from q)
    omega
  have n6 : ∀ j : Nat, j < 6 → (6 : Int32) ≠ Int32.ofNat j := fun j hj q => by
    have := (i_eq (a := 6) (by omega) (by omega)).mp (show Int32.ofNat 6 = Int32.ofNat j from q)
    omega
  rcases h with ⟨a, rfl⟩ | ⟨a, rfl⟩ | ⟨j, hj, a, rfl⟩ <;> rcases h' with ⟨b, rfl⟩ | ⟨b, rfl⟩ | ⟨j', hj', b, rfl⟩
  · rfl
  · exact absurd (a.symm.trans b) (by decide)
  · exact absurd (a.symm.trans b) (n7 j' hj')
  · exact absurd (a.symm.trans b) (by decide)
  · rfl
  · exact absurd (a.symm.trans b) (n6 j' hj')
  · exact absurd (b.symm.trans a) (n7 j hj)
  · exact absurd (b.symm.trans a) (n6 j hj)
  · rw [n_eq a b (by omega) (by omega)]
theorem pup_mem {g : Nat → Int32} {p : Nat} {w r : Int32} (h : pup g p w r) : w ∈ ([0, 1, 2, 3, 4, 5] : List Int32) := by
  rcases h with ⟨rfl, -⟩ | ⟨rfl, -⟩ | ⟨rfl, -⟩ | ⟨rfl, -⟩ | ⟨rfl, -⟩ | ⟨rfl, -⟩ <;> decide
theorem pup_un {g : Nat → Int32} {p : Nat} {w r r' : Int32} (h : pup g p w r) (h' : pup g p w r') : r = r' := by
  rcases h with ⟨rfl, rfl⟩ | ⟨rfl, rfl⟩ | ⟨rfl, rfl⟩ | ⟨rfl, rfl⟩ | ⟨rfl, rfl⟩ | ⟨rfl, rfl⟩ <;> rcases h' with ⟨a, b⟩ | ⟨a, b⟩ | ⟨a, b⟩ | ⟨a, b⟩ | ⟨a, b⟩ | ⟨a, b⟩ <;> first | exact b.symm | exact absurd a (by decide)
theorem sch_mem {g : Nat → Int32} {p : Nat} {w r : Int32} (h : sch g p w r) : w ∈ ([0, 1, 2, 3] : List Int32) := by
  rcases h with ⟨rfl, -⟩ | ⟨rfl, -⟩ | ⟨rfl, -⟩ | ⟨rfl, -⟩ <;> decide
theorem sch_un {g : Nat → Int32} {p : Nat} {w r r' : Int32} (h : sch g p w r) (h' : sch g p w r') : r = r' := by
  rcases h with ⟨rfl, rfl⟩ | ⟨rfl, rfl⟩ | ⟨rfl, rfl⟩ | ⟨rfl, rfl⟩ <;> rcases h' with ⟨a, b⟩ | ⟨a, b⟩ | ⟨a, b⟩ | ⟨a, b⟩ <;> first | exact b.symm | exact absurd a (by decide)
theorem acq_mem {g : Nat → Int32} {t c w r : Int32} (h : acq g t c w r) : w ∈ ([0, 1, 2, 3, 4, 5, 6, 7, 8, 9, 10] : List Int32) := by
  rcases h with ⟨rfl, -⟩ | ⟨rfl, -⟩ | ⟨rfl, -⟩ | ⟨rfl, -⟩ | ⟨rfl, -⟩ | ⟨rfl, -⟩ | ⟨rfl, -⟩ | ⟨rfl, -⟩ | ⟨rfl, -⟩ | ⟨rfl, -⟩ | ⟨rfl, -⟩ <;> decide
theorem acq_un {g : Nat → Int32} {t c w r r' : Int32} (h : acq g t c w r) (h' : acq g t c w r') : r = r' := by
  rcases h with ⟨rfl, rfl⟩ | ⟨rfl, rfl⟩ | ⟨rfl, rfl⟩ | ⟨rfl, rfl⟩ | ⟨rfl, rfl⟩ | ⟨rfl, rfl⟩ | ⟨rfl, rfl⟩ | ⟨rfl, rfl⟩ | ⟨rfl, rfl⟩ | ⟨rfl, rfl⟩ | ⟨rfl, rfl⟩ <;> rcases h' with ⟨a, b⟩ | ⟨a, b⟩ | ⟨a, b⟩ | ⟨a, b⟩ | ⟨a, b⟩ | ⟨a, b⟩ | ⟨a, b⟩ | ⟨a, b⟩ | ⟨a, b⟩ | ⟨a, b⟩ | ⟨a, b⟩ <;> first | exact b.symm | exact absurd a (by decide)
section CQ
variable {G : gE} {σ : hSt} {PX : Nat → Nat → hSt → Prop} {P : Int32 → hSt → Prop} {x N : Nat} {g : Nat → Int32} {hg : List (Nat → Int32)} {sg : Option (Nat → Int32)} {T U : List Nat} {er wy dt : Int32}
theorem cs_U (hC : CS G σ x N g hg sg T U er wy dt) : U.length ≤ 60 ∧ T.length ≤ 60 := by
  obtain ⟨l, sv, H, arr, mdh, hs, ib, arb, ln, bt, rf, h1, h2, h3, h4, ⟨h5, h5'⟩, ⟨h6, h6'⟩, h7, h8⟩ := hC
  exact ⟨h6', h5'⟩
theorem c_char {v : Int32} (hS : SI G σ) (hC : CS G σ x N g hg sg T U er wy dt) (hb : bd G σ 7) (hX : (∀ i : Nat, v = Int32.ofNat i → ¬ i < U.length) → XC G σ PX 28) (hP : ∀ i c : Nat, v = Int32.ofNat i → U[i]? = some c → P (Int32.ofNat c) σ) : wX1_character G P PX (some x) v σ := by
  obtain ⟨l, sv, H, arr, mdh, hs, ib, arb, ln, bt, rf, h1, h2, h3, h4, h5, ⟨h6, h6'⟩, h7, h8⟩ := hC
  exact q_char hS h1 rfl h6.st hb hX hP
theorem c_acc {w : Int32} (hS : SI G σ) (hC : CS G σ x N g hg sg T U er wy dt) (hb : bd G σ 20) (hX : w ∉ ([0, 1, 2, 3, 4, 5, 6, 7, 8, 9, 10] : List Int32) → XC G σ PX 29) (hP : ∀ r τ, acq g (Int32.ofNat T.length) (Int32.ofNat hg.length) w r → ev G W0 9 σ τ → P r τ) : wX1_account G P PX (some x) w σ := by
  obtain ⟨l, sv, H, arr, mdh, hs, ib, arb, ln, bt, rf, h1, ⟨⟨n0, o, A, md, es, hL, rfl⟩, hJ⟩, h3, ⟨h4, h4', h4''⟩, ⟨h5, h5'⟩, h6, h7, h8⟩ := hC
  rw [← hLs_len _ _ h4''] at hP
  exact q_account hS h1 rfl rfl rfl h4 h5 hL hJ.1.iOK.1 hb hX hP
theorem c_err (hS : SI G σ) (hC : CS G σ x N g hg sg T U er wy dt) (hb : bd G σ 7) (hX : er = -1 → XC G σ PX 28) (hP : er ≠ -1 → P er σ) : wX1_errorPosition G P PX (some x) σ := by
  obtain ⟨l, sv, H, arr, mdh, hs, ib, arb, ln, bt, rf, h1, h2, h3, h4, h5, h6, h7, h8⟩ := hC
  exact q_err hS h1 rfl h7 hb hX hP
theorem c_rsn {w : Int32} (hS : SI G σ) (hC : CS G σ x N g hg sg T U er wy dt) (hb : bd G σ 7) (hX : wy = 0 → XC G σ PX 28) (hP : wy ≠ 0 → P (if w = 0 then wy else dt) σ) : wX1_reason G P PX (some x) w σ := by
  obtain ⟨l, sv, H, arr, mdh, hs, ib, arb, ln, bt, rf, h1, h2, h3, h4, h5, h6, h7, h8⟩ := hC
  exact q_reason hS h1 rfl h8 hb hX hP
end CQ
