/-! the parser: all orders -/
set_option maxRecDepth 100000
/-- orders stand there from the start, the last first; they end at i' -/
def oCr (T : List Nat) : List cT → Nat → Prop
  | [], _ => False
  | q :: r, i' => (r = [] ∧ oA T 0 q i') ∨ ∃ m, oCr T r m ∧ T[m]? = some 59 ∧ oA T (m + 1) q i'
def oC (T : List Nat) (qs : List cT) (i' : Nat) : Prop := oCr T qs.reverse i'
theorem oC_one {T : List Nat} {q : cT} {i' : Nat} (h : oA T 0 q i') : oC T [q] i' := Or.inl ⟨rfl, h⟩
theorem oC_more {T : List Nat} {qs : List cT} {m : Nat} {q : cT} {i' : Nat} (h1 : oC T qs m) (h2 : T[m]? = some 59) (h3 : oA T (m + 1) q i') : oC T (qs ++ [q]) i' := by
  unfold oC
  rw [List.reverse_append]
  exact Or.inr ⟨m, h1, h2, h3⟩
theorem oA_lt {T : List Nat} {i i' : Nat} {q : cT} (h : oA T i q i') : i < i' := by
  rcases h with ⟨-, p, k, t, d, -, -, -, -, -, h⟩ | ⟨-, k, t, -, -, -, h⟩ | ⟨-, k, t, p, d, -, -, -, -, -, h⟩ | ⟨-, k, t, -, -, -, h⟩ | ⟨-, k, t, d, -, -, -, -, h⟩ | ⟨-, p, k, t, d, -, -, -, -, -, h⟩ | ⟨-, p, d, -, -, -, h⟩ | ⟨-, d, -, -, h⟩ | ⟨-, -, h⟩ <;> omega
theorem oCr_len {T : List Nat} : ∀ (qs : List cT) (m : Nat), oCr T qs m → 2 * qs.length ≤ m + 1 := by
  intro qs
  induction qs with
  | nil => intro m h; exact h.elim
  | cons q r ih =>
    intro m h
    rcases h with ⟨rfl, h⟩ | ⟨k, h1, -, h3⟩
    · have := oA_lt h; simp; omega
    · have := ih k h1
      have := oA_lt h3
      simp; omega
theorem oC_len {T : List Nat} {qs : List cT} {m : Nat} (h : oC T qs m) : 2 * qs.length ≤ m + 1 := by
  have := oCr_len _ _ h
  rw [List.length_reverse] at this
  exact this
/-- the first wrong place -/
def oE (T : List Nat) (j : Nat) : Prop := oB T 0 j ∨ ∃ qs m, oC T qs m ∧ m < T.length ∧ ((T[m]? ≠ some 59 ∧ j = m) ∨ (T[m]? = some 59 ∧ oB T (m + 1) j))
/-- commands in a row -/
def CMs (G : gE) (z : hSt) : List Nat → List cT → Prop
  | [], [] => True
  | c :: cs, q :: qs => CMD G z c q ∧ CMs G z cs qs
  | _, _ => False
section PA4
variable {G : gE} {σ : hSt} {PX : Nat → Nat → hSt → Prop} {b s L : Nat} {T : List Nat}
theorem CMD.ev {W : Nat → Nat → Prop} {n c : Nat} {τ : hSt} {q : cT} (h : CMD G σ c q) (he : ev G W n σ τ) (h6 : ¬ W c 6) (hk : Wk W) : CMD G τ c q := by
  obtain ⟨r, h1, h2⟩ := h
  refine ⟨r, he.o h1 h6 (by decide) (by decide), fun w => ?_⟩
  obtain ⟨nm, h3, h4⟩ := h2 w
  exact ⟨nm, h3, h4.ev he hk⟩
theorem CMs_ev {W : Nat → Nat → Prop} {n : Nat} {τ : hSt} (he : ev G W n σ τ) (h6 : ∀ c, ¬ W c 6) (hk : Wk W) : ∀ cs qs, CMs G σ cs qs → CMs G τ cs qs := by
  intro cs
  induction cs with
  | nil => intro qs h; cases qs <;> exact h
  | cons c cs ih =>
    intro qs h
    cases qs with
    | nil => exact h
    | cons q qs => exact ⟨h.1.ev he (h6 c) hk, ih qs h.2⟩
theorem CMs_len {z : hSt} : ∀ cs qs, CMs G z cs qs → cs.length = qs.length := by
  intro cs
  induction cs with
  | nil => intro qs h; cases qs <;> simp [CMs] at h ⊢
  | cons c cs ih =>
    intro qs h
    cases qs with
    | nil => exact h.elim
    | cons q qs => simp [ih qs h.2]
theorem CMs_app {z : hSt} {c : Nat} {q : cT} (hc : CMD G z c q) : ∀ cs qs, CMs G z cs qs → CMs G z (cs ++ [c]) (qs ++ [q]) := by
  intro cs
  induction cs with
  | nil => intro qs h; cases qs with
    | nil => exact ⟨hc, trivial⟩
    | cons q' qs => exact h.elim
  | cons c' cs ih =>
    intro qs h
    cases qs with
    | nil => exact h.elim
    | cons q' qs => exact ⟨h.1, ih qs h.2⟩
/-- what the parser's work may touch: itself, its list -/
abbrev Wp (b L n0 : Nat) : Nat → Nat → Prop := fun x k => (x = b ∧ k = 10) ∨ (x = L ∧ k = 15) ∨ (k = 105 ∧ n0 ≤ x)
theorem all_f {K : hSt → Prop} {arr n0 : Nat} {md : Int32} (hS : SI G σ) (hn0 : n0 ≤ σ.2.1) (hga : ¬ gX G arr → n0 ≤ arr) (h : PS σ b s L T 0) (hA : AL G σ L arr md []) (hT60 : T.length ≤ 60) (hb : bd G σ 4000)
    (hP : ∀ qs cs τ arr' md', oC T qs T.length → ev G (Wp b L n0) 3200 σ τ → AL G τ L arr' md' cs → CMs G τ cs qs → PS τ b s L T T.length → K τ)
    (hX : ∀ j τ q, oE T j → ev G (Wp b L n0) 3300 σ τ → BT τ q j → PX 11 q τ) : wX11_all G K PX (some b) σ := by
  have wk : Wk (Wp b L n0) := fun x => ⟨by omega, by omega, by omega⟩
  have up1 : ∀ {n : Nat} {z z' : hSt}, ev G (W1 b 10) n z z' → ev G (Wp b L n0) n z z' := fun e => e.mono (fun x k _ w => Or.inl w) (Nat.le_refl _)
  have upl : ∀ {n a' : Nat} {z z' : hSt}, (¬ gX G a' → n0 ≤ a') → ev G (Wl G L a') n z z' → ev G (Wp b L n0) n z z' := fun hg e => e.mono (fun x k _ w => by
    rcases w with w | w
    · exact Or.inr (Or.inl w)
    · exact Or.inr (Or.inr ⟨w.2.1, by rw [w.1]; exact hg w.2.2⟩)) (Nat.le_refl _)
  -- a command comes to the list
  have add : ∀ (z : hSt) (arr' : Nat) (md' : Int32) (cs : List Nat) (qs : List cT) (c : Nat) (q : cT) (i' n : Nat) (P' : Int32 → hSt → Prop), ev G (Wp b L n0) n σ z → n + 100 ≤ 4000 → cs.length ≤ 31 → (¬ gX G arr' → n0 ≤ arr') → AL G z L arr' md' cs → CMs G z cs qs → CMD G z c q → PS z b s L T i' → (∀ z' arr'', ev G (Wp b L n0) (n + 80) σ z' → (¬ gX G arr'' → n0 ≤ arr'') → AL G z' L arr'' (md' + 1) (cs ++ [c]) → CMs G z' (cs ++ [c]) (qs ++ [q]) → PS z' b s L T i' → P' 1 z') → rcv z (some L) 15 ∧ wJ7_add G P' PX (some L) (some c) z := by
    intro z arr' md' cs qs c q i' n P' ez hn hl hga hA hCs hC hp hK
    obtain ⟨r, hc, -⟩ := id hC
    refine ⟨hA.rc, al_add ez.t hA (by omega) (Or.inr ⟨c, 6, _, rfl, hc, by decide⟩) (ez.rm hb (by omega)) fun z' arr'' e hA' hor => ?_⟩
    have h6 : ∀ x, ¬ Wl G L arr' x 6 := fun x w => by
      rcases w with w | w
      · have := w.2; omega
      · have := w.2.1; omega
    have hk : Wk (Wl G L arr') := fun x => ⟨fun w => by rcases w with w | w; (have := w.2; omega); (have := w.2.1; omega), fun w => by rcases w with w | w; (have := w.2; omega); (have := w.2.1; omega), fun w => by rcases w with w | w; (have := w.2; omega); (have := w.2.1; omega)⟩
    refine hK z' arr'' ((ez.tr (upl hga e)).le' (by omega)) (fun hX => hor.elim (fun w => by rw [w] at hX ⊢; exact hga hX) fun w => Nat.le_trans hn0 (Nat.le_trans ez.le w)) hA' (CMs_app (hC.ev e (h6 c) hk) _ _ (CMs_ev e h6 hk _ _ hCs)) (hp.ev e (fun w => by rcases w with w | w; (have := w.2; omega); (have := w.2.1; omega)) fun x => ⟨fun w => by rcases w with w | w; (have := w.2; omega); (have := w.2.1; omega), fun w => by rcases w with w | w; (have := w.2; omega); (have := w.2.1; omega)⟩)
  have h16 : ∀ x, ¬ W1 b 10 x 6 := fun x w => by have := w.2; omega
  have hLA : ∀ {z z' : hSt} {n a' : Nat} {m' : Int32} {cs : List Nat}, AL G z L a' m' cs → ev G (W1 b 10) n z z' → AL G z' L a' m' cs := fun hA e => hA.ev e (fun w => by have := w.2; omega) fun w => by have := w.2; omega
  unfold wX11_all wX11_allb0
  refine gR h.1 (by decide) rfl ⟨rco h.1, one_f hS h (hb.mono (by omega)) (fun q i' τ c ho e hp hC => ?_) fun j τ q hj e hq => hX j τ q (Or.inl hj) ((up1 e).le' (by omega)) hq⟩
  refine add τ arr md [] [] c q i' 8 _ (up1 e) (by omega) (by simp) hga (hLA hA e) trivial hC hp fun z1 arr1 e1 hg1 hA1 hC1 hp1 => ?_
  refine lp_n (fun n y => ∃ z i' qs cs arr' md', n = T.length - i' ∧ y = (some b, z) ∧ oC T qs i' ∧ ev G (Wp b L n0) (100 * qs.length) σ z ∧ (¬ gX G arr' → n0 ≤ arr') ∧ AL G z L arr' md' cs ∧ CMs G z cs qs ∧ PS z b s L T i') (T.length - i') ⟨z1, i', [q], [c], arr1, md + 1, rfl, rfl, oC_one ho, e1.le' (by simp), hg1, hA1, hC1, hp1⟩ ?_
  rintro n y ⟨z, i', qs, cs, arr', md', rfl, rfl, hoc, ez, hgz, hAz, hCz, hpz⟩ K' hK'
  have hlen := oC_len hoc
  have hcl := CMs_len _ _ hCz
  have hil := hpz.2.2
  unfold wX11_allb12
  dsimp only
  refine gI hpz.1 (by decide) rfl (gR hpz.1 (by decide) rfl ⟨hpz.2.1.rc, st_len hpz.2.1 ?_⟩)
  rw [i_le (by omega) (by omega)]
  refine ⟨fun w => ?_, fun w => ⟨rco hpz.1, next_k (lo := 59) (hi := 59) ez.t hpz (ez.rm hb (by omega)) (by omega) (by omega) (by omega) (fun c2 z2 hc2 g1 g2 e2 hp2 => ?_) fun hn z2 q2 e2 hq2 => hX i' z2 q2 (Or.inr ⟨qs, i', hoc, by omega, Or.inl ⟨fun w => hn 59 w ⟨by omega, by omega⟩, rfl⟩⟩) ((ez.tr e2.up0).le' (by omega)) hq2⟩⟩
  · have : i' = T.length := by omega
    subst this
    exact hP qs cs z arr' md' hoc (ez.le' (by omega)) hAz hCz hpz
  · have h59 : c2 = 59 := by omega
    subst h59
    refine gR hp2.1 (by decide) rfl ⟨rco hp2.1, one_f e2.t hp2 ((ez.tr (up1 e2)).rm hb (by omega)) (fun q3 i3 z3 c3 ho3 e3 hp3 hC3 => ?_) fun j z3 q3 hj e3 hq3 => hX j z3 q3 (Or.inr ⟨qs, i', hoc, by omega, Or.inr ⟨hc2, hj⟩⟩) ((ez.tr ((up1 e2).tr (up1 e3))).le' (by omega)) hq3⟩
    have e23 := e2.tr e3
    refine add z3 arr' md' cs qs c3 q3 i3 (100 * qs.length + 8) _ ((ez.tr (up1 e23)).le' (by omega)) (by omega) (by omega) hgz (hLA hAz e23) (CMs_ev e23 h16 (W1_k (by omega)) _ _ hCz) hC3 hp3 fun z4 arr4 e4 hg4 hA4 hC4 hp4 => ?_
    have hlt := oA_lt ho3
    have hi3 := hp3.2.2
    exact hK' (T.length - i3) _ (by omega) ⟨z4, i3, qs ++ [q3], cs ++ [c3], arr4, md' + 1, rfl, rfl, oC_more hoc hc2 ho3, e4.le' (by rw [List.length_append, List.length_singleton]; omega), hg4, hA4, hC4, hp4⟩
end PA4
