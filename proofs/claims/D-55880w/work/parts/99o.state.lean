/-! the object's state: what lies in the heap for the numbers, the history, the saved ones, the texts -/
set_option maxRecDepth 100000
/-- how many excuses were believed -/
def iB (N : Nat) (g : Nat → Int32) : Prop := ∃ w : Nat → Nat, (∀ s, s < 3 → g (138 + s) = Int32.ofNat (w s)) ∧ w 0 + w 1 + w 2 ≤ N
def GJ (N : Nat) (g : Nat → Int32) : Prop := GI N g ∧ iB N g
theorem iB.mono {N N' : Nat} {g : Nat → Int32} (h : iB N g) (hN : N ≤ N') : iB N' g := by
  obtain ⟨w, h1, h2⟩ := h
  exact ⟨w, h1, by omega⟩
theorem iB.congr {N : Nat} {g g' : Nat → Int32} (h : iB N g) (hg : ∀ i, 138 ≤ i → i < 141 → g' i = g i) : iB N g' := by
  obtain ⟨w, h1, h2⟩ := h
  exact ⟨w, fun s hs => by rw [hg _ (by omega) (by omega)]; exact h1 s hs, h2⟩
theorem GJ.mono {N N' : Nat} {g : Nat → Int32} (h : GJ N g) (hN : N ≤ N') : GJ N' g := ⟨h.1.mono hN, h.2.mono hN⟩
theorem iB_use {N p k t s e : Nat} {g : Nat → Int32} {d is : Int32} (h : iB N g) (hp : p < 6) (hk : k < 4) (ht : t < 10) (hs : s < 3) (he : e < 12) (hi : is = 0 ∨ is = 1) : iB (N + 1) (useG g p k t s e d is) := by
  obtain ⟨w, h1, h2⟩ := h
  obtain ⟨b, hb, rfl⟩ : ∃ b : Nat, b ≤ 1 ∧ is = Int32.ofNat b := by
    rcases hi with rfl | rfl
    · exact ⟨0, by omega, rfl⟩
    · exact ⟨1, by omega, rfl⟩
  rw [use_eq hp hk ht hs he]
  refine ⟨fun s' => if s' = s then w s + b else w s', fun s' hs' => ?_, ?_⟩
  · by_cases q : s' = s
    · subst q
      show _ = Int32.ofNat (if s' = s' then w s' + b else w s')
      rw [gu_s, h1 _ hs', if_pos rfl, i_add]
    · show _ = Int32.ofNat (if s' = s then w s + b else w s')
      rw [gu_n (by omega), gu_n (by omega), gu_n (by omega), gu_n (by omega), gu_n (by omega), gu_n (by omega), gu_n (by omega), gu_n (by omega), gu_n (by omega), if_neg q]
      exact h1 _ hs'
  · have : s = 0 ∨ s = 1 ∨ s = 2 := by omega
    rcases this with rfl | rfl | rfl <;> simp <;> omega
theorem iB_cDo {N w k t : Nat} {g g' : Nat → Int32} {one ot v : Int32} (hg : gOK g) (h : iB N g) (hk : k < 4) (ht : t < 10) (ho : cDo g w one k t ot (.inr (v, g'))) : iB (N + 1) g' := by
  have h12 := hg.1.1
  have fin : (∀ i, 138 ≤ i → i < 141 → g' i = g i) → iB (N + 1) g' := fun q => (h.congr q).mono (by omega)
  rcases ho with ⟨-, ho⟩ | ⟨-, ho⟩ | ⟨-, to, -, hto, ho⟩ | ⟨-, ho⟩ | ⟨-, ho⟩ | ⟨-, p, s, -, hp, -, hs, ho⟩ | ⟨-, s, -, hs, ho⟩ | ⟨-, ho⟩ | ⟨-, ho⟩
  · rcases ho with ⟨-, h⟩ | ⟨-, e, -, h⟩ | ⟨-, -, h⟩
    · exact nomatch h
    · exact nomatch h
    · injection h with h; injection h with h1 h2
      subst h2
      exact fin fun i h3 h4 => by rw [gu_n (by omega), gu_n (by omega), gu_n (by omega), gu_n (by omega), gu_n (by omega), gu_n (by omega)]
  · rcases ho with ⟨-, h⟩ | ⟨e, -, ⟨-, h⟩ | ⟨-, h⟩⟩
    · exact nomatch h
    · exact nomatch h
    · injection h with h; injection h with h1 h2
      subst h2
      exact fin fun i h3 h4 => by unfold strG; rw [if_neg (by omega), if_neg (by omega)]
  · rcases ho with ⟨-, h⟩ | ⟨e, he, ⟨-, h⟩ | ⟨-, ⟨-, h⟩ | ⟨-, ⟨-, h⟩ | ⟨-, h⟩⟩⟩⟩
    · exact nomatch h
    · exact nomatch h
    · exact nomatch h
    · exact nomatch h
    · injection h with h; injection h with h1 h2
      subst h2
      have h6 := (hg.2 e he.1).2.2.1.1
      have he' := he.1
      exact fin fun i h3 h4 => by unfold lenG; rw [gu_n (by omega), gu_n (by omega), gu_n (by omega), gu_n (by omega), gu_n (by omega)]
  · rcases ho with ⟨-, h⟩ | ⟨e, he, ⟨-, h⟩ | ⟨-, h⟩⟩
    · exact nomatch h
    · exact nomatch h
    · injection h with h; injection h with h1 h2
      subst h2
      have he' := he.1
      exact fin fun i h3 h4 => by unfold bakG; rw [gu_n (by omega), gu_n (by omega)]
  · rcases ho with ⟨-, h⟩ | ⟨e, he, ⟨-, h⟩ | ⟨-, ⟨-, h⟩ | ⟨-, h⟩⟩⟩
    · exact nomatch h
    · exact nomatch h
    · exact nomatch h
    · injection h with h; injection h with h1 h2
      subst h2
      have h6 := (hg.2 e he.1).2.2.2.1
      have he' := he.1
      exact fin fun i h3 h4 => by unfold menG; rw [gu_n (by omega), gu_n (by omega), gu_n (by omega)]
  · rcases ho with ⟨-, h⟩ | ⟨e, he, ⟨-, h⟩ | ⟨-, ⟨-, h⟩ | ⟨-, d, is, -, hi, h⟩⟩⟩
    · exact nomatch h
    · exact nomatch h
    · exact nomatch h
    · injection h with h; injection h with h1 h2
      subst h2
      have he' := he.1
      refine iB_use ‹iB N g› hp hk ht hs (by omega) ?_
      rcases hi with hi | hi
      · exact Or.inr hi.2
      · exact Or.inl hi.2
  · rcases ho with ⟨-, h⟩ | ⟨-, h⟩
    · exact nomatch h
    · injection h with h; injection h with h1 h2
      subst h2
      exact fin fun i h3 h4 => by rw [gu_n (by omega)]
  · rcases ho with ⟨-, h⟩ | ⟨-, h⟩
    · exact nomatch h
    · injection h with h; injection h with h1 h2
      subst h2
      exact fin fun i h3 h4 => by rw [gu_n (by omega)]
  · injection ho with h; injection h with h1 h2
    subst h2
    refine fin fun i h3 h4 => ?_
    rw [gu_n (by omega), dayN_o hg (by omega) (by omega) _ (Nat.le_refl _), day0_o (by unfold sD; omega)]
theorem GJ_cDo {N w k t : Nat} {g g' : Nat → Int32} {one ot v : Int32} (h : GJ N g) (hk : k < 4) (ht : t < 10) (hr : cR w one ot) (ho : cDo g w one k t ot (.inr (v, g'))) : GJ (N + 1) g' := ⟨GI_cDo h.1 hk ht hr ho, iB_cDo h.1.1 h.2 hk ht ho⟩
/-- a refusal's reason is a number -/
theorem cDo_r {w k t : Nat} {g : Nat → Int32} {one ot r d : Int32} (ho : cDo g w one k t ot (.inl (r, d))) : r ≠ 0 := by
  have fin : ∀ n : Int32, n ≠ 0 → ∀ d', (Sum.inl (r, d) : oR) = .inl (n, d') → r ≠ 0 := fun n hn d' h => by injection h with h; injection h with h1 h2; rw [h1]; exact hn
  rcases ho with ⟨-, ho⟩ | ⟨-, ho⟩ | ⟨-, to, -, hto, ho⟩ | ⟨-, ho⟩ | ⟨-, ho⟩ | ⟨-, p, s, -, hp, -, hs, ho⟩ | ⟨-, s, -, hs, ho⟩ | ⟨-, ho⟩ | ⟨-, ho⟩
  · rcases ho with ⟨-, h⟩ | ⟨-, e, -, h⟩ | ⟨-, -, h⟩
    · exact fin _ (by decide) _ h
    · exact fin _ (by decide) _ h
    · exact nomatch h
  · rcases ho with ⟨-, h⟩ | ⟨e, -, ⟨-, h⟩ | ⟨-, h⟩⟩
    · exact fin _ (by decide) _ h
    · exact fin _ (by decide) _ h
    · exact nomatch h
  · rcases ho with ⟨-, h⟩ | ⟨e, he, ⟨-, h⟩ | ⟨-, ⟨-, h⟩ | ⟨-, ⟨-, h⟩ | ⟨-, h⟩⟩⟩⟩
    · exact fin _ (by decide) _ h
    · exact fin _ (by decide) _ h
    · exact fin _ (by decide) _ h
    · exact fin _ (by decide) _ h
    · exact nomatch h
  · rcases ho with ⟨-, h⟩ | ⟨e, he, ⟨-, h⟩ | ⟨-, h⟩⟩
    · exact fin _ (by decide) _ h
    · exact fin _ (by decide) _ h
    · exact nomatch h
  · rcases ho with ⟨-, h⟩ | ⟨e, he, ⟨-, h⟩ | ⟨-, ⟨-, h⟩ | ⟨-, h⟩⟩⟩
    · exact fin _ (by decide) _ h
    · exact fin _ (by decide) _ h
    · exact fin _ (by decide) _ h
    · exact nomatch h
  · rcases ho with ⟨-, h⟩ | ⟨e, he, ⟨-, h⟩ | ⟨-, ⟨-, h⟩ | ⟨-, d, is, -, hi, h⟩⟩⟩
    · exact fin _ (by decide) _ h
    · exact fin _ (by decide) _ h
    · exact fin _ (by decide) _ h
    · exact nomatch h
  · rcases ho with ⟨-, h⟩ | ⟨-, h⟩
    · exact fin _ (by decide) _ h
    · exact nomatch h
  · rcases ho with ⟨-, h⟩ | ⟨-, h⟩
    · exact fin _ (by decide) _ h
    · exact nomatch h
  · exact nomatch ho
/-- a ledger at l of the numbers g -/
def LQ (G : gE) (z : hSt) (N l : Nat) (g : Nat → Int32) : Prop := (∃ n0 o A md es, LG G z n0 o A md es g ∧ A 0 = l) ∧ GJ N g
def oSv (G : gE) (z : hSt) (N : Nat) : Option Nat → Option (Nat → Int32) → Prop
  | none, none => True
  | some s, some g => LQ G z N s g
  | _, _ => False
def hLs (G : gE) (z : hSt) (N : Nat) : List Nat → List (Nat → Int32) → Prop
  | [], [] => True
  | l :: ls, g :: gs => LQ G z N l g ∧ hLs G z N ls gs
  | _, _ => False
/-- the object x: its ledger's numbers, the history's, the saved ones, its input, its line, where a text was wrong, why it was refused -/
def CS (G : gE) (z : hSt) (x N : Nat) (g : Nat → Int32) (hg : List (Nat → Int32)) (sg : Option (Nat → Int32)) (T U : List Nat) (er wy dt : Int32) : Prop :=
  ∃ l sv H arr mdh hs ib arb ln bt rf, z.1 x = some (.inr (0, [va_rf (some l), va_rf sv, va_rf (some H), va_rf (some ib), va_rf (some ln), va_rf bt, va_rf rf])) ∧ LQ G z N l g ∧ oSv G z N sv sg ∧ (AL G z H arr mdh hs ∧ hs.length ≤ 6 ∧ hLs G z N hs hg) ∧ (SB G z ib arb T ∧ T.length ≤ 60) ∧ (STq z ln (fun a => a ≠ arb) U ∧ U.length ≤ 60) ∧ oBT z bt er ∧ oRF z rf wy dt
/-- what touches nothing of the object's -/
def Wu (W : Nat → Nat → Prop) : Prop := ∀ b k, W b k → k = 4 ∨ k = 100 ∨ k = 101 ∨ k = 103 ∨ k = 104
/-- the object's kinds -/
abbrev Wo : Nat → Nat → Prop := fun _ k => k ≠ 4 ∧ k ≠ 100 ∧ k ≠ 101 ∧ k ≠ 103 ∧ k ≠ 104
theorem W0_u : Wu W0 := fun _ _ w => w.elim
theorem Wu.g {W : Nat → Nat → Prop} (h : Wu W) : Wg W := fun b => ⟨fun w => by have := h b _ w; omega, fun w => by have := h b _ w; omega, fun w => by have := h b _ w; omega, fun w => by have := h b _ w; omega, fun w => by have := h b _ w; omega, fun w => by have := h b _ w; omega, fun w => by have := h b _ w; omega, fun w => by have := h b _ w; omega, fun w => by have := h b _ w; omega, fun w => by have := h b _ w; omega, fun w => by have := h b _ w; omega, fun w => by have := h b _ w; omega, fun w => by have := h b _ w; omega, fun w => by have := h b _ w; omega, fun w => by have := h b _ w; omega⟩
section STA
variable {G : gE} {σ τ : hSt} {W : Nat → Nat → Prop} {c N N' l x : Nat} {g : Nat → Int32} {hg : List (Nat → Int32)} {sg : Option (Nat → Int32)} {T U : List Nat} {er wy dt : Int32}
theorem LQ.ev (h : LQ G σ N l g) (e : ev G W c σ τ) (hW : Wg W) : LQ G τ N l g := by
  obtain ⟨⟨n0, o, A, md, es, h1, h2⟩, h3⟩ := h
  exact ⟨⟨n0, o, A, md, es, h1.ev e hW, h2⟩, h3⟩
theorem LQ.mono (h : LQ G σ N l g) (hN : N ≤ N') : LQ G σ N' l g := ⟨h.1, h.2.mono hN⟩
theorem oSv_ev {sv : Option Nat} (h : oSv G σ N sv sg) (e : ev G W c σ τ) (hW : Wg W) : oSv G τ N sv sg := by
  cases sv <;> cases sg <;> first | exact h | exact LQ.ev h e hW
theorem oSv_mono {sv : Option Nat} (h : oSv G σ N sv sg) (hN : N ≤ N') : oSv G σ N' sv sg := by
  cases sv <;> cases sg <;> first | exact h | exact LQ.mono h hN
theorem hLs_ev (e : ev G W c σ τ) (hW : Wg W) : ∀ hs hg, hLs G σ N hs hg → hLs G τ N hs hg := by
  intro hs
  induction hs with
  | nil => intro hg h; cases hg <;> exact h
  | cons a hs ih =>
    intro hg h
    cases hg with
    | nil => exact h
    | cons b hg => exact ⟨h.1.ev e hW, ih hg h.2⟩
theorem hLs_mono (hN : N ≤ N') : ∀ hs hg, hLs G σ N hs hg → hLs G σ N' hs hg := by
  intro hs
  induction hs with
  | nil => intro hg h; cases hg <;> exact h
  | cons a hs ih =>
    intro hg h
    cases hg with
    | nil => exact h
    | cons b hg => exact ⟨h.1.mono hN, ih hg h.2⟩
theorem hLs_len : ∀ hs hg, hLs G σ N hs hg → hs.length = hg.length := by
  intro hs
  induction hs with
  | nil => intro hg h; cases hg <;> first | rfl | exact h.elim
  | cons a hs ih =>
    intro hg h
    cases hg with
    | nil => exact h.elim
    | cons b hg => simp [ih hg h.2]
theorem hLs_tail : ∀ hs hg, hLs G σ N hs hg → hLs G σ N hs.tail hg.tail := by
  intro hs hg h
  cases hs with
  | nil => cases hg <;> first | exact h | exact h.elim
  | cons a hs =>
    cases hg with
    | nil => exact h.elim
    | cons b hg => exact h.2
theorem hLs_app (hl : LQ G σ N l g) : ∀ hs hg, hLs G σ N hs hg → hLs G σ N (hs ++ [l]) (hg ++ [g]) := by
  intro hs
  induction hs with
  | nil => intro hg h; cases hg <;> first | exact ⟨hl, trivial⟩ | exact h.elim
  | cons a hs ih =>
    intro hg h
    cases hg with
    | nil => exact h.elim
    | cons b hg => exact ⟨h.1, ih hg h.2⟩
/-- the last of both -/
theorem hLs_pop : ∀ hs hg, hLs G σ N hs hg → hs ≠ [] → ∃ hs0 l hg0 g, hs = hs0 ++ [l] ∧ hg = hg0 ++ [g] ∧ hLs G σ N hs0 hg0 ∧ LQ G σ N l g := by
  intro hs
  induction hs with
  | nil => intro hg h hn; exact absurd rfl hn
  | cons a hs ih =>
    intro hg h hn
    cases hg with
    | nil => exact h.elim
    | cons b hg =>
      cases hs with
      | nil =>
        cases hg with
        | nil => exact ⟨[], a, [], b, rfl, rfl, trivial, h.1⟩
        | cons b2 hg => exact h.2.elim
      | cons a2 hs =>
        obtain ⟨hs0, l, hg0, g, e1, e2, e3, e4⟩ := ih hg h.2 (by simp)
        exact ⟨a :: hs0, l, b :: hg0, g, by rw [e1]; rfl, by rw [e2]; rfl, ⟨h.1, e3⟩, e4⟩
theorem oBT_ev {bt : Option Nat} (h : oBT σ bt er) (e : ev G W c σ τ) (hW : ∀ b, ¬ W b 11) : oBT τ bt er := by
  rcases h with h | ⟨q, i, h1, ⟨fs, a1, a2, a3⟩, h3⟩
  · exact Or.inl h
  · exact Or.inr ⟨q, i, h1, ⟨fs, e.o a1 (hW _) (by decide) (by decide), a2, a3⟩, h3⟩
theorem oRF_ev {rf : Option Nat} (h : oRF σ rf wy dt) (e : ev G W c σ τ) (hW : ∀ b, ¬ W b 8) : oRF τ rf wy dt := by
  rcases h with h | ⟨q, h1, ⟨fs, a1, a2⟩, h3⟩
  · exact Or.inl h
  · exact Or.inr ⟨q, h1, ⟨fs, e.o a1 (hW _) (by decide) (by decide), a2⟩, h3⟩
theorem CS.ev (h : CS G σ x N g hg sg T U er wy dt) (e : ev G W c σ τ) (hW : Wu W) : CS G τ x N g hg sg T U er wy dt := by
  obtain ⟨l, sv, H, arr, mdh, hs, ib, arb, ln, bt, rf, h1, h2, h3, ⟨h4, h4', h4''⟩, ⟨h5, h5'⟩, ⟨h6, h6'⟩, h7, h8⟩ := h
  have no : ∀ b k, (k ≠ 4 ∧ k ≠ 100 ∧ k ≠ 101 ∧ k ≠ 103 ∧ k ≠ 104) → ¬ W b k := fun b k q w => by have := hW b k w; omega
  exact ⟨l, sv, H, arr, mdh, hs, ib, arb, ln, bt, rf, e.o h1 (no _ _ (by omega)) (by decide) (by decide), h2.ev e hW.g, oSv_ev h3 e hW.g, ⟨h4.ev e (no _ _ (by omega)) (no _ _ (by omega)), h4', hLs_ev e hW.g _ _ h4''⟩, ⟨h5.ev e (no _ _ (by omega)) (no _ _ (by omega)), h5'⟩, ⟨h6.ev e (fun b => no _ _ (by omega)) fun b _ => no _ _ (by omega), h6'⟩, oBT_ev h7 e fun b => no _ _ (by omega), oRF_ev h8 e fun b => no _ _ (by omega)⟩
theorem CS.mono (h : CS G σ x N g hg sg T U er wy dt) (hN : N ≤ N') : CS G σ x N' g hg sg T U er wy dt := by
  obtain ⟨l, sv, H, arr, mdh, hs, ib, arb, ln, bt, rf, h1, h2, h3, ⟨h4, h4', h4''⟩, h5, h6, h7, h8⟩ := h
  exact ⟨l, sv, H, arr, mdh, hs, ib, arb, ln, bt, rf, h1, h2.mono hN, oSv_mono h3 hN, ⟨h4, h4', hLs_mono hN _ _ h4''⟩, h5, h6, h7, h8⟩
theorem ev.wo (e : ev G W c σ τ) (h : ∀ a k, W a k → Wo a k) {c' : Nat} (hc : c ≤ c') : ev G Wo c' σ τ := e.mono (fun a k _ w => h a k w) hc
end STA
