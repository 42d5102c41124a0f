/-! the ledger in the heap -/
set_option maxRecDepth 100000
/-- the story x (pupil + 6 (topic + 10 kind)) is heard at the school s -/
noncomputable def hb (g : Nat → Int32) (s x : Nat) : Bool := @decide (x < 240 ∧ hbit g s (x % 6) (x / 60) (x / 6 % 10)) (Classical.propDecidable _)
theorem hb_iff {g : Nat → Int32} {s x : Nat} : hb g s x = true ↔ x < 240 ∧ hbit g s (x % 6) (x / 60) (x / 6 % 10) := by
  unfold hb
  exact @decide_eq_true_iff _ (Classical.propDecidable _)
/-- how many below n -/
def cntB (p : Nat → Bool) (n : Nat) : Nat := ((List.range n).filter p).length
theorem cntB_le {p : Nat → Bool} {n : Nat} : cntB p n ≤ n := by
  unfold cntB
  exact Nat.le_trans (List.length_filter_le _ _) (by simp)
theorem cntB_s {p : Nat → Bool} {n : Nat} : cntB p (n + 1) = cntB p n + if p n = true then 1 else 0 := by
  unfold cntB
  rw [List.range_succ, List.filter_append, List.length_append]
  by_cases h : p n = true
  · rw [List.filter_cons_of_pos h, if_pos h]; rfl
  · rw [List.filter_cons_of_neg h, if_neg h]; rfl
theorem cntB_congr {p q : Nat → Bool} {n : Nat} (h : ∀ x, x < n → p x = q x) : cntB p n = cntB q n := by
  induction n with
  | zero => rfl
  | succ n ih => rw [cntB_s, cntB_s, ih fun x hx => h x (by omega), h n (by omega)]
theorem cntB_add {p q : Nat → Bool} {n x : Nat} (hx : x < n) (h1 : p x = false) (h2 : q x = true) (h : ∀ y, y ≠ x → q y = p y) : cntB q n = cntB p n + 1 := by
  induction n with
  | zero => omega
  | succ n ih =>
    rw [cntB_s, cntB_s]
    by_cases e : n = x
    · subst e
      rw [h1, h2, cntB_congr fun y hy => h y (by omega)]
      rfl
    · rw [ih (by omega), h n e]
      omega
theorem cntB_nd {p : Nat → Bool} {n : Nat} {l : List Nat} (hn : l.Nodup) (h : ∀ x, x ∈ l ↔ x < n ∧ p x = true) : l.length = cntB p n := by
  refine Nat.le_antisymm (nd_le hn fun x hx => ?_) (nd_le ?_ fun x hx => ?_)
  · have := (h x).mp hx
    exact List.mem_filter.mpr ⟨List.mem_range.mpr this.1, this.2⟩
  · exact List.Nodup.sublist List.filter_sublist List.nodup_range
  · have := List.mem_filter.mp hx
    exact (h x).mpr ⟨List.mem_range.mp this.1, this.2⟩
/-- the cells, one kind after another; A names addresses: 0 the ledger, 1 2 its maps, 3 4 its arrays, 5 .. schools, 8 .. their sets, 11 .. the sets' maps, 14 .. pupils -/
def lgL (σ : hSt) (A : Nat → Nat) (g : Nat → Int32) : Prop := σ.1 (A 0) = some (.inr (1, [va_rf (some (A 1)), va_rf (some (A 2)), va_rf (some (A 3)), va_rf (some (A 4)), .int (g 1), .int (g 2 - 1), .int (g 3), .int (g 4), .int (g 5)]))
def lgA (σ : hSt) (A : Nat → Nat) : Prop := ∃ f h, σ.1 (A 3) = some (.inl (7, 3, .inr (.inr (.inr (.inr f))))) ∧ (∀ s, s < 3 → f s = some (A (5 + s))) ∧ σ.1 (A 4) = some (.inl (8, 6, .inr (.inr (.inr (.inr h))))) ∧ ∀ p, p < 6 → h p = some (A (14 + p))
def lgS (σ : hSt) (A : Nat → Nat) (g : Nat → Int32) : Prop := ∀ s, s < 3 → σ.1 (A (5 + s)) = some (.inr (2, [va_rf (some (A (8 + s))), .int (g (132 + s)), .int (g (135 + s)), .int (g (138 + s))]))
def lgP (σ : hSt) (A : Nat → Nat) (g : Nat → Int32) : Prop := ∀ p, p < 6 → σ.1 (A (14 + p)) = some (.inr (3, [.int (g (114 + p)), .int (g (120 + p)), .int (g (126 + p))]))
/-- an excuse's cell -/
abbrev excF (nm : Nat) (g : Nat → Int32) (e : Nat) : List Value := [va_rf (some nm), .int (g (30 + e)), .int (g (54 + e)), .int (g (66 + e)), .int (g (42 + e)), .int (g (78 + e)), .int (g (90 + e)), .int (g (102 + e) - 1)]
def lgX (σ : hSt) (n0 : Nat) (es : List eT) (g : Nat → Int32) : Prop := ∀ e q, es[e]? = some q → q.2.1 = 10 * kOf g e + tOf g e ∧ ∃ x, q.2.2.2 = some x ∧ n0 ≤ x ∧ σ.1 x = some (.inr (7, excF q.2.2.1 g e))
/-- own cells: those of the number i, from n0 on -/
abbrev oD (o : Nat → Nat) (n0 i : Nat) : Nat → Prop := fun a => o a = i ∧ n0 ≤ a
def lgD (G : gE) (σ : hSt) (D : Nat → Prop) (m : Nat) (g : Nat → Int32) : Prop := ∃ pr N E, HM G σ D 25 m (cntB pr 10) N E ∧ (∀ t, pr t = true ↔ ∃ q, E q ∧ q.2.1 = t) ∧ (∀ q, E q → q.2.1 < 10 ∧ isN σ q.1 ∧ ∃ v, q.2.2.2 = some v ∧ σ.1 v = some (.inr (25, [.int (g (141 + q.2.1))]))) ∧ ∀ t, t < 10 → pr t = false → g (141 + t) = 0
def lgH (G : gE) (σ : hSt) (o : Nat → Nat) (n0 : Nat) (A : Nat → Nat) (g : Nat → Int32) : Prop := ∀ s, s < 3 → ∃ N, HS G σ (oD o n0 (2 + s)) (A (8 + s)) (A (11 + s)) (cntB (hb g s) 240) N (fun x => hb g s x = true)
def lgN (n0 : Nat) (A : Nat → Nat) (es : List eT) : Prop := (∀ i j, i < 20 → j < 20 → A i = A j → i = j) ∧ (∀ i, i < 20 → n0 ≤ A i) ∧ (es.map fun q => q.2.2.2).Nodup
/-- the ledger g at A -/
def LG (G : gE) (σ : hSt) (n0 : Nat) (o A : Nat → Nat) (md : Int32) (es : List eT) (g : Nat → Int32) : Prop := gOK g ∧ lgN n0 A es ∧ lgL σ A g ∧ lgA σ A ∧ lgS σ A g ∧ lgP σ A g ∧ (LM G σ (oD o n0 0) (A 1) md es ∧ es.length = cnt g) ∧ lgX σ n0 es g ∧ lgD G σ (oD o n0 1) (A 2) g ∧ lgH G σ o n0 A g
/-- what touches no cell of a ledger's kinds -/
def Wg (W : Nat → Nat → Prop) : Prop := ∀ b, ¬ W b 1 ∧ ¬ W b 2 ∧ ¬ W b 3 ∧ ¬ W b 5 ∧ ¬ W b 7 ∧ ¬ W b 9 ∧ ¬ W b 12 ∧ ¬ W b 13 ∧ ¬ W b 14 ∧ ¬ W b 25 ∧ ¬ W b 26 ∧ ¬ W b 27 ∧ ¬ W b 106 ∧ ¬ W b 107 ∧ ¬ W b 108
theorem Wg.k {W : Nat → Nat → Prop} (h : Wg W) : Wk W := fun b => ⟨(h b).2.2.2.1, (h b).2.2.2.2.2.1, (h b).2.2.2.2.2.2.2.2.2.1⟩
theorem Wg.m {W : Nat → Nat → Prop} (h : Wg W) (D : Nat → Prop) : ∀ a k, D a → mkd k → ¬ W a k := by
  intro a k _ hk
  have := h a
  rcases hk with rfl | rfl | rfl | rfl | rfl
  · exact this.2.2.2.2.2.2.1
  · exact this.2.2.2.2.2.2.2.1
  · exact this.2.2.2.2.2.2.2.2.2.2.1
  · exact this.2.2.2.2.2.2.2.2.2.2.2.1
  · exact this.2.2.2.2.2.2.2.2.2.2.2.2.1
theorem W0_g : Wg W0 := fun b => ⟨fun w => w, fun w => w, fun w => w, fun w => w, fun w => w, fun w => w, fun w => w, fun w => w, fun w => w, fun w => w, fun w => w, fun w => w, fun w => w, fun w => w, fun w => w⟩
theorem W1_g {a k : Nat} (h : k ∉ [1, 2, 3, 5, 7, 9, 12, 13, 14, 25, 26, 27, 106, 107, 108]) : Wg (W1 a k) := by
  simp only [List.mem_cons, List.not_mem_nil, or_false, not_or] at h
  intro b
  exact ⟨fun w => by have := w.2; omega, fun w => by have := w.2; omega, fun w => by have := w.2; omega, fun w => by have := w.2; omega, fun w => by have := w.2; omega, fun w => by have := w.2; omega, fun w => by have := w.2; omega, fun w => by have := w.2; omega, fun w => by have := w.2; omega, fun w => by have := w.2; omega, fun w => by have := w.2; omega, fun w => by have := w.2; omega, fun w => by have := w.2; omega, fun w => by have := w.2; omega, fun w => by have := w.2; omega⟩
section LEV
variable {G : gE} {W : Nat → Nat → Prop} {c n0 : Nat} {σ τ : hSt} {o A : Nat → Nat} {md : Int32} {es : List eT} {g g' : Nat → Int32}
theorem lgL.ev (h : lgL σ A g) (he : ev G W c σ τ) (hW : ¬ W (A 0) 1) (hg : ∀ i, 1 ≤ i → i < 6 → g' i = g i) : lgL τ A g' := by
  unfold lgL at *
  rw [hg 1 (by omega) (by omega), hg 2 (by omega) (by omega), hg 3 (by omega) (by omega), hg 4 (by omega) (by omega), hg 5 (by omega) (by omega)]
  exact he.o h hW (by decide) (by decide)
theorem lgA.ev (h : lgA σ A) (he : ev G W c σ τ) (h3 : ¬ W (A 3) 107) (h4 : ¬ W (A 4) 108) : lgA τ A := by
  obtain ⟨f, h, q1, q2, q3, q4⟩ := h
  exact ⟨f, h, he.a q1 h3, q2, he.a q3 h4, q4⟩
theorem lgS.ev (h : lgS σ A g) (he : ev G W c σ τ) (hW : ∀ s, s < 3 → ¬ W (A (5 + s)) 2) (hg : ∀ i, 132 ≤ i → i < 141 → g' i = g i) : lgS τ A g' := by
  intro s hs
  rw [hg _ (by omega) (by omega), hg (135 + s) (by omega) (by omega), hg (138 + s) (by omega) (by omega)]
  exact he.o (h s hs) (hW s hs) (by decide) (by decide)
theorem lgP.ev (h : lgP σ A g) (he : ev G W c σ τ) (hW : ∀ p, p < 6 → ¬ W (A (14 + p)) 3) (hg : ∀ i, 114 ≤ i → i < 132 → g' i = g i) : lgP τ A g' := by
  intro p hp
  rw [hg _ (by omega) (by omega), hg (120 + p) (by omega) (by omega), hg (126 + p) (by omega) (by omega)]
  exact he.o (h p hp) (hW p hp) (by decide) (by decide)
theorem lgX.ev (h : lgX σ n0 es g) (hl : es.length ≤ 12) (he : ev G W c σ τ) (hW : ∀ q ∈ es, ∀ x, q.2.2.2 = some x → ¬ W x 7) (hg : ∀ i, 6 ≤ i → i < 114 → g' i = g i) : lgX τ n0 es g' := by
  intro e q hq
  obtain ⟨h1, x, h2, h3, h4⟩ := h e q hq
  have he12 : e < 12 := Nat.lt_of_lt_of_le (List.getElem?_eq_some_iff.mp hq).1 hl
  unfold kOf tOf at *
  rw [hg (6 + e) (by omega) (by omega), hg (18 + e) (by omega) (by omega)]
  refine ⟨h1, x, h2, h3, ?_⟩
  unfold excF at *
  rw [hg (30 + e) (by omega) (by omega), hg (54 + e) (by omega) (by omega), hg (66 + e) (by omega) (by omega), hg (42 + e) (by omega) (by omega), hg (78 + e) (by omega) (by omega), hg (90 + e) (by omega) (by omega), hg (102 + e) (by omega) (by omega)]
  exact he.o h4 (hW q (List.mem_of_getElem? hq) x h2) (by decide) (by decide)
theorem lgD.ev {D : Nat → Prop} {m : Nat} (h : lgD G σ D m g) (he : ev G W c σ τ) (hk : Wk W) (hW : ∀ a k, D a → mkd k → ¬ W a k) (hg : ∀ i, 141 ≤ i → i < 151 → g' i = g i) : lgD G τ D m g' := by
  obtain ⟨pr, N, E, h1, h2, h3, h4⟩ := h
  refine ⟨pr, N, E, h1.ev he hk hW, h2, fun q hq => ?_, fun t ht hp => by rw [hg _ (by omega) (by omega)]; exact h4 t ht hp⟩
  obtain ⟨h5, h8, v, h6, h7⟩ := h3 q hq
  exact ⟨h5, h8.ev he, v, h6, by rw [hg _ (by omega) (by omega)]; exact he.o h7 (hk _).2.2 (by decide) (by decide)⟩
theorem hb_congr {s : Nat} (hg : ∀ i, 151 ≤ i → i < 223 → g' i = g i) (hs : s < 3) : hb g' s = hb g s := by
  funext x
  have : (hb g' s x = true) ↔ (hb g s x = true) := by
    rw [hb_iff, hb_iff]
    refine and_congr_right fun hx => ?_
    unfold hbit
    rw [hg _ (by omega) (by omega)]
  cases h1 : hb g' s x <;> cases h2 : hb g s x <;> simp [h1, h2] at this <;> rfl
theorem lgH.ev (h : lgH G σ o n0 A g) (he : ev G W c σ τ) (hk : Wk W) (hW : ∀ s, s < 3 → ∀ a k, oD o n0 (2 + s) a → mkd k → ¬ W a k) (h14 : ∀ s, s < 3 → ¬ W (A (8 + s)) 14) (hg : ∀ i, 151 ≤ i → i < 223 → g' i = g i) : lgH G τ o n0 A g' := by
  intro s hs
  obtain ⟨N, h1⟩ := h s hs
  rw [hb_congr hg hs]
  exact ⟨N, h1.ev he hk (hW s hs) (h14 s hs)⟩
theorem LG.ev (h : LG G σ n0 o A md es g) (he : ev G W c σ τ) (hW : Wg W) : LG G τ n0 o A md es g := by
  obtain ⟨h1, h2, h3, h4, h5, h6, ⟨h7, h7'⟩, h8, h9, h10⟩ := h
  have hl : es.length ≤ 12 := by rw [h7']; exact h1.1.1
  refine ⟨h1, h2, h3.ev he (hW _).1 fun _ _ _ => rfl, h4.ev he (hW _).2.2.2.2.2.2.2.2.2.2.2.2.2.1 (hW _).2.2.2.2.2.2.2.2.2.2.2.2.2.2, h5.ev he (fun s hs => (hW _).2.1) fun _ _ _ => rfl, h6.ev he (fun p hp => (hW _).2.2.1) fun _ _ _ => rfl, ⟨h7.ev he hW.k (hW.m _), h7'⟩, h8.ev hl he (fun q hq x hx => (hW _).2.2.2.2.1) fun _ _ _ => rfl, h9.ev he hW.k (hW.m _) fun _ _ _ => rfl, h10.ev he hW.k (fun s hs => hW.m _) (fun s hs => (hW _).2.2.2.2.2.2.2.2.1) fun _ _ _ => rfl⟩
end LEV
section LRD
variable {G : gE} {σ : hSt} {PX : Nat → Nat → hSt → Prop} {n0 : Nat} {o A : Nat → Nat} {md : Int32} {es : List eT} {g : Nat → Int32}
theorem LG.ok (h : LG G σ n0 o A md es g) : gOK g := h.1
theorem LG.L (h : LG G σ n0 o A md es g) : σ.1 (A 0) = some (.inr (1, [va_rf (some (A 1)), va_rf (some (A 2)), va_rf (some (A 3)), va_rf (some (A 4)), .int (g 1), .int (g 2 - 1), .int (g 3), .int (g 4), .int (g 5)])) := h.2.2.1
theorem LG.rc (h : LG G σ n0 o A md es g) : rcv σ (some (A 0)) 1 := rco h.L
theorem LG.M (h : LG G σ n0 o A md es g) : LM G σ (oD o n0 0) (A 1) md es := h.2.2.2.2.2.2.1.1
theorem LG.len (h : LG G σ n0 o A md es g) : es.length = cnt g := h.2.2.2.2.2.2.1.2
theorem LG.le12 (h : LG G σ n0 o A md es g) : es.length ≤ 12 := by rw [h.len]; exact h.1.1.1
theorem LG.sch (h : LG G σ n0 o A md es g) {s : Nat} (hs : s < 3) : σ.1 (A (5 + s)) = some (.inr (2, [va_rf (some (A (8 + s))), .int (g (132 + s)), .int (g (135 + s)), .int (g (138 + s))])) := h.2.2.2.2.1 s hs
theorem LG.pup (h : LG G σ n0 o A md es g) {p : Nat} (hp : p < 6) : σ.1 (A (14 + p)) = some (.inr (3, [.int (g (114 + p)), .int (g (120 + p)), .int (g (126 + p))])) := h.2.2.2.2.2.1 p hp
theorem LG.exc (h : LG G σ n0 o A md es g) {e : Nat} {q : eT} (hq : es[e]? = some q) : q.2.1 = 10 * kOf g e + tOf g e ∧ ∃ x, q.2.2.2 = some x ∧ n0 ≤ x ∧ σ.1 x = some (.inr (7, excF q.2.2.1 g e)) := h.2.2.2.2.2.2.2.1 e q hq
theorem LG.lt (h : LG G σ n0 o A md es g) {e : Nat} {q : eT} (hq : es[e]? = some q) : e < cnt g := by rw [← h.len]; exact (List.getElem?_eq_some_iff.mp hq).1
theorem LG.nm (h : LG G σ n0 o A md es g) {e : Nat} {q : eT} (hq : es[e]? = some q) : σ.1 q.2.2.1 = some (.inr (5, nmC q.2.1)) ∧ q.2.1 / 10 = kOf g e ∧ q.2.1 % 10 = tOf g e ∧ q.2.1 < 40 := by
  obtain ⟨h1, -⟩ := h.exc hq
  obtain ⟨t, th, -, -, -, -, h5, -⟩ := h.M
  have hk := (h.ok.2 e (h.lt hq)).1.1
  have ht := (h.ok.2 e (h.lt hq)).2.1.1
  rcases (h5 q (List.mem_of_getElem? hq)).2 with ⟨-, h, h2⟩ | ⟨w, -⟩ | ⟨w, -⟩
  · exact ⟨h2, by omega, by omega, h⟩
  · exact absurd w (by decide)
  · exact absurd w (by decide)
/-- the schools' array, the pupils' -/
theorem LG.aS {K : Option Nat → Prop} (h : LG G σ n0 o A md es g) {s : Nat} (hs : s < 3) (hK : K (some (A (5 + s)))) : gtR σ (some (A 0)) [1] 2 (fun x => alR σ x arL (Int32.ofNat s) K) := by
  obtain ⟨f, hh, q1, q2, q3, q4⟩ := h.2.2.2.1
  exact gR h.L (by decide) rfl (aR q1 (by decide) (by omega) hs (by rw [q2 s hs]; exact hK))
theorem LG.aP {K : Option Nat → Prop} (h : LG G σ n0 o A md es g) {p : Nat} (hp : p < 6) (hK : K (some (A (14 + p)))) : gtR σ (some (A 0)) [1] 3 (fun x => alR σ x arL (Int32.ofNat p) K) := by
  obtain ⟨f, hh, q1, q2, q3, q4⟩ := h.2.2.2.1
  exact gR h.L (by decide) rfl (aR q3 (by decide) (by omega) hp (by rw [q4 p hp]; exact hK))
theorem LG.set (h : LG G σ n0 o A md es g) {s : Nat} (hs : s < 3) : ∃ N, HS G σ (oD o n0 (2 + s)) (A (8 + s)) (A (11 + s)) (cntB (hb g s) 240) N (fun x => hb g s x = true) := h.2.2.2.2.2.2.2.2.2 s hs
theorem vo_k {P : Option Nat → hSt → Prop} (hS : SI G σ) {t : Nat} (ht : t < 128) (hP : KY σ 25 (gA G (228 + t)) t → σ.1 (gA G (228 + t)) = some (.inr (25, [.int (Int32.ofNat t)])) → P (some (gA G (228 + t))) σ) : wJ31_valueOf G P PX (Int32.ofNat t) σ := by
  unfold wJ31_valueOf wJ31_valueOfb0
  obtain ⟨-, h42⟩ := hS.2.2.2.2.2.1
  obtain ⟨-, hc⟩ := hS.2.2.2.2.2.2.2 t ht
  have e1 : ¬ Int32.ofNat t < -128 := fun w => by
    rw [Int32.lt_iff_toInt_lt, i_toInt (by omega)] at w
    have : (-128 : Int32).toInt = -128 := rfl
    omega
  refine ⟨fun w => absurd w e1, fun _ => ⟨fun w => ?_, fun _ => ?_⟩⟩
  · rw [show (127 : Int32) = Int32.ofNat 127 from rfl, i_lt (by omega) (by omega)] at w
    omega
  · rw [show (128 : Int32) = Int32.ofNat 128 from rfl, i_add]
    refine aR h42 (by decide) (by omega) (by omega) ?_
    rw [show 100 + (t + 128) = 228 + t by omega]
    exact hP (Or.inr (Or.inr ⟨rfl, ht, hc⟩)) hc
/-- how often the dog ate what was on that topic -/
theorem dog_k {P : Int32 → hSt → Prop} (hS : SI G σ) (h : LG G σ n0 o A md es g) {t : Nat} (ht : t < 10) (hP : P (g (141 + t)) σ) : wX2_dog G P PX (some (A 0)) (Int32.ofNat t) σ := by
  obtain ⟨pr, N, E, hH, h1, h2, h3⟩ := h.2.2.2.2.2.2.2.2.1
  unfold wX2_dog wX2_dogb0
  refine gR h.L (by decide) rfl (vo_k hS (by omega) fun hk hc => ⟨hH.rc, get_k hH hk (fun q hq e => ?_) fun hno => ⟨Or.inl rfl, fun w => absurd rfl w, fun _ => ?_⟩⟩)
  · obtain ⟨-, -, v, hv, hvc⟩ := h2 q hq
    rw [hv]
    refine ⟨cO hvc (by decide), fun _ => ⟨rco hvc, ?_⟩, fun w => nomatch w⟩
    unfold wJ31_intValue wJ31_intValueb0
    refine gI hvc (by decide) rfl ?_
    rw [e]; exact hP
  · rw [← h3 t ht ?_]; exact hP
    cases hp : pr t
    · rfl
    · obtain ⟨q, hq, e⟩ := (h1 t).mp hp
      exact absurd e (hno q hq)
end LRD
