/-! the component: what a step may change, what it keeps -/
set_option maxRecDepth 100000
/-- a cell and its later self: the same but for the views that a map caches -/
def simE (e e' : hE) : Prop := match e with
  | .inl x => e' = .inl x
  | .inr (ci, fs) => ∃ fs', e' = .inr (ci, fs') ∧ fs'.length = fs.length ∧ ∀ k, ¬ ((ci = 12 ∨ ci = 13) ∧ (k = 0 ∨ k = 1 ∨ k = 3)) → fs'[k]? = fs[k]?
theorem simE_refl (e : hE) : simE e e := by
  obtain x | ⟨ci, fs⟩ := e
  · rfl
  · exact ⟨fs, rfl, rfl, fun _ _ => rfl⟩
theorem simE_trans {e e' e'' : hE} (h : simE e e') (h' : simE e' e'') : simE e e'' := by
  obtain x | ⟨ci, fs⟩ := e
  · cases h; exact h'
  · obtain ⟨fs', rfl, h2, h3⟩ := h
    obtain ⟨fs'', rfl, h5, h6⟩ := h'
    exact ⟨fs'', rfl, h5.trans h2, fun k hk => (h6 k hk).trans (h3 k hk)⟩
theorem simE_eq {ci : Nat} {fs : List Value} {e' : hE} (h : simE (.inr (ci, fs)) e') (h1 : ci ≠ 12) (h2 : ci ≠ 13) : e' = .inr (ci, fs) := by
  obtain ⟨fs', rfl, h3, h4⟩ := h
  have : fs' = fs := List.ext_getElem? fun k => h4 k fun q => q.1.elim h1 h2
  rw [this]
/-- a map's fields, whatever views it caches -/
abbrev mFl8 (k0 k1 k3 : Value) (t : Option Nat) (sz md th : Int32) (Y : List Value) : List Value := k0 :: k1 :: va_rf t :: k3 :: .int sz :: .int md :: .int th :: .float 1061158912 :: Y
theorem simE_map {ci : Nat} {k0 k1 k3 : Value} {t : Option Nat} {sz md th : Int32} {Y : List Value} {e' : hE} (h : simE (.inr (ci, mFl8 k0 k1 k3 t sz md th Y)) e') : ∃ k0' k1' k3', e' = .inr (ci, mFl8 k0' k1' k3' t sz md th Y) := by
  obtain ⟨fs', rfl, h3, h4⟩ := h
  rcases fs' with _ | ⟨a0, fs'⟩
  · cases h3
  rcases fs' with _ | ⟨a1, fs'⟩
  · cases h3
  rcases fs' with _ | ⟨a2, fs'⟩
  · cases h3
  rcases fs' with _ | ⟨a3, fs'⟩
  · cases h3
  refine ⟨a0, a1, a3, ?_⟩
  have e2 := h4 2 (by omega)
  have e2' : a2 = va_rf t := Option.some.inj e2
  subst e2'
  have er : fs' = .int sz :: .int md :: .int th :: .float 1061158912 :: Y := List.ext_getElem? fun k => h4 (k + 4) (by omega)
  rw [er]
/-- the views that a map caches are its own -/
def vwC (h : Nat → Option hE) (a : Nat) (fs : List Value) : Prop :=
  (fs[0]? = some .null ∨ ∃ v, fs[0]? = some (va_rf (some v)) ∧ h v = some (.inr (22, [va_rf (some a)]))) ∧ (fs[1]? = some .null ∨ ∃ v, fs[1]? = some (va_rf (some v)) ∧ h v = some (.inr (18, [.int 0, va_rf (some a)]))) ∧ (fs[3]? = some .null ∨ ∃ v, fs[3]? = some (va_rf (some v)) ∧ h v = some (.inr (24, [va_rf (some a)])))
/-- the texts, by the numbers of their addresses -/
def txt (k : Nat) : List Nat := if k = 0 then [] else if k = 10 then [44] else if k = 11 then [42] else if k = 12 then [45] else if k = 13 then [62] else if k = 14 then [60] else if k = 15 then [100, 119, 105, 116] else if k = 16 then [110, 107, 108, 98, 109, 117, 115, 119, 101] else [0]
def thash (k : Nat) : Int32 := if k = 1 then 96667352 else if k = 2 then -891985998 else if k = 3 then 3317999 else if k = 4 then 3015911 else if k = 5 then 3347790 else if k = 6 then 116103 else if k = 7 then -891986231 else if k = 8 then 1223440372 else if k = 9 then 99228 else if k = 10 then 44 else if k = 11 then 42 else if k = 12 then 45 else if k = 13 then 62 else if k = 14 then 60 else if k = 15 then 3096830 else if k = 16 then 521686982 else 0
/-- the letters of a text as an array's contents -/
def chF (T : List Nat) : Nat → Int32 := fun i => Int32.ofNat ((T[i]?).getD 0)
/-- what lies there from the start, as far as it is needed: texts, their letters, the arrays and the small Integers -/
def cstP (G : gE) (σ : hSt) : Prop :=
  (∀ k, k < 17 → gX G (gA G k) ∧ ∃ hz, σ.1 (gA G k) = some (.inr (17, [va_rf (some (gA G (20 + k))), .int 0, .int (thash k), .int hz]))) ∧
  (∀ k, k < 17 → (k = 0 ∨ 10 ≤ k) → gX G (gA G (20 + k)) ∧ σ.1 (gA G (20 + k)) = some (.inl (2, (txt k).length, .inl (chF (txt k))))) ∧
  (gX G (gA G 41) ∧ σ.1 (gA G 41) = some (.inl (5, 0, .inr (.inr (.inr (.inr fun _ => none)))))) ∧
  (gX G (gA G 42) ∧ σ.1 (gA G 42) = some (.inl (9, 256, .inr (.inr (.inr (.inr fun i => some (gA G (100 + i)))))))) ∧
  (gX G (gA G 43) ∧ σ.1 (gA G 43) = some (.inl (2, 100, .inl fun i => Int32.ofNat (48 + i % 10)))) ∧
  (∀ i, i < 128 → gX G (gA G (228 + i)) ∧ σ.1 (gA G (228 + i)) = some (.inr (25, [.int (Int32.ofNat i)])))
/-- the heap as it always is: no cell beyond its end, views, constants -/
def SI (G : gE) (σ : hSt) : Prop := (∀ a e, σ.1 a = some e → a < σ.2.1) ∧ (∀ a ci fs, σ.1 a = some (.inr (ci, fs)) → (ci = 12 ∨ ci = 13) → vwC σ.1 a fs) ∧ cstP G σ
/-- room left -/
def bd (G : gE) (σ : hSt) (n : Nat) : Prop := σ.2.1 + n ≤ gL G ∧ σ.2.2 + n ≤ gU G
theorem bd.mono {G : gE} {σ : hSt} {n m : Nat} (h : bd G σ n) (hm : m ≤ n) : bd G σ m := ⟨by have := h.1; omega, by have := h.2; omega⟩
/-- a cell's kind: the class's number, for an array 100 and its type's -/
def kd (e : hE) : Nat := match e with
  | .inl x => 100 + x.1
  | .inr x => x.1
theorem simE_kd {e e' : hE} (h : simE e e') : kd e' = kd e := by
  obtain x | ⟨ci, fs⟩ := e
  · cases h; rfl
  · obtain ⟨fs', rfl, -, -⟩ := h; rfl
/-- τ comes after σ: but for W (an address, a kind), the cells are what they were; c of the room is used -/
def ev (G : gE) (W : Nat → Nat → Prop) (c : Nat) (σ τ : hSt) : Prop := SI G σ ∧ SI G τ ∧ σ.2.1 ≤ τ.2.1 ∧ (∀ a e, σ.1 a = some e → ∃ e', τ.1 a = some e' ∧ kd e' = kd e ∧ (¬ W a (kd e) → simE e e')) ∧ ∀ n, bd G σ (n + c) → bd G τ n
abbrev W0 : Nat → Nat → Prop := fun _ _ => False
abbrev W1 (a k0 : Nat) : Nat → Nat → Prop := fun b k => b = a ∧ k = k0
section EV
variable {G : gE} {W W' : Nat → Nat → Prop} {c c' : Nat} {σ τ υ : hSt}
theorem SI.lt (h : SI G σ) {a : Nat} {e : hE} (ha : σ.1 a = some e) : a < σ.2.1 := h.1 a e ha
theorem ev.refl (h : SI G σ) : ev G W 0 σ σ := ⟨h, h, Nat.le_refl _, fun a e ha => ⟨e, ha, rfl, fun _ => simE_refl e⟩, fun n hn => hn⟩
theorem ev.s (h : ev G W c σ τ) : SI G σ := h.1
theorem ev.t (h : ev G W c σ τ) : SI G τ := h.2.1
theorem ev.le (h : ev G W c σ τ) : σ.2.1 ≤ τ.2.1 := h.2.2.1
theorem ev.rm (h : ev G W c σ τ) {n m : Nat} (hb : bd G σ n) (hn : m + c ≤ n) : bd G τ m := h.2.2.2.2 _ (hb.mono hn)
theorem ev.trans (h : ev G W c σ τ) (h' : ev G W' c' τ υ) (hW : ∀ a k, a < σ.2.1 → W' a k → W a k) : ev G W (c + c') σ υ := by
  refine ⟨h.s, h'.t, Nat.le_trans h.le h'.le, fun a e ha => ?_, fun n hn => ?_⟩
  · obtain ⟨e1, h1, k1, h2⟩ := h.2.2.2.1 a e ha
    obtain ⟨e2, h3, k2, h4⟩ := h'.2.2.2.1 a e1 h1
    exact ⟨e2, h3, k2.trans k1, fun hn => simE_trans (h2 hn) (h4 fun w => hn (hW a _ (h.s.lt ha) (by rw [← k1]; exact w)))⟩
  · exact h'.2.2.2.2 _ (h.2.2.2.2 _ (by rw [Nat.add_assoc, Nat.add_comm c' c]; exact hn))
theorem ev.mono (h : ev G W c σ τ) (hW : ∀ a k, a < σ.2.1 → W a k → W' a k) (hc : c ≤ c') : ev G W' c' σ τ :=
  ⟨h.1, h.2.1, h.2.2.1, fun a e ha => by
    obtain ⟨e1, h1, k1, h2⟩ := h.2.2.2.1 a e ha
    exact ⟨e1, h1, k1, fun hn => h2 fun w => hn (hW a _ (h.s.lt ha) w)⟩, fun n hn => h.2.2.2.2 _ (hn.mono (by omega))⟩
theorem ev.le' (h : ev G W c σ τ) (hc : c ≤ c') : ev G W c' σ τ := h.mono (fun _ _ _ w => w) hc
/-- one after the other, the same W -/
theorem ev.tr (h : ev G W c σ τ) (h' : ev G W c' τ υ) : ev G W (c + c') σ υ := h.trans h' fun _ _ _ w => w
theorem ev.k (h : ev G W c σ τ) {a : Nat} {e : hE} (ha : σ.1 a = some e) : ∃ e', τ.1 a = some e' ∧ kd e' = kd e := by
  obtain ⟨e1, h1, k1, -⟩ := h.2.2.2.1 a e ha
  exact ⟨e1, h1, k1⟩
theorem ev.o (h : ev G W c σ τ) {a ci : Nat} {fs : List Value} (ha : σ.1 a = some (.inr (ci, fs))) (hW : ¬ W a ci) (h1 : ci ≠ 12) (h2 : ci ≠ 13) : τ.1 a = some (.inr (ci, fs)) := by
  obtain ⟨e', h3, -, h4⟩ := h.2.2.2.1 a _ ha
  rw [h3, simE_eq (h4 hW) h1 h2]
theorem ev.a (h : ev G W c σ τ) {a : Nat} {ti : Nat} {x : vp_A} (ha : σ.1 a = some (.inl (ti, x))) (hW : ¬ W a (100 + ti)) : τ.1 a = some (.inl (ti, x)) := by
  obtain ⟨e', h3, -, h4⟩ := h.2.2.2.1 a _ ha
  have h5 := h4 hW
  cases h5
  exact h3
theorem ev.m (h : ev G W c σ τ) {a ci : Nat} {k0 k1 k3 : Value} {t : Option Nat} {sz md th : Int32} {Y : List Value} (ha : σ.1 a = some (.inr (ci, mFl8 k0 k1 k3 t sz md th Y))) (hW : ¬ W a ci) : ∃ k0' k1' k3', τ.1 a = some (.inr (ci, mFl8 k0' k1' k3' t sz md th Y)) := by
  obtain ⟨e', h3, -, h4⟩ := h.2.2.2.1 a _ ha
  obtain ⟨k0', k1', k3', rfl⟩ := simE_map (h4 hW)
  exact ⟨k0', k1', k3', h3⟩
-- ===== constants =====
theorem cst_keep (h : cstP G σ) (hk : ∀ a e, gX G a → σ.1 a = some e → (∀ ci fs, e = .inr (ci, fs) → ci = 17 ∨ ci = 25) → τ.1 a = some e) : cstP G τ := by
  obtain ⟨h1, h2, ⟨h3x, h3⟩, ⟨h4x, h4⟩, ⟨h5x, h5⟩, h6⟩ := h
  refine ⟨fun k hk1 => ?_, fun k hk1 hk2 => ?_, ⟨h3x, ?_⟩, ⟨h4x, ?_⟩, ⟨h5x, ?_⟩, fun i hi => ?_⟩
  · obtain ⟨q1, hz, q2⟩ := h1 k hk1
    exact ⟨q1, hz, hk _ _ q1 q2 fun ci fs e => by cases e; exact Or.inl rfl⟩
  · obtain ⟨q1, q2⟩ := h2 k hk1 hk2
    exact ⟨q1, hk _ _ q1 q2 fun ci fs e => nomatch e⟩
  · exact hk _ _ h3x h3 fun ci fs e => nomatch e
  · exact hk _ _ h4x h4 fun ci fs e => nomatch e
  · exact hk _ _ h5x h5 fun ci fs e => nomatch e
  · obtain ⟨q1, q2⟩ := h6 i hi
    exact ⟨q1, hk _ _ q1 q2 fun ci fs e => by cases e; exact Or.inr rfl⟩
-- ===== steps: reads =====
theorem gI {K : Int32 → Prop} {a ci : Nat} {fs : List Value} {L : List Nat} {k : Nat} {x : Int32} (h : σ.1 a = some (.inr (ci, fs))) (hL : ci ∈ L) (hk : fs[k]? = some (.int x)) (hK : K x) : gtI σ (some a) L k K := ⟨a, ci, fs, x, rfl, h, hL, hk, hK⟩
theorem gR {K : Option Nat → Prop} {a ci : Nat} {fs : List Value} {L : List Nat} {k : Nat} {r : Option Nat} (h : σ.1 a = some (.inr (ci, fs))) (hL : ci ∈ L) (hk : fs[k]? = some (va_rf r)) (hK : K r) : gtR σ (some a) L k K := ⟨a, ci, fs, r, rfl, h, hL, hk, hK⟩
theorem gFl {K : UInt32 → Prop} {a ci : Nat} {fs : List Value} {L : List Nat} {k : Nat} {x : UInt32} (h : σ.1 a = some (.inr (ci, fs))) (hL : ci ∈ L) (hk : fs[k]? = some (.float x)) (hK : K x) : gtF σ (some a) L k K := ⟨a, ci, fs, x, rfl, h, hL, hk, hK⟩
theorem aR {K : Option Nat → Prop} {a ti n : Nat} {f : Nat → Option Nat} {i : Nat} (h : σ.1 a = some (.inl (ti, n, .inr (.inr (.inr (.inr f)))))) (hL : ti ∈ arL) (hn : n < 2147483648) (hi : i < n) (hK : K (f i)) : alR σ (some a) arL (Int32.ofNat i) K := ⟨a, ti, n, f, rfl, h, hL, i_in (by omega) hi, by rw [i_nat (by omega)]; exact hK⟩
theorem aI {K : Int32 → Prop} {a ti n : Nat} {f : Nat → Int32} {i : Nat} (h : σ.1 a = some (.inl (ti, n, .inl f))) (hn : n < 2147483648) (hi : i < n) (hK : K (f i)) : alI σ (some a) ti (Int32.ofNat i) K := ⟨a, n, f, rfl, h, i_in (by omega) hi, by rw [i_nat (by omega)]; exact hK⟩
theorem aL {K : Int32 → Prop} {a ti n : Nat} {x : (Nat → Int32) ⊕ (Nat → Int64) ⊕ (Nat → UInt32) ⊕ (Nat → UInt64) ⊕ (Nat → Option Nat)} (h : σ.1 a = some (.inl (ti, n, x))) (hK : K (Int32.ofNat n)) : aln σ (some a) K := ⟨a, ti, n, x, rfl, h, hK⟩
theorem rco {a ci : Nat} {fs : List Value} (h : σ.1 a = some (.inr (ci, fs))) : rcv σ (some a) ci := ⟨a, fs, rfl, h⟩
theorem cO {a ci : Nat} {fs : List Value} {L : List Nat} (h : σ.1 a = some (.inr (ci, fs))) (hL : ci ∈ L) : ckO σ (some a) L := Or.inr ⟨a, ci, fs, rfl, h, hL⟩
theorem iOy {K : Int32 → Prop} {a ci : Nat} {fs : List Value} {Ly Ln : List Nat} (h : σ.1 a = some (.inr (ci, fs))) (hL : ci ∈ Ly) (hK : K 1) : ioO σ (some a) Ly Ln K := Or.inr ⟨a, ci, fs, rfl, h, Or.inl ⟨hL, hK⟩⟩
theorem iOn {K : Int32 → Prop} {a ci : Nat} {fs : List Value} {Ly Ln : List Nat} (h : σ.1 a = some (.inr (ci, fs))) (hL : ci ∈ Ln) (hK : K 0) : ioO σ (some a) Ly Ln K := Or.inr ⟨a, ci, fs, rfl, h, Or.inr ⟨hL, hK⟩⟩
-- ===== steps: writes =====
/-- one cell is now e; all others are what they were -/
def wr (σ τ : hSt) (a : Nat) (e : hE) : Prop := τ.1 a = some e ∧ (∀ b, b ≠ a → τ.1 b = σ.1 b) ∧ τ.2 = σ.2
theorem wr.o {a b : Nat} {e : hE} (h : wr σ τ a e) (hb : b ≠ a) : τ.1 b = σ.1 b := h.2.1 b hb
theorem wr_set {a : Nat} {e : hE} : wr σ (hset σ a e) a e := ⟨hup_s, fun b hb => hup_n hb, rfl⟩
/-- a cell that no view is, no constant -/
theorem wr_ev {a : Nat} {e0 e : hE} (hS : SI G σ) (h0 : σ.1 a = some e0) (h : wr σ τ a e) (hkd : kd e = kd e0) (hvk : ∀ ci fs, e0 = .inr (ci, fs) → ci ≠ 18 ∧ ci ≠ 22 ∧ ci ≠ 24 ∧ (ci = 17 ∨ ci = 25 → ¬ gX G a)) (ha : ∀ x, e0 = .inl x → ¬ gX G a) (hm : ∀ ci fs, e = .inr (ci, fs) → (ci = 12 ∨ ci = 13) → vwC σ.1 a fs) : ev G (W1 a (kd e0)) 0 σ τ := by
  have hlt : ∀ b e, τ.1 b = some e → b < τ.2.1 := by
    intro b e1 hb
    rw [h.2.2]
    by_cases q : b = a
    · rw [q]; exact hS.lt h0
    · exact hS.lt (by rw [← h.o q]; exact hb)
  have hvw : ∀ v i fs, (i = 22 ∨ i = 18 ∨ i = 24) → σ.1 v = some (.inr (i, fs)) → τ.1 v = some (.inr (i, fs)) := by
    intro v i fs hi hv1
    have : v ≠ a := by
      rintro rfl
      have := hvk i fs (Option.some.inj (h0.symm.trans hv1))
      omega
    rw [h.o this]; exact hv1
  have hvc : ∀ b fs, vwC σ.1 b fs → vwC τ.1 b fs := by
    rintro b fs ⟨q1, q2, q3⟩
    refine ⟨q1.imp id ?_, q2.imp id ?_, q3.imp id ?_⟩
    · rintro ⟨v, w1, w2⟩; exact ⟨v, w1, hvw _ _ _ (Or.inl rfl) w2⟩
    · rintro ⟨v, w1, w2⟩; exact ⟨v, w1, hvw _ _ _ (Or.inr (Or.inl rfl)) w2⟩
    · rintro ⟨v, w1, w2⟩; exact ⟨v, w1, hvw _ _ _ (Or.inr (Or.inr rfl)) w2⟩
  refine ⟨hS, ⟨hlt, fun b ci fs hb hc => ?_, ?_⟩, by rw [h.2.2]; exact Nat.le_refl _, fun b e1 hb => ?_, fun n hn => ?_⟩
  · by_cases q : b = a
    · subst q
      exact hvc _ _ (hm ci fs (Option.some.inj (h.1.symm.trans hb)) hc)
    · exact hvc _ _ (hS.2.1 b ci fs (by rw [← h.o q]; exact hb) hc)
  · refine cst_keep hS.2.2 fun b e1 hx hb hk => ?_
    have : b ≠ a := by
      rintro rfl
      have e9 := Option.some.inj (h0.symm.trans hb)
      obtain x | ⟨ci, fs⟩ := e0
      · exact ha x rfl hx
      · have := hk ci fs e9.symm
        exact (hvk ci fs rfl).2.2.2 this hx
    rw [h.o this]; exact hb
  · by_cases q : b = a
    · subst q
      cases h0.symm.trans hb
      exact ⟨e, h.1, hkd, fun w => absurd ⟨rfl, rfl⟩ w⟩
    · exact ⟨e1, by rw [h.o q]; exact hb, rfl, fun _ => simE_refl _⟩
  · unfold bd; rw [h.2.2]; exact hn
/-- a plain object's field -/
theorem pO {K : hSt → Prop} {a ci : Nat} {fs : List Value} {L : List Nat} {k : Nat} {v : Value} (hS : SI G σ) (h : σ.1 a = some (.inr (ci, fs))) (hL : ci ∈ L) (hk : k < fs.length) (hc : ci ∉ [12, 13, 17, 18, 22, 24, 25]) (hK : ∀ τ, wr σ τ a (.inr (ci, fs.set k v)) → ev G (W1 a ci) 0 σ τ → K τ) : ptV G σ (some a) L k v K := by
  simp only [List.mem_cons, List.not_mem_nil, or_false, not_or] at hc
  refine ⟨a, ci, fs, rfl, h, hL, hk, fun q => by omega, hK _ wr_set (wr_ev hS h wr_set rfl (fun ci1 fs1 e1 => ?_) (fun x e1 => nomatch e1) fun ci1 fs1 e1 hc1 => ?_)⟩
  · cases e1; exact ⟨by omega, by omega, by omega, fun q => by omega⟩
  · cases e1; omega
/-- a new String's field -/
theorem pO17 {K : hSt → Prop} {a : Nat} {fs : List Value} {k : Nat} {v : Value} (hS : SI G σ) (h : σ.1 a = some (.inr (17, fs))) (hk : k < fs.length) (hX : ¬ gX G a) (hK : ∀ τ, wr σ τ a (.inr (17, fs.set k v)) → ev G (W1 a 17) 0 σ τ → K τ) : ptV G σ (some a) [17] k v K := by
  refine ⟨a, 17, fs, rfl, h, List.mem_singleton.mpr rfl, hk, fun _ => hX, hK _ wr_set (wr_ev hS h wr_set rfl (fun ci1 fs1 e1 => ?_) (fun x e1 => nomatch e1) fun ci1 fs1 e1 hc1 => ?_)⟩
  · cases e1; exact ⟨by omega, by omega, by omega, fun _ => hX⟩
  · cases e1; omega
/-- a map's field -/
theorem pM {K : hSt → Prop} {a ci : Nat} {fs : List Value} {L : List Nat} {k : Nat} {v : Value} (hS : SI G σ) (h : σ.1 a = some (.inr (ci, fs))) (hL : ci ∈ L) (hk : k < fs.length) (hc : ci = 12 ∨ ci = 13) (h0 : k ≠ 0) (h1 : k ≠ 1) (h3 : k ≠ 3) (hK : ∀ τ, wr σ τ a (.inr (ci, fs.set k v)) → ev G (W1 a ci) 0 σ τ → K τ) : ptV G σ (some a) L k v K := by
  refine ⟨a, ci, fs, rfl, h, hL, hk, fun q => by omega, hK _ wr_set (wr_ev hS h wr_set rfl (fun ci1 fs1 e1 => ?_) (fun x e1 => nomatch e1) fun ci1 fs1 e1 hc1 => ?_)⟩
  · cases e1; exact ⟨by omega, by omega, by omega, fun q => by omega⟩
  · cases e1
    have := hS.2.1 a ci fs h hc
    unfold vwC at this ⊢
    rw [List.getElem?_set_ne h0, List.getElem?_set_ne h1, List.getElem?_set_ne h3]
    exact this
/-- an array's place -/
theorem sR {K : hSt → Prop} {a ti n : Nat} {f : Nat → Option Nat} {L : List Nat} {i : Nat} {y : Option Nat} (hS : SI G σ) (h : σ.1 a = some (.inl (ti, n, .inr (.inr (.inr (.inr f)))))) (hL : (ti, L) ∈ asLT) (hX : ¬ gX G a) (hn : n < 2147483648) (hi : i < n) (hy : elOk σ L y) (hK : ∀ τ, wr σ τ a (.inl (ti, n, .inr (.inr (.inr (.inr (fun j => if j = i then y else f j)))))) → ev G (W1 a (100 + ti)) 0 σ τ → K τ) : asR G σ (some a) asLT (Int32.ofNat i) y K := by
  refine ⟨a, ti, L, n, f, rfl, h, hL, hX, i_in (by omega) hi, hy, ?_⟩
  have e : va_up f (Int32.ofNat i).toNatClampNeg y = fun j => if j = i then y else f j := by
    rw [i_nat (by omega)]
    funext j
    simp [va_up]
  rw [e]
  exact hK _ wr_set (wr_ev hS h wr_set rfl (fun ci1 fs1 e1 => nomatch e1) (fun x _ => hX) fun ci1 fs1 e1 => nomatch e1)
theorem sI {K : hSt → Prop} {a ti n : Nat} {f : Nat → Int32} {ty : FieldType} {i : Nat} {x : Int32} (hS : SI G σ) (h : σ.1 a = some (.inl (ti, n, .inl f))) (hX : ¬ gX G a) (hn : n < 2147483648) (hi : i < n) (hK : ∀ τ, wr σ τ a (.inl (ti, n, .inl (upd f i (vp_nar ty x)))) → ev G (W1 a (100 + ti)) 0 σ τ → K τ) : asI G σ (some a) ti ty (Int32.ofNat i) x K := by
  refine ⟨a, n, f, rfl, h, hX, i_in (by omega) hi, ?_⟩
  rw [i_nat (by omega)]
  exact hK _ wr_set (wr_ev hS h wr_set rfl (fun ci1 fs1 e1 => nomatch e1) (fun x _ => hX) fun ci1 fs1 e1 => nomatch e1)
-- ===== steps: what is new =====
/-- a cell made at the heap's end -/
def nw (σ τ : hSt) (a : Nat) (e : hE) : Prop := a = σ.2.1 ∧ τ.1 a = some e ∧ (∀ b, b ≠ a → τ.1 b = σ.1 b) ∧ σ.1 a = none
theorem nw.o {a b : Nat} {e e' : hE} (h : nw σ τ a e) (hb : σ.1 b = some e') : τ.1 b = some e' := by
  rw [h.2.2.1 b (by rintro rfl; rw [h.2.2.2] at hb; exact nomatch hb)]; exact hb
theorem nw.ne {a b : Nat} {e e' : hE} (h : nw σ τ a e) (hb : σ.1 b = some e') : b ≠ a := by
  rintro rfl; rw [h.2.2.2] at hb; exact nomatch hb
theorem nw_ev {e : hE} {N : Nat} (hS : SI G σ) (hf : σ.1 σ.2.1 = none) (hm : ∀ ci fs, e = .inr (ci, fs) → (ci = 12 ∨ ci = 13) → fs[0]? = some .null ∧ fs[1]? = some .null ∧ fs[3]? = some .null) : ev G W0 (1 + N) σ (hnew σ e N) := by
  have ho : ∀ b e', σ.1 b = some e' → (hnew σ e N).1 b = some e' := fun b e' hb => by
    show hup σ.1 σ.2.1 e b = _
    rw [hup_n (by rintro rfl; rw [hf] at hb; exact nomatch hb)]; exact hb
  have hvc : ∀ b fs, vwC σ.1 b fs → vwC (hnew σ e N).1 b fs := by
    rintro b fs ⟨q1, q2, q3⟩
    refine ⟨q1.imp id ?_, q2.imp id ?_, q3.imp id ?_⟩
    · rintro ⟨v, w1, w2⟩; exact ⟨v, w1, ho _ _ w2⟩
    · rintro ⟨v, w1, w2⟩; exact ⟨v, w1, ho _ _ w2⟩
    · rintro ⟨v, w1, w2⟩; exact ⟨v, w1, ho _ _ w2⟩
  refine ⟨hS, ⟨fun b e' hb => ?_, fun b ci fs hb hc => ?_, cst_keep hS.2.2 fun b e1 _ hb _ => ho b e1 hb⟩, Nat.le_succ _, fun b e' hb => ⟨e', ho b e' hb, rfl, fun _ => simE_refl _⟩, fun n hn => ?_⟩
  · show b < σ.2.1 + 1
    by_cases q : b = σ.2.1
    · omega
    · have : (hnew σ e N).1 b = σ.1 b := hup_n q
      rw [this] at hb
      have := hS.lt hb
      omega
  · by_cases q : b = σ.2.1
    · subst q
      have e9 : (hnew σ e N).1 σ.2.1 = some e := hup_s
      obtain ⟨q0, q1, q3⟩ := hm ci fs (Option.some.inj (e9.symm.trans hb)) hc
      exact ⟨Or.inl q0, Or.inl q1, Or.inl q3⟩
    · have : (hnew σ e N).1 b = σ.1 b := hup_n q
      rw [this] at hb
      exact hvc _ _ (hS.2.1 b ci fs hb hc)
  · obtain ⟨h1, h2⟩ := hn
    refine ⟨?_, ?_⟩
    · show σ.2.1 + 1 + n ≤ _; omega
    · show σ.2.2 + N + n ≤ _; omega
theorem nw_new {e : hE} {N : Nat} (hf : σ.1 σ.2.1 = none) : nw σ (hnew σ e N) σ.2.1 e := ⟨rfl, hup_s, fun b hb => hup_n hb, hf⟩
/-- a new object -/
theorem nO {K : Nat → hSt → Prop} {ci N : Nat} {fs : List Value} (hS : SI G σ) (hb : bd G σ (1 + N)) (hm : (ci = 12 ∨ ci = 13) → fs[0]? = some .null ∧ fs[1]? = some .null ∧ fs[3]? = some .null) (hK : ∀ a τ, nw σ τ a (.inr (ci, fs)) → ¬ gX G a → ev G W0 (1 + N) σ τ → K a τ) : nwO G σ ci N fs K :=
  ⟨by have := hb.1; omega, by have := hb.2; omega, fun hf hX => hK _ _ (nw_new hf) hX (nw_ev hS hf fun ci1 fs1 e1 => by cases e1; exact hm)⟩
theorem nA {K : Nat → hSt → Prop} {ti n : Nat} {x : (Nat → Int32) ⊕ (Nat → Int64) ⊕ (Nat → UInt32) ⊕ (Nat → UInt64) ⊕ (Nat → Option Nat)} (hS : SI G σ) (hn : n ≤ 67108864) (hb : bd G σ (1 + n)) (hK : ∀ a τ, nw σ τ a (.inl (ti, n, x)) → ¬ gX G a → ev G W0 (1 + n) σ τ → K a τ) : nwA G σ ti x (Int32.ofNat n) K := by
  have e : (Int32.ofNat n).toNatClampNeg = n := i_nat (by omega)
  refine ⟨i_nn (by omega), by rw [e]; exact hn, by have := hb.1; omega, by rw [e]; have := hb.2; omega, fun hf hX => ?_⟩
  rw [e]
  exact hK _ _ (nw_new hf) hX (nw_ev hS hf fun ci1 fs1 e1 => nomatch e1)
/-- an exception made -/
theorem nE {K : Nat → hSt → Prop} {ci : Nat} (hS : SI G σ) (hb : bd G σ 7) (hc : ci ≠ 12 ∧ ci ≠ 13) (hK : ∀ a τ, nw σ τ a (.inr (ci, [])) → ev G W0 7 σ τ → K a τ) : mkE G σ ci K :=
  ⟨by have := hb.1; omega, by have := hb.2; omega, fun N hN hf _ => hK _ _ (nw_new hf) ((nw_ev hS hf fun ci1 fs1 e1 => by cases e1; omega).le' (by omega))⟩
/-- an exception of our own, its fields set -/
theorem eX {K : hSt → Prop} {a ci : Nat} {fs : List Value} (hS : SI G σ) (h : σ.1 a = some (.inr (ci, fs))) (hc : ci ∉ [12, 13, 17, 18, 22, 24, 25]) (h4 : fs[4]? = some .null) (hK : ∀ τ u v, wr σ τ a (.inr (ci, (((fs.set 0 (.ref a)).set 1 u).set 2 v).set 1 u)) → ev G (W1 a ci) 0 σ τ → K τ) : exI G σ (some a) ci K := by
  simp only [List.mem_cons, List.not_mem_nil, or_false, not_or] at hc
  refine ⟨a, fs, rfl, h, h4, fun u v => hK _ u v wr_set (wr_ev hS h wr_set rfl (fun ci1 fs1 e1 => ?_) (fun x e1 => nomatch e1) fun ci1 fs1 e1 hc1 => ?_)⟩
  · cases e1; exact ⟨by omega, by omega, by omega, fun q => by omega⟩
  · cases e1; omega
end EV
