/-! the parser's steps -/
set_option maxRecDepth 100000
/-- the parser b stands at the place i of the text T -/
def PS (z : hSt) (b s L : Nat) (T : List Nat) (i : Nat) : Prop := z.1 b = some (.inr (10, [va_rf (some s), va_rf (some L), .int (Int32.ofNat i)])) ∧ ST z s T ∧ i ≤ T.length
/-- a bad text in the heap, its place -/
def BT (z : hSt) (q i : Nat) : Prop := ∃ fs, z.1 q = some (.inr (11, fs)) ∧ fs.length = 7 ∧ fs[6]? = some (.int (Int32.ofNat i))
section PAR
variable {G : gE} {σ : hSt} {PX : Nat → Nat → hSt → Prop} {P : Int32 → hSt → Prop} {b s L i : Nat} {T : List Nat}
theorem PS.ev {W : Nat → Nat → Prop} {c : Nat} {τ : hSt} (h : PS σ b s L T i) (he : ev G W c σ τ) (h1 : ¬ W b 10) (h2 : ∀ x, ¬ W x 17 ∧ ¬ W x 102) : PS τ b s L T i := ⟨he.o h.1 h1 (by decide) (by decide), h.2.1.ev he h2, h.2.2⟩
theorem ST.c128 (h : ST σ s T) {i c : Nat} (hc : T[i]? = some c) : c < 128 ∧ T.length < 150 := by
  obtain ⟨arr, a, hz, f, -, -, q3, q4⟩ := h
  exact ⟨(q3 i c hc).2, q4⟩
theorem ST.l150 (h : ST σ s T) : T.length < 150 := by
  obtain ⟨arr, a, hz, f, -, -, q3, q4⟩ := h
  exact q4
theorem peek_k (h : PS σ b s L T i) (h0 : i = T.length → P 0 σ) (h1 : ∀ c, T[i]? = some c → P (Int32.ofNat c) σ) : wX11_peek G P PX (some b) σ := by
  obtain ⟨hc, hT, hi⟩ := h
  have hl := hT.l150
  unfold wX11_peek wX11_peekb0
  refine gI hc (by decide) rfl (gR hc (by decide) rfl ⟨hT.rc, st_len hT ?_⟩)
  rw [i_le (by omega) (by omega)]
  refine ⟨fun w => ⟨⟨rfl, rfl⟩, h0 (by omega)⟩, fun w => gR hc (by decide) rfl (gI hc (by decide) rfl ⟨hT.rc, ?_⟩)⟩
  have hg := List.getElem?_eq_getElem (show i < T.length by omega)
  exact st_char hT hg ⟨okN_c (by have := (hT.c128 hg).1; omega), h1 _ hg⟩
/-- a bad text thrown -/
theorem bad_k (hS : SI G σ) (h : PS σ b s L T i) (hb : bd G σ 8) (hX : ∀ τ q, ev G W0 8 σ τ → BT τ q i → PX 11 q τ) : nwO G σ 11 7 dfX12 (fun x11 z12 => gtI z12 (some b) [10] 2 (fun x13 => (nnl (some x11) ∧ wX12_init G (fun z14 => (rcv z14 (some x11) 11 ∧ ∀ q, (some x11) = some q → PX 11 q z14)) PX (some x11) x13 z12))) := by
  unfold wX12_init wX12_initb0
  refine nO hS hb (fun w => by omega) fun a τ n hXa e => gI (n.o h.1) (by decide) rfl ⟨⟨a, rfl⟩, eX e.t n.2.1 (by decide) rfl fun τ2 u v w2 e2 => pO e2.t w2.1 (by decide) (by simp) (by decide) fun τ3 w3 e3 => ⟨rco w3.1, fun q hq => ?_⟩⟩
  cases hq
  exact hX τ3 _ ((e.f1 (e2.tr e3) (by rw [n.1]; exact Nat.le_refl _)).le' (by omega)) ⟨_, w3.1, by simp, rfl⟩
theorem next_k {lo hi : Nat} (hS : SI G σ) (h : PS σ b s L T i) (hb : bd G σ 8) (h1 : 1 ≤ lo) (h2 : lo ≤ hi) (h3 : hi < 128)
    (hP : ∀ c τ, T[i]? = some c → lo ≤ c → c ≤ hi → ev G (W1 b 10) 0 σ τ → PS τ b s L T (i + 1) → P (Int32.ofNat (c - lo)) τ)
    (hX : (∀ c, T[i]? = some c → ¬ (lo ≤ c ∧ c ≤ hi)) → ∀ τ q, ev G W0 8 σ τ → BT τ q i → PX 11 q τ) : wX11_next G P PX (some b) (Int32.ofNat lo) (Int32.ofNat hi) σ := by
  have h' := h
  obtain ⟨hc, hT, hi'⟩ := h'
  have hl := hT.l150
  unfold wX11_next wX11_nextb0
  refine ⟨rco hc, peek_k h (fun he => isIn_k (fun w => ?_) fun w => ⟨fun u => absurd rfl u, fun _ => bad_k hS h hb (hX fun c hcc => ?_)⟩) fun c hcc => isIn_k (fun w => ⟨fun _ => ?_, fun u => absurd u n10⟩) fun w => ⟨fun u => absurd rfl u, fun _ => bad_k hS h hb (hX fun c' hcc' w2 => ?_)⟩⟩
  · exfalso
    rw [show (0 : Int32) = Int32.ofNat 0 from rfl, i_lt (by omega) (by omega)] at w
    omega
  · rw [List.getElem?_eq_none (by omega)] at hcc
    exact nomatch hcc
  · have hc128 := (hT.c128 hcc).1
    rw [i_lt (by omega) (by omega), i_lt (by omega) (by omega)] at w
    have hil := (List.getElem?_eq_some_iff.mp hcc).1
    refine gI hc (by decide) rfl (pO hS hc (by decide) (by simp) (by decide) fun τ w1 e1 => ?_)
    have hn : τ.1 b = some (.inr (10, [va_rf (some s), va_rf (some L), .int (Int32.ofNat (i + 1))])) := by
      rw [w1.1, i_succ]; rfl
    have hT2 : ST τ s T := hT.ev e1 fun x => ⟨fun w => by have := w.2; omega, fun w => by have := w.2; omega⟩
    refine gR hn (by decide) rfl (gI hn (by decide) rfl ⟨hT2.rc, ?_⟩)
    rw [show (1 : Int32) = Int32.ofNat 1 from rfl, i_sub (by omega), show i + 1 - 1 = i by omega]
    refine st_char hT2 hcc ?_
    rw [i_sub (by omega)]
    exact hP c τ hcc (by omega) (by omega) e1 ⟨hn, hT2, by omega⟩
  · rw [hcc] at hcc'
    cases hcc'
    have hc128 := (hT.c128 hcc).1
    rw [i_lt (by omega) (by omega), i_lt (by omega) (by omega)] at w
    omega
theorem digit_k (hS : SI G σ) (h : PS σ b s L T i) (hb : bd G σ 8)
    (hP : ∀ c τ, T[i]? = some c → 48 ≤ c → c ≤ 57 → ev G (W1 b 10) 0 σ τ → PS τ b s L T (i + 1) → P (Int32.ofNat (c - 48)) τ)
    (hX : (∀ c, T[i]? = some c → ¬ (48 ≤ c ∧ c ≤ 57)) → ∀ τ q, ev G W0 8 σ τ → BT τ q i → PX 11 q τ) : wX11_digit G P PX (some b) σ := by
  unfold wX11_digit wX11_digitb0
  exact ⟨rco h.1, next_k (lo := 48) (hi := 57) hS h hb (by omega) (by omega) (by omega) hP hX⟩
end PAR
