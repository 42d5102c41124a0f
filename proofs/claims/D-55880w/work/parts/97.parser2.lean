/-! the parser: a letter of a list, a name, a figure behind a mark -/
set_option maxRecDepth 100000
section PA2
variable {G : gE} {σ : hSt} {PX : Nat → Nat → hSt → Prop} {P : Int32 → hSt → Prop} {b s L i : Nat} {T : List Nat}
/-- a figure stands there -/
def fgA (T : List Nat) (i d : Nat) : Prop := T[i]? = some (48 + d) ∧ d < 10
def fgN (T : List Nat) (i : Nat) : Prop := ∀ d, ¬ fgA T i d
theorem digit_f (hS : SI G σ) (h : PS σ b s L T i) (hb : bd G σ 8)
    (hP : ∀ d τ, fgA T i d → ev G (W1 b 10) 0 σ τ → PS τ b s L T (i + 1) → P (Int32.ofNat d) τ)
    (hX : fgN T i → ∀ τ q, ev G W0 8 σ τ → BT τ q i → PX 11 q τ) : wX11_digit G P PX (some b) σ := by
  refine digit_k hS h hb (fun c τ h1 h2 h3 e hp => hP (c - 48) τ ⟨by rw [h1]; congr 1; omega, by omega⟩ e hp) fun hn => hX fun d hd => hn _ hd.1 ⟨by omega, by have := hd.2; omega⟩
theorem behind_f {m : Nat} (hS : SI G σ) (h : PS σ b s L T i) (hb : bd G σ 8) (h1 : 1 ≤ m) (h3 : m < 128)
    (hP : ∀ d τ, T[i]? = some m → fgA T (i + 1) d → ev G (W1 b 10) 0 σ τ → PS τ b s L T (i + 2) → P (Int32.ofNat d) τ)
    (hX : ∀ j τ q, (T[i]? ≠ some m ∧ j = i) ∨ (T[i]? = some m ∧ fgN T (i + 1) ∧ j = i + 1) → ev G (W1 b 10) 8 σ τ → BT τ q j → PX 11 q τ) : wX11_behind G P PX (some b) (Int32.ofNat m) σ := by
  unfold wX11_behind wX11_behindb0
  refine ⟨rco h.1, next_k (lo := m) (hi := m) hS h hb h1 (Nat.le_refl _) h3 (fun c τ hc h4 h5 e hp => ⟨rco hp.1, ?_⟩) fun hn τ q e => hX i τ q (Or.inl ⟨fun w => hn m w ⟨Nat.le_refl _, Nat.le_refl _⟩, rfl⟩) e.up0⟩
  have hcm : c = m := by omega
  subst hcm
  exact digit_f e.t hp (e.rm hb (by omega)) (fun d τ2 hd e2 hp2 => hP d τ2 hc hd ((e.tr e2).le' (by omega)) hp2) fun hn τ2 q e2 => hX (i + 1) τ2 q (Or.inr ⟨hc, hn, rfl⟩) ((e.tr e2.up0).le' (by omega))
/-- the letter there is the k-th of the list -/
def ltA (U T : List Nat) (i k : Nat) : Prop := ∃ c, T[i]? = some c ∧ U[k]? = some c ∧ ∀ j, j < k → U[j]? ≠ some c
def ltN (U T : List Nat) (i : Nat) : Prop := ∀ c, T[i]? = some c → ∀ j : Nat, U[j]? ≠ some c
theorem place_f {w : Nat} (hS : SI G σ) (h : PS σ b s L T i) (hb : bd G σ 8) (hw : w = 15 ∨ w = 16)
    (hP : ∀ k τ, ltA (txt w) T i k → ev G (W1 b 10) 0 σ τ → PS τ b s L T (i + 1) → P (Int32.ofNat k) τ)
    (hX : ltN (txt w) T i → ∀ τ q, ev G W0 8 σ τ → BT τ q i → PX 11 q τ) : wX11_place G P PX (some b) (some (gA G w)) σ := by
  obtain ⟨hc, hT, hi'⟩ := id h
  have hl := hT.l150
  have hU : ST σ (gA G w) (txt w) := ST_c hS (by omega) (by omega)
  have hU0 : txt w ≠ [] := by rcases hw with rfl | rfl <;> decide
  unfold wX11_place wX11_placeb0 wX11_placeb28
  refine gI hc (by decide) rfl (gR hc (by decide) rfl ⟨hT.rc, st_len hT ?_⟩)
  rw [i_le (by omega) (by omega)]
  refine ⟨fun u => ⟨fun v => absurd rfl v, fun _ => bad_k hS h hb (hX fun c hcc => ?_)⟩, fun u => ⟨rco hc, peek_k h (fun v => absurd v (by omega)) fun c hcc => ⟨hU.rc, st_idx hU hU0 (hT.c128 hcc).1 fun x hx => ?_⟩⟩⟩
  · rw [List.getElem?_eq_none (by omega)] at hcc
    exact nomatch hcc
  · rcases hx with ⟨k, k1, k2, rfl⟩ | ⟨k1, rfl⟩
    · have hk16 : k < 16 := by
        have := (List.getElem?_eq_some_iff.mp k1).1
        have : (txt w).length ≤ 16 := by rcases hw with rfl | rfl <;> decide
        omega
      refine ⟨fun _ => gI hc (by decide) rfl (pO hS hc (by decide) (by simp) (by decide) fun τ w1 e1 => hP k τ ⟨c, hcc, k1, k2⟩ e1 ⟨by rw [w1.1, i_succ]; rfl, hT.ev e1 fun x => ⟨fun w => by have := w.2; omega, fun w => by have := w.2; omega⟩, by omega⟩), fun v => ?_⟩
      exfalso
      have : Int32.ofNat k = -1 := v
      have h2 := congrArg Int32.toInt this
      rw [i_toInt (by omega)] at h2
      have h3 : (-1 : Int32).toInt = -1 := rfl
      omega
    · exact ⟨fun v => absurd rfl v, fun _ => bad_k hS h hb (hX fun c' hcc' j => by rw [hcc] at hcc'; cases hcc'; exact k1 j)⟩
/-- a name stands there -/
def nmA (T : List Nat) (i k t : Nat) : Prop := ltA (txt 15) T i k ∧ fgA T (i + 1) t
def nmB (T : List Nat) (i j : Nat) : Prop := (ltN (txt 15) T i ∧ j = i) ∨ ((∃ k, ltA (txt 15) T i k) ∧ fgN T (i + 1) ∧ j = i + 1)
theorem name_f {P : Option Nat → hSt → Prop} (hS : SI G σ) (h : PS σ b s L T i) (hb : bd G σ 11)
    (hP : ∀ k t τ nm, k < 4 → nmA T i k t → ev G (W1 b 10) 3 σ τ → PS τ b s L T (i + 2) → KY τ 5 nm (10 * k + t) → P (some nm) τ)
    (hX : ∀ j τ q, nmB T i j → ev G (W1 b 10) 11 σ τ → BT τ q j → PX 11 q τ) : wX11_name G P PX (some b) σ := by
  unfold wX11_name wX11_nameb0
  refine ⟨rco h.1, place_f hS h (hb.mono (by omega)) (Or.inl rfl) (fun k τ hk e hp => ?_) fun hn τ q e => hX i τ q (Or.inl ⟨hn, rfl⟩) (e.up0.le' (by omega))⟩
  have hk4 : k < 4 := by
    obtain ⟨c, -, h2, -⟩ := hk
    exact (List.getElem?_eq_some_iff.mp h2).1
  refine nO e.t (e.rm hb (by omega)) (fun w => by omega) fun a τ1 n hXa e1 => ?_
  have hp1 := hp.ev e1 (fun w => w) fun x => ⟨fun w => w, fun w => w⟩
  have e01 : ev G (W1 b 10) 3 σ τ1 := (e.tr e1.up0).le' (by omega)
  refine ⟨rco hp1.1, digit_f e1.t hp1 (e01.rm hb (by omega)) (fun t τ2 ht e2 hp2 => ⟨⟨a, rfl⟩, ?_⟩) fun hn τ2 q e2 => hX (i + 1) τ2 q (Or.inr ⟨⟨k, hk⟩, hn, rfl⟩) ((e01.tr e2.up0).le' (by omega))⟩
  have hane : a ≠ b := fun w => by
    have := hp1.1
    rw [← w, n.2.1] at this
    injection this with v; injection v with v; injection v with v1 v2
    omega
  refine name_k e2.t hk4 ht.2 (e2.o n.2.1 (fun w => by have := w.2; omega) (by decide) (by decide)) fun τ3 e3 hky => ?_
  have haσ : σ.2.1 ≤ a := by rw [n.1]; exact e.le
  refine hP k t τ3 a hk4 ⟨hk, ht⟩ (((e01.tr e2).fr e3 fun x kk w => by rw [w.1]; exact haσ).le' (by omega)) (hp2.ev e3 (fun w => hane w.1.symm) fun x => ⟨fun w => by have := w.2; omega, fun w => by have := w.2; omega⟩) hky
end PA2
