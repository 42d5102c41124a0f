/-! lines of text: a name's, an excuse's -/
set_option maxRecDepth 100000
/-- b is a builder made since σ; it holds the letters T -/
def BL (G : gE) (σ : hSt) (c : Nat) (z : hSt) (b arr : Nat) (T : List Nat) : Prop := ev G W0 c σ z ∧ σ.2.1 ≤ b ∧ σ.2.1 ≤ arr ∧ SB G z b arr T
section TXT
variable {G : gE} {σ z : hSt} {PX : Nat → Nat → hSt → Prop} {P : Option Nat → hSt → Prop} {b arr c : Nat} {T : List Nat}
theorem BL.ev {c' : Nat} {z' : hSt} (h : BL G σ c z b arr T) (e : ev G W0 c' z z') : BL G σ (c + c') z' b arr T := ⟨h.1.tr e, h.2.1, h.2.2.1, h.2.2.2.ev e (fun w => w) fun w => w⟩
theorem bl_wb {c' : Nat} {z' : hSt} {arr' : Nat} {T' : List Nat} (h : BL G σ c z b arr T) (e : ev G (Wb b arr) c' z z') (ha : arr' = arr ∨ z.2.1 ≤ arr') (hs : SB G z' b arr' T') : BL G σ (c + c') z' b arr' T' := by
  refine ⟨h.1.fr e fun a k w => ?_, h.2.1, ?_, hs⟩
  · rcases w with w | w
    · rw [w.1]; exact h.2.1
    · rw [w.1]; exact h.2.2.1
  · rcases ha with rfl | ha
    · exact h.2.2.1
    · exact Nat.le_trans h.1.le ha
theorem bl_new {K : Nat → hSt → Prop} (h : ev G W0 c σ z) (hb : bd G σ (c + 40)) (hK : ∀ b arr z', BL G σ (c + 22) z' b arr [] → ev G W0 22 z z' → K b z') : nwO G z 16 4 dfJ9 (fun x1 z2 => (nnl (some x1) ∧ wJ9_init G (fun z3 => K x1 z3) PX (some x1) z2)) := by
  refine nO h.t (h.rm hb (by omega)) (fun w => by omega) fun a τ n hX e1 => ⟨⟨a, rfl⟩, sb_new e1.t n.2.1 rfl rfl ((h.tr e1).rm hb (by omega)) fun τ2 arr e2 ha hs => ?_⟩
  have hza : z.2.1 ≤ a := by rw [n.1]; exact Nat.le_refl _
  have e12 : ev G W0 22 z τ2 := (e1.f1 e2 hza).le' (by omega)
  exact hK a arr τ2 ⟨h.tr e12, Nat.le_trans h.le hza, Nat.le_trans (h.tr e1).le ha, hs⟩ e12
theorem bl_str {s : Nat} {U : List Nat} (h : BL G σ c z b arr T) (hs : ST z s U) (hT : T.length + U.length ≤ 70) (hU : U.length ≤ 17) (hb : bd G σ (c + 71)) (hP : ∀ z' arr', BL G σ (c + 71) z' b arr' (T ++ U) → P (some b) z') : rcv z (some b) 16 ∧ wJ9_append G P PX (some b) (some s) z :=
  ⟨h.2.2.2.rc, sb_str h.1.t h.2.2.2 hs hT hU (h.1.rm hb (by omega)) fun τ arr' e ha hs' => hP τ arr' (bl_wb h e ha hs')⟩
theorem bl_char {v : Nat} (h : BL G σ c z b arr T) (hT : T.length < 70) (hv : v < 128) (hb : bd G σ (c + 71)) (hP : ∀ z' arr', BL G σ (c + 71) z' b arr' (T ++ [v]) → P (some b) z') : rcv z (some b) 16 ∧ wJ9_append_3 G P PX (some b) (Int32.ofNat v) z :=
  ⟨h.2.2.2.rc, sb_char h.1.t h.2.2.2 hT hv (h.1.rm hb (by omega)) fun τ arr' e ha hs' => hP τ arr' (bl_wb h e ha hs')⟩
theorem bl_fig {v : Nat} (h : BL G σ c z b arr T) (hT : T.length < 70) (hv : v < 10) (hb : bd G σ (c + 71)) (hP : ∀ z' arr', BL G σ (c + 71) z' b arr' (T ++ [48 + v]) → P (some b) z') : rcv z (some b) 16 ∧ wJ9_append_2 G P PX (some b) (Int32.ofNat v) z :=
  ⟨h.2.2.2.rc, sb_fig h.1.t h.2.2.2 hT hv (h.1.rm hb (by omega)) fun τ arr' e ha hs' => hP τ arr' (bl_wb h e ha hs')⟩
theorem bl_string (h : BL G σ c z b arr T) (hb : bd G σ (c + 76)) (hP : ∀ z' s, ev G W0 (c + 76) σ z' → ev G W0 76 z z' → STq z' s (fun a => σ.2.1 ≤ a) T → P (some s) z') : rcv z (some b) 16 ∧ wJ9_toString G P PX (some b) z :=
  ⟨h.2.2.2.rc, sb_string h.1.t h.2.2.2 (h.1.rm hb (by omega)) fun τ s e _ hs => hP τ s (h.1.tr e) e (hs.mono fun a _ _ w => Nat.le_trans h.1.le w)⟩
theorem txt15 : ∀ k, k < 4 → (txt 15)[k]? = some (kCh k) := by decide
theorem kCh_lt (k : Nat) : kCh k < 128 := by
  unfold kCh
  by_cases h0 : k = 0
  · rw [if_pos h0]; omega
  · rw [if_neg h0]
    by_cases h1 : k = 1
    · rw [if_pos h1]; omega
    · rw [if_neg h1]
      by_cases h2 : k = 2
      · rw [if_pos h2]; omega
      · rw [if_neg h2]; omega
/-- a name told -/
theorem ntold_k {nm y : Nat} (hS : SI G σ) (hn : σ.1 nm = some (.inr (5, nmC y))) (hy : y < 40) (hb : bd G σ 400) (hP : ∀ τ s, ev G W0 400 σ τ → ST τ s [kCh (y / 10), 48 + y % 10] → P (some s) τ) : rcv σ (some nm) 5 ∧ wX6_told G P PX (some nm) σ := by
  unfold wX6_told wX6_toldb0
  refine ⟨rco hn, bl_new (ev.refl hS) (hb.mono (by omega)) fun b arr z1 h1 _ => bl_str h1 (ST_c h1.1.t (k := 0) (by omega) (by omega)) (by decide) (by decide) (hb.mono (by omega)) fun z2 arr2 h2 => ?_⟩
  have hn2 := h2.1.o hn (fun w => w) (by decide) (by decide)
  have hc := ST_c h2.1.t (k := 15) (by omega) (by omega)
  refine gI hn2 (by decide) rfl ⟨hc.rc, st_char hc (txt15 (y / 10) (by omega)) (bl_char h2 (by show (0 : Nat) < 70; omega) (kCh_lt _) (hb.mono (by omega)) fun z3 arr3 h3 => ?_)⟩
  have hn3 := h3.1.o hn (fun w => w) (by decide) (by decide)
  exact gI hn3 (by decide) rfl (bl_fig h3 (by show (1 : Nat) < 70; omega) (by omega) (hb.mono (by omega)) fun z4 arr4 h4 => bl_string h4 (hb.mono (by omega)) fun z5 s e5 _ hs => hP z5 s (e5.le' (by omega)) hs.st)
/-- an excuse's line -/
def lnT (y q w hd ow : Nat) (d : Int32) : List Nat := [kCh (y / 10), 48 + y % 10] ++ [42] ++ [48 + q] ++ [45] ++ [48 + w] ++ [62] ++ [48 + hd] ++ (if d = -1 then [] else [60] ++ [48 + ow])
theorem line_k {x nm y q w hd ow : Nat} {d : Int32} {v5 v6 : Value} (hS : SI G σ) (hx : σ.1 x = some (.inr (7, [va_rf (some nm), .int (Int32.ofNat q), .int (Int32.ofNat ow), .int (Int32.ofNat hd), .int (Int32.ofNat w), v5, v6, .int d]))) (hn : σ.1 nm = some (.inr (5, nmC y))) (hy : y < 40) (hq : q < 10) (hw : w < 10) (hh : hd < 10) (ho : ow < 10) (hb : bd G σ 1500) (hP : ∀ τ s, ev G W0 1400 σ τ → STq τ s (fun a => σ.2.1 ≤ a) (lnT y q w hd ow d) → P (some s) τ) : rcv σ (some x) 7 ∧ wX8_line G P PX (some x) σ := by
  have kx : ∀ {n : Nat} {τ : hSt}, ev G W0 n σ τ → τ.1 x = some (.inr (7, [va_rf (some nm), .int (Int32.ofNat q), .int (Int32.ofNat ow), .int (Int32.ofNat hd), .int (Int32.ofNat w), v5, v6, .int d])) := fun e => e.o hx (fun w => w) (by decide) (by decide)
  unfold wX8_line wX8_lineb0
  refine ⟨rco hx, bl_new (ev.refl hS) (hb.mono (by omega)) fun b arr z1 h1 _ => gR (kx h1.1) (by decide) rfl (ntold_k h1.1.t (h1.1.o hn (fun w => w) (by decide) (by decide)) hy (h1.1.rm hb (by omega)) fun z2 s e2 hs => ?_)⟩
  have h2 := h1.ev e2
  have ST' : ∀ {n k : Nat} {τ : hSt}, ev G W0 n σ τ → k < 17 → (k = 0 ∨ 10 ≤ k) → ST τ (gA G k) (txt k) := fun e h1 h2 => ST_c e.t h1 h2
  refine bl_str h2 hs (by show (0 + 2 : Nat) ≤ 70; omega) (by show (2 : Nat) ≤ 17; omega) (hb.mono (by omega)) fun z3 a3 h3 => bl_str h3 (ST' h3.1 (k := 11) (by omega) (by omega)) (by show (2 + 1 : Nat) ≤ 70; omega) (by decide) (hb.mono (by omega)) fun z4 a4 h4 => gI (kx h4.1) (by decide) rfl (bl_fig h4 (by show (3 : Nat) < 70; omega) hq (hb.mono (by omega)) fun z5 a5 h5 => bl_str h5 (ST' h5.1 (k := 12) (by omega) (by omega)) (by show (4 + 1 : Nat) ≤ 70; omega) (by decide) (hb.mono (by omega)) fun z6 a6 h6 => gI (kx h6.1) (by decide) rfl (bl_fig h6 (by show (5 : Nat) < 70; omega) hw (hb.mono (by omega)) fun z7 a7 h7 => bl_str h7 (ST' h7.1 (k := 13) (by omega) (by omega)) (by show (6 + 1 : Nat) ≤ 70; omega) (by decide) (hb.mono (by omega)) fun z8 a8 h8 => gI (kx h8.1) (by decide) rfl (bl_fig h8 (by show (7 : Nat) < 70; omega) hh (hb.mono (by omega)) fun z9 a9 h9 => ⟨rco (kx h9.1), ?_⟩)))
  unfold wX8_isLent wX8_isLentb0
  refine gI (kx h9.1) (by decide) rfl ⟨fun u => ⟨ok_b0, fun _ => ?_, fun v => absurd rfl v⟩, fun u => ⟨ok_b1, fun v => absurd v n10, fun _ => ?_⟩⟩
  · unfold wX8_lineb87
    refine bl_str h9 (ST' h9.1 (k := 0) (by omega) (by omega)) (by show (8 + 0 : Nat) ≤ 70; omega) (by decide) (hb.mono (by omega)) fun z10 a10 h10 => bl_string h10 (hb.mono (by omega)) fun z11 s' e11 _ hs' => hP z11 s' (e11.le' (by omega)) ?_
    unfold lnT
    rw [if_pos u]
    exact hs'
  · have hb9 : bd G z9 400 := h9.1.rm hb (by omega)
    refine bl_new (ev.refl h9.1.t) (hb9.mono (by omega)) fun b2 a10 z10 h10 _ => bl_str h10 (ST_c h10.1.t (k := 14) (by omega) (by omega)) (by decide) (by decide) (hb9.mono (by omega)) fun z11 a11 h11 => gI (kx (h9.1.tr h11.1)) (by decide) rfl (bl_fig h11 (by show (1 : Nat) < 70; omega) ho (hb9.mono (by omega)) fun z12 a12 h12 => bl_string h12 (hb9.mono (by omega)) fun z13 s2 e13 _ hs2 => ?_)
    have h13 := h9.ev e13
    unfold wX8_lineb87
    refine bl_str h13 hs2.st (by show (8 + 2 : Nat) ≤ 70; omega) (by show (2 : Nat) ≤ 17; omega) (hb.mono (by omega)) fun z14 a14 h14 => bl_string h14 (hb.mono (by omega)) fun z15 s' e15 _ hs' => hP z15 s' (e15.le' (by omega)) ?_
    unfold lnT
    rw [if_neg u]
    exact hs'
end TXT
