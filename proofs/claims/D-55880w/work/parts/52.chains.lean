/-! chains: what a write changes; a table's first making; the walk of a put -/
set_option maxRecDepth 100000
def mkd (k : Nat) : Prop := k = 12 ∨ k = 13 ∨ k = 26 ∨ k = 27 ∨ k = 106
abbrev Wm (D : Nat → Prop) : Nat → Nat → Prop := fun b k => D b ∧ mkd k
theorem Wm_k (D : Nat → Prop) : Wk (Wm D) := fun b => ⟨fun h => by have := h.2; unfold mkd at this; omega, fun h => by have := h.2; unfold mkd at this; omega, fun h => by have := h.2; unfold mkd at this; omega⟩
theorem W1_k {a ci : Nat} (h : ci ≠ 5 ∧ ci ≠ 9 ∧ ci ≠ 25) : Wk (W1 a ci) := fun b => ⟨fun w => h.1 w.2.symm, fun w => h.2.1 w.2.symm, fun w => h.2.2 w.2.symm⟩
theorem W0_k : Wk W0 := fun _ => ⟨fun w => w, fun w => w, fun w => w⟩
theorem ev.up {G : gE} {D : Nat → Prop} {c a ci : Nat} {σ τ : hSt} (h : ev G (W1 a ci) c σ τ) (hD : D a) (hk : mkd ci) : ev G (Wm D) c σ τ := h.mono (fun b k _ w => by obtain ⟨rfl, rfl⟩ := w; exact ⟨hD, hk⟩) (Nat.le_refl _)
theorem ev.up0 {G : gE} {W : Nat → Nat → Prop} {c : Nat} {σ τ : hSt} (h : ev G W0 c σ τ) : ev G W c σ τ := h.mono (fun _ _ _ w => w.elim) (Nat.le_refl _)
/-- a cell of a HashMap's node -/
def isN (σ : hSt) (a : Nat) : Prop := ∃ e, σ.1 a = some e ∧ kd e = 26
theorem isN.ev {G : gE} {W : Nat → Nat → Prop} {c a : Nat} {σ τ : hSt} (h : isN σ a) (he : ev G W c σ τ) : isN τ a := by
  obtain ⟨e, h1, h2⟩ := h
  obtain ⟨e', h3, h4⟩ := he.k h1
  exact ⟨e', h3, h4.trans h2⟩
theorem isN.rc {σ : hSt} {a : Nat} (h : isN σ a) : rcv σ (some a) 26 := by
  obtain ⟨e, h1, h2⟩ := h
  obtain x | ⟨ci, fs⟩ := e
  · have : 100 + x.1 = 26 := h2
    omega
  · have : ci = 26 := h2
    subst this
    exact rco h1
section CH
variable {G : gE} {σ τ : hSt} {kt : Nat} {e e' : Option Nat}
theorem nq_ka {a h1 h2 ka ka' : Nat} {v v' nx nx' : Option Nat} (h : nq σ a h1 ka v nx) (h' : nq σ a h2 ka' v' nx') : ka = ka' := by
  obtain ⟨ci, Y, -, q⟩ := h
  obtain ⟨ci', Y', -, q'⟩ := h'
  have := q.symm.trans q'
  simp only [Option.some.injEq, Sum.inr.injEq, Prod.mk.injEq, List.cons.injEq] at this
  have e1 := va_rf_inj this.2.2.1
  injection e1
theorem ce_in {l : List eT} {r : Option Nat} (h : ce σ kt e l r) {q : eT} (hq : q ∈ l) : KY σ kt q.2.2.1 q.2.1 ∧ ∃ nx, nq σ q.1 (hvk kt q.2.1) q.2.2.1 q.2.2.2 nx := by
  induction l generalizing r with
  | nil => exact nomatch hq
  | cons q0 t ih =>
    obtain ⟨-, h1, nx, h2, h3⟩ := h
    rcases List.mem_cons.mp hq with rfl | h9
    · exact ⟨h1, nx, h2⟩
    · exact ih h3 h9
theorem ce_x {l l' : List eT} {r r' : Option Nat} (h : ce σ kt e l r) (h' : ce σ kt e' l' r') {q q' : eT} (hq : q ∈ l) (hq' : q' ∈ l') (ha : q.1 = q'.1) : q.2.1 = q'.2.1 := by
  obtain ⟨k1, nx, n1⟩ := ce_in h hq
  obtain ⟨k2, nx', n2⟩ := ce_in h' hq'
  rw [ha] at n1
  rw [nq_ka n1 n2] at k1
  exact k1.inj k2
theorem ce_keep {l : List eT} {r : Option Nat} (hK : ∀ ka x, KY σ kt ka x → KY τ kt ka x) (hN : ∀ q ∈ l, ∀ h ka v nx, nq σ q.1 h ka v nx → nq τ q.1 h ka v nx) (h : ce σ kt e l r) : ce τ kt e l r := by
  induction l generalizing r with
  | nil => exact h
  | cons q0 t ih =>
    obtain ⟨h0, h1, nx, h2, h3⟩ := h
    exact ⟨h0, hK _ _ h1, nx, hN q0 List.mem_cons_self _ _ _ _ h2, ih (fun q hq => hN q (List.mem_cons_of_mem _ hq)) h3⟩
theorem ce_app {l1 l2 : List eT} {r : Option Nat} : ce σ kt e (l1 ++ l2) r ↔ ∃ m, ce σ kt m l1 r ∧ ce σ kt e l2 m := by
  induction l1 generalizing r with
  | nil => exact ⟨fun h => ⟨r, rfl, h⟩, fun ⟨m, h1, h2⟩ => by cases h1; exact h2⟩
  | cons q t ih =>
    constructor
    · rintro ⟨h0, h1, nx, h2, h3⟩
      obtain ⟨m, h4, h5⟩ := ih.mp h3
      exact ⟨m, ⟨h0, h1, nx, h2, h4⟩, h5⟩
    · rintro ⟨m, ⟨h0, h1, nx, h2, h4⟩, h5⟩
      exact ⟨h0, h1, nx, h2, ih.mpr ⟨m, h4, h5⟩⟩
/-- the last one's link is set anew -/
theorem ce_end {l : List eT} {p : eT} {r : Option Nat} (h : ce σ kt e (l ++ [p]) r) (hK : ∀ ka x, KY σ kt ka x → KY τ kt ka x) (hN : ∀ q ∈ l, ∀ h ka v nx, nq σ q.1 h ka v nx → nq τ q.1 h ka v nx) (hp : nq τ p.1 (hvk kt p.2.1) p.2.2.1 p.2.2.2 e') : ce τ kt e' (l ++ [p]) r := by
  obtain ⟨m, h1, h2⟩ := ce_app.mp h
  obtain ⟨h3, h4, -⟩ := h2
  exact ce_app.mpr ⟨m, ce_keep hK hN h1, h3, hK _ _ h4, e', hp, rfl⟩
theorem nd_inj {α β : Type} {f : α → β} {l : List α} (h : (l.map f).Nodup) {a b : α} (ha : a ∈ l) (hb : b ∈ l) (e : f a = f b) : a = b := by
  induction l with
  | nil => exact nomatch ha
  | cons x t ih =>
    rw [List.map_cons, List.nodup_cons] at h
    rcases List.mem_cons.mp ha with ha1 | ha1 <;> rcases List.mem_cons.mp hb with hb1 | hb1
    · rw [ha1, hb1]
    · rw [ha1] at e
      exact absurd (List.mem_map.mpr ⟨b, hb1, e.symm⟩) h.1
    · rw [hb1] at e
      exact absurd (List.mem_map.mpr ⟨a, ha1, e⟩) h.1
    · exact ih h.2 ha1 hb1
theorem nd_of {α β : Type} {f : α → β} {l : List α} (h : (l.map f).Nodup) : l.Nodup := by
  induction l with
  | nil => exact List.nodup_nil
  | cons x t ih =>
    rw [List.map_cons, List.nodup_cons] at h
    rw [List.nodup_cons]
    exact ⟨fun w => h.1 (List.mem_map.mpr ⟨x, w, rfl⟩), ih h.2⟩
theorem nq.wr {a b h ka : Nat} {v nx : Option Nat} {e1 : hE} (hn : nq σ b h ka v nx) (hw : wr σ τ a e1) (hb : b ≠ a) : nq τ b h ka v nx := by
  obtain ⟨ci, Y, hc, q⟩ := hn
  exact ⟨ci, Y, hc, by rw [hw.o hb]; exact q⟩
/-- a node's link written -/
theorem pN {K : hSt → Prop} {a h ka : Nat} {v nx r : Option Nat} (hS : SI G σ) (hn : nq σ a h ka v nx) (hK : ∀ τ ci, (ci = 26 ∨ ci = 27) → ev G (W1 a ci) 0 σ τ → nq τ a h ka v r → (∀ b, b ≠ a → τ.1 b = σ.1 b) → (∀ cj q0 q1 q2 q3 Y, σ.1 a = some (.inr (cj, q0 :: q1 :: q2 :: q3 :: Y)) → cj = ci ∧ τ.1 a = some (.inr (ci, q0 :: q1 :: q2 :: va_rf r :: Y))) → K τ) : ptV G σ (some a) [26, 27] 3 (va_rf r) K := by
  obtain ⟨ci, Y, hc, q⟩ := hn
  refine pO hS q (n26 hc) (by simp) (by rcases hc with rfl | rfl <;> decide) fun τ hw he => hK τ ci hc he ⟨ci, Y, hc, hw.1⟩ hw.2.1 fun cj q0 q1 q2 q3 Y' h9 => ?_
  have := q.symm.trans h9
  simp only [Option.some.injEq, Sum.inr.injEq, Prod.mk.injEq, List.cons.injEq] at this
  obtain ⟨rfl, rfl, rfl, rfl, rfl, rfl⟩ := this
  exact ⟨rfl, hw.1⟩
/-- a node's value written -/
theorem pNv {K : hSt → Prop} {a h ka : Nat} {v nx r : Option Nat} (hS : SI G σ) (hn : nq σ a h ka v nx) (hK : ∀ τ ci, (ci = 26 ∨ ci = 27) → ev G (W1 a ci) 0 σ τ → nq τ a h ka r nx → (∀ b, b ≠ a → τ.1 b = σ.1 b) → K τ) : ptV G σ (some a) [26, 27] 2 (va_rf r) K := by
  obtain ⟨ci, Y, hc, q⟩ := hn
  exact pO hS q (n26 hc) (by simp) (by rcases hc with rfl | rfl <;> decide) fun τ hw he => hK τ ci hc he ⟨ci, Y, hc, hw.1⟩ hw.2.1
end CH
-- ===== the numbers of a table =====
theorem fl_thr : ∀ j, j < 10 → 1 ≤ j → FP.f2i (FP.fmul (FP.i2f (Int32.ofNat (2 ^ j))) 1061158912) = Int32.ofNat (2 ^ j * 3 / 4) := by decide +kernel
theorem fl_nan : ∀ j, j < 10 → 1 ≤ j → vf_n32 (FP.fmul (FP.i2f (Int32.ofNat (2 ^ j))) 1061158912) := by
  intro j hj h1
  have h3 : j = 1 ∨ j = 2 ∨ j = 3 ∨ j = 4 ∨ j = 5 ∨ j = 6 ∨ j = 7 ∨ j = 8 ∨ j = 9 := by omega
  unfold vf_n32
  rcases h3 with rfl | rfl | rfl | rfl | rfl | rfl | rfl | rfl | rfl <;> decide +kernel
theorem fl_cmp : ∀ j, j < 10 → 1 ≤ j → ¬ (0 : Int32) ≤ (Op.cmpValue (FP.fcmp (FP.fmul (FP.i2f (Int32.ofNat (2 ^ j))) 1061158912) (1317011456 : UInt32)) .g) := by decide +kernel
theorem shl1 : ∀ j, j < 10 → Int32.ofNat (2 ^ j) <<< ((1 : Int32) &&& 31) = Int32.ofNat (2 * 2 ^ j) := by decide +kernel
theorem shl3 : ∀ j, j < 10 → 4 ≤ j → Int32.ofNat (2 ^ j * 3 / 4) <<< ((1 : Int32) &&& 31) = Int32.ofNat (2 * 2 ^ j * 3 / 4) := by decide +kernel
/-- a table and its bins -/
def BK (σ : hSt) (kt ta N : Nat) (B : Nat → List eT) : Prop := ∃ f, σ.1 ta = some (.inl (6, N, .inr (.inr (.inr (.inr f))))) ∧ ∀ i, i < N → ch σ kt (B i) (f i)
def WB (kt N : Nat) (B : Nat → List eT) : Prop := ∀ i, i < N → (∀ q ∈ B i, hvk kt q.2.1 % N = i) ∧ ((B i).map (fun q => q.2.1)).Nodup
/-- nodes that lie at one address are one entry -/
theorem BK_inj {σ : hSt} {kt ta N : Nat} {B : Nat → List eT} (h : BK σ kt ta N B) (hW : WB kt N B) {i i' : Nat} (hi : i < N) (hi' : i' < N) {q q' : eT} (hq : q ∈ B i) (hq' : q' ∈ B i') (ha : q.1 = q'.1) : i = i' ∧ q = q' := by
  obtain ⟨f, -, hc⟩ := h
  have hx := ce_x (hc i hi) (hc i' hi') hq hq' ha
  have e1 := (hW i hi).1 q hq
  have e2 := (hW i' hi').1 q' hq'
  rw [hx] at e1
  have e3 : i = i' := e1.symm.trans e2
  subst e3
  exact ⟨rfl, nd_inj (hW i hi).2 hq hq' hx⟩
section RS0
variable {G : gE} {σ : hSt} {PX : Nat → Nat → hSt → Prop} {P : Option Nat → hSt → Prop} {m ci : Nat}
theorem rs_end {t : Option Nat} {sz md th : Int32} {Y : List Value} {N : Nat} (hS : SI G σ) (hm : mm σ m ci none sz md th Y) (hN : pw N) (hb : bd G σ (1 + N)) (s0 : Int32) (hP : ∀ τ ta, ev G (W1 m ci) (1 + N) σ τ → mm τ m ci (some ta) sz md (Int32.ofNat (N * 3 / 4)) Y → σ.2.1 ≤ ta → ¬ gX G ta → τ.1 ta = some (.inl (6, N, .inr (.inr (.inr (.inr fun _ => none))))) → (∀ b, b < σ.2.1 → b ≠ m → τ.1 b = σ.1 b) → P (some ta) τ) : wJ1_resizeb125 G P PX (some m) none s0 (Int32.ofNat N) (Int32.ofNat (N * 3 / 4)) σ := by
  obtain ⟨hci, k0, k1, k3, hm⟩ := hm
  have hNb := pw_b hN
  have hlm := hS.lt hm
  unfold wJ1_resizeb125 wJ1_resizeb353
  refine pM hS hm (n12 hci) (by simp) hci (by decide) (by decide) (by decide) fun τ1 w1 e1 => ?_
  refine nA e1.t (by omega) (e1.rm hb (by omega)) fun ta τ2 n2 hX2 e2 => ?_
  have hm2 := n2.o w1.1
  refine pM e2.t hm2 (n12 hci) (by simp) hci (by decide) (by decide) (by decide) fun τ3 w3 e3 => ⟨fun _ => ?_, fun q => absurd rfl q⟩
  have hne : ta ≠ m := Ne.symm (n2.ne w1.1)
  have hs1 : τ1.2 = σ.2 := w1.2.2
  refine hP τ3 ta ?_ ⟨hci, k0, k1, k3, w3.1⟩ (by rw [n2.1, hs1]; exact Nat.le_refl _) hX2 (by rw [w3.o hne]; exact n2.2.1) fun b hb1 hb2 => ?_
  · exact (((e1.tr e2.up0).tr e3).le' (by omega))
  · rw [w3.o hb2, n2.2.2.1 b (by rw [n2.1, hs1]; omega), w1.o hb2]
theorem resize_0 {sz md th : Int32} {Y : List Value} {N : Nat} (hS : SI G σ) (hm : mm σ m ci none sz md th Y) (hN : (th = 0 ∧ N = 16) ∨ (pw N ∧ th = Int32.ofNat N)) (hb : bd G σ (1 + N)) (hP : ∀ τ ta, ev G (W1 m ci) (1 + N) σ τ → mm τ m ci (some ta) sz md (Int32.ofNat (N * 3 / 4)) Y → σ.2.1 ≤ ta → ¬ gX G ta → τ.1 ta = some (.inl (6, N, .inr (.inr (.inr (.inr fun _ => none))))) → (∀ b, b < σ.2.1 → b ≠ m → τ.1 b = σ.1 b) → P (some ta) τ) : wJ1_resize G P PX (some m) σ := by
  have hm' := hm
  obtain ⟨hci, k0, k1, k3, hm⟩ := hm
  unfold wJ1_resize wJ1_resizeb0 wJ1_resizeb15
  refine gR hm (n12 hci) rfl ⟨fun q => absurd rfl q, fun _ => gI hm (n12 hci) rfl ⟨fun _ => ?_, fun q => absurd (by decide) q⟩⟩
  rcases hN with ⟨rfl, rfl⟩ | ⟨hN, rfl⟩
  · refine ⟨fun _ => ?_, fun q => absurd (by decide) q⟩
    unfold wJ1_resizeb85
    exact ⟨fun _ => rs_end (t := none) (N := 16) hS hm' ⟨4, by decide, by decide, rfl⟩ hb 0 hP, fun q => absurd q (by decide)⟩
  · have hNb := pw_b hN
    refine ⟨fun q => ?_, fun _ => ?_⟩
    · rw [show (0 : Int32) = Int32.ofNat 0 from rfl, i_le (by omega) (by omega)] at q
      omega
    unfold wJ1_resizeb85
    refine ⟨fun q => absurd rfl q, fun _ => gFl hm (n12 hci) rfl ?_⟩
    have hN' := hN
    obtain ⟨j, h1, h2, rfl⟩ := hN'
    refine ⟨fl_nan j h2 h1, fun q => ?_, fun _ => ⟨fun q => absurd q (fl_cmp j h2 h1), fun _ => ?_⟩⟩
    · rw [show (1073741824 : Int32) = Int32.ofNat 1073741824 from rfl, i_le (by omega) (by omega)] at q
      omega
    · unfold wJ1_resizeb123
      rw [fl_thr j h2 h1]
      exact rs_end (t := none) hS hm' hN hb 0 hP
end RS0
