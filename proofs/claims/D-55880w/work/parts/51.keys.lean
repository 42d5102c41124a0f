/-! keys, chains of nodes, the look-up -/
set_option maxRecDepth 100000
/-- a loop with a ghost count -/
theorem lp_n {α : Type} {F : (α → Prop) → α → Prop} {x : α} (R : Nat → α → Prop) (n : Nat) (h0 : R n x) (hs : ∀ k y, R k y → ∀ K : α → Prop, (∀ j z, j < k → R j z → K z) → F K y) : lpI F x := by
  have key : ∀ y, (∃ k, R k y) → ∃ k, R k y ∧ ∀ j, j < k → ¬ R j y := by
    rintro y ⟨k, hk⟩
    induction k using Nat.strongRecOn with
    | ind k ih =>
      by_cases h : ∃ j, j < k ∧ R j y
      · obtain ⟨j, hj, hr⟩ := h
        exact ih j hj hr
      · exact ⟨k, hk, fun j hj hr => h ⟨j, hj, hr⟩⟩
  have key2 : ∃ μ : α → Nat, ∀ y, (∃ k, R k y) → R (μ y) y ∧ ∀ j, j < μ y → ¬ R j y := by
    refine Classical.axiomOfChoice (r := fun y m => (∃ k, R k y) → R m y ∧ ∀ j, j < m → ¬ R j y) fun y => ?_
    rcases Classical.em (∃ k, R k y) with h | h
    · obtain ⟨k, hk⟩ := key y h
      exact ⟨k, fun _ => hk⟩
    · exact ⟨0, fun q => absurd q h⟩
  obtain ⟨μ, hμ⟩ := key2
  refine ⟨fun y => ∃ k, R k y, μ, ⟨n, h0⟩, ?_⟩
  intro y hy
  refine hs _ y (hμ y hy).1 _ fun j z hj hr => ⟨⟨j, hr⟩, ?_⟩
  exact Nat.lt_of_le_of_lt (Nat.le_of_not_lt fun q => (hμ z ⟨j, hr⟩).2 j q hr) hj
-- ===== hashes =====
theorem xsh : ∀ n, n < 1215 → Int32.ofNat n ^^^ (((Int32.ofNat n).toUInt32 >>> ((16 : Int32).toUInt32 &&& Int32.toUInt32 31)).toInt32) = Int32.ofNat n := by decide +kernel
theorem bix0 : ∀ j, j < 10 → ∀ h, h < 1215 → (Int32.ofNat (2 ^ j) - 1) &&& Int32.ofNat h = Int32.ofNat (h % 2 ^ j) := by decide +kernel
theorem bix1 : ∀ j, j < 10 → ∀ h, h < 1215 → Int32.ofNat h &&& (Int32.ofNat (2 ^ j) - 1) = Int32.ofNat (h % 2 ^ j) := by decide +kernel
theorem bix2 : ∀ j, j < 10 → ∀ h, h < 1215 → (Int32.ofNat h &&& Int32.ofNat (2 ^ j) = 0 ↔ h % (2 * 2 ^ j) = h % 2 ^ j) := by decide +kernel
/-- how long a table may be -/
def pw (N : Nat) : Prop := ∃ j, 1 ≤ j ∧ j < 10 ∧ N = 2 ^ j
theorem pw_b {N : Nat} (h : pw N) : 2 ≤ N ∧ N ≤ 512 := by
  obtain ⟨j, h1, h2, rfl⟩ := h
  have h3 : j = 1 ∨ j = 2 ∨ j = 3 ∨ j = 4 ∨ j = 5 ∨ j = 6 ∨ j = 7 ∨ j = 8 ∨ j = 9 := by omega
  rcases h3 with rfl | rfl | rfl | rfl | rfl | rfl | rfl | rfl | rfl <;> decide
def hvk (kt x : Nat) : Nat := if kt = 9 then 31 * (x / 6) + x % 6 else x
def nmC (x : Nat) : List Value := [.int (Int32.ofNat (x / 10)), .int (Int32.ofNat (x % 10))]
/-- a key: its class, its number -/
def KY (σ : hSt) (kt a x : Nat) : Prop :=
  (kt = 5 ∧ x < 40 ∧ σ.1 a = some (.inr (5, nmC x))) ∨ (kt = 9 ∧ x < 240 ∧ ∃ nm, σ.1 a = some (.inr (9, [va_rf (some nm), .int (Int32.ofNat (x % 6))])) ∧ σ.1 nm = some (.inr (5, nmC (x / 6)))) ∨ (kt = 25 ∧ x < 128 ∧ σ.1 a = some (.inr (25, [.int (Int32.ofNat x)])))
theorem KY.hb {σ : hSt} {kt a x : Nat} (h : KY σ kt a x) : hvk kt x < 1215 := by
  unfold hvk
  rcases h with ⟨rfl, h, -⟩ | ⟨rfl, h, -⟩ | ⟨rfl, h, -⟩
  · simp; omega
  · simp; omega
  · simp; omega
theorem KY.xb {σ : hSt} {kt a x : Nat} (h : KY σ kt a x) : x < 240 := by
  rcases h with ⟨rfl, h, -⟩ | ⟨rfl, h, -⟩ | ⟨rfl, h, -⟩ <;> omega
theorem oN_inj {a b : Nat} (ha : a < 2147483648) (hb : b < 2147483648) (h : Value.int (Int32.ofNat a) = Value.int (Int32.ofNat b)) : a = b := (i_eq ha hb).mp (by injection h)
theorem nmC_inj {x y : Nat} (hx : x < 1000) (hy : y < 1000) (h : nmC x = nmC y) : x = y := by
  unfold nmC at h
  injection h with h1 h2
  injection h2 with h3 h4
  have e1 := oN_inj (by omega) (by omega) h1
  have e2 := oN_inj (by omega) (by omega) h3
  omega
theorem va_rf_inj {r s : Option Nat} (h : va_rf r = va_rf s) : r = s := by
  cases r <;> cases s <;> simp [va_rf] at h <;> simp [h]
theorem KY.inj {σ : hSt} {kt a x y : Nat} (h : KY σ kt a x) (h' : KY σ kt a y) : x = y := by
  rcases h with ⟨rfl, hx, h⟩ | ⟨rfl, hx, nm, h, hn⟩ | ⟨rfl, hx, h⟩ <;> rcases h' with ⟨e, hy, h'⟩ | ⟨e, hy, nm', h', hn'⟩ | ⟨e, hy, h'⟩ <;> try (exact absurd e (by decide))
  · have := h.symm.trans h'
    simp only [Option.some.injEq, Sum.inr.injEq, Prod.mk.injEq, true_and] at this
    exact nmC_inj (by omega) (by omega) this
  · have := h.symm.trans h'
    simp only [Option.some.injEq, Sum.inr.injEq, Prod.mk.injEq, true_and, List.cons.injEq, and_true] at this
    have e1 := va_rf_inj this.1
    cases e1
    have e2 := oN_inj (by omega) (by omega) this.2
    have e3 := hn.symm.trans hn'
    simp only [Option.some.injEq, Sum.inr.injEq, Prod.mk.injEq, true_and] at e3
    have e4 := nmC_inj (by omega) (by omega) e3
    omega
  · have := h.symm.trans h'
    simp only [Option.some.injEq, Sum.inr.injEq, Prod.mk.injEq, true_and, List.cons.injEq, and_true] at this
    exact oN_inj (by omega) (by omega) this
/-- what never touches keys -/
def Wk (W : Nat → Nat → Prop) : Prop := ∀ b, ¬ W b 5 ∧ ¬ W b 9 ∧ ¬ W b 25
theorem KY.ev {G : gE} {W : Nat → Nat → Prop} {c : Nat} {σ τ : hSt} {kt a x : Nat} (h : KY σ kt a x) (he : ev G W c σ τ) (hW : Wk W) : KY τ kt a x := by
  rcases h with ⟨h1, h2, h⟩ | ⟨h1, h2, nm, h, hn⟩ | ⟨h1, h2, h⟩
  · exact Or.inl ⟨h1, h2, he.o h (hW _).1 (by decide) (by decide)⟩
  · exact Or.inr (Or.inl ⟨h1, h2, nm, he.o h (hW _).2.1 (by decide) (by decide), he.o hn (hW _).1 (by decide) (by decide)⟩)
  · exact Or.inr (Or.inr ⟨h1, h2, he.o h (hW _).2.2 (by decide) (by decide)⟩)
section KEY
variable {G : gE} {σ : hSt} {PX : Nat → Nat → hSt → Prop} {P : Int32 → hSt → Prop} {kt a b x y : Nat}
theorem hash_k (h : KY σ kt a x) (hP : P (Int32.ofNat (hvk kt x)) σ) : wJ1_hash G P PX (some a) σ := by
  unfold wJ1_hash wJ1_hashb0
  have hb := h.hb
  have fin : ∀ s : Int32, s = Int32.ofNat (hvk kt x) → wJ1_hashb12 G P PX s σ := by
    rintro s rfl
    unfold wJ1_hashb12
    rw [xsh _ hb]
    exact hP
  refine ⟨fun _ => ?_, fun q => nomatch q⟩
  rcases h with ⟨rfl, h2, h⟩ | ⟨rfl, h2, nm, h, hn⟩ | ⟨rfl, h2, h⟩
  · refine Or.inl ⟨rco h, ?_⟩
    unfold wX6_hashCode wX6_hashCodeb0
    refine gI h (by decide) rfl (gI h (by decide) rfl (fin _ ?_))
    rw [show (10 : Int32) = Int32.ofNat 10 from rfl, i_mul, i_add]
    congr 1
    unfold hvk
    simp
    omega
  · refine Or.inr (Or.inl ⟨rco h, ?_⟩)
    unfold wX10_hashCode wX10_hashCodeb0
    refine gR h (by decide) rfl ⟨rco hn, ?_⟩
    unfold wX6_hashCode wX6_hashCodeb0
    refine gI hn (by decide) rfl (gI hn (by decide) rfl (gI h (by decide) rfl (fin _ ?_)))
    rw [show (10 : Int32) = Int32.ofNat 10 from rfl, show (31 : Int32) = Int32.ofNat 31 from rfl, i_mul, i_add, i_mul, i_add]
    congr 1
    unfold hvk
    simp
    omega
  · refine Or.inr (Or.inr ⟨rco h, ?_⟩)
    unfold wJ31_hashCode wJ31_hashCodeb0 wJ31_hashCode_2 wJ31_hashCode_2b0
    refine gI h (by decide) rfl (fin _ ?_)
    unfold hvk
    simp
/-- Name's equals -/
theorem eqN {nx ny : Nat} (hx : nx < 40) (hy : ny < 40) (ha : σ.1 a = some (.inr (5, nmC nx))) (hb : σ.1 b = some (.inr (5, nmC ny))) (h1 : nx = ny → P 1 σ) (h0 : nx ≠ ny → P 0 σ) : wX6_equals G P PX (some a) (some b) σ := by
  unfold wX6_equals wX6_equalsb0
  refine iOy hb (by decide) ⟨fun _ => ⟨cO hb (by decide), gI ha (by decide) rfl (gI hb (by decide) rfl ⟨fun q => ⟨ok_b0, h0 fun e => q (by rw [e])⟩, fun q => gI ha (by decide) rfl (gI hb (by decide) rfl ⟨fun q2 => ⟨ok_b0, h0 fun e => q2 (by rw [e])⟩, fun q2 => ⟨ok_b1, h1 ?_⟩⟩)⟩)⟩, fun q => absurd q (by decide)⟩
  have e1 := (i_eq (by omega) (by omega)).mp q
  have e2 := (i_eq (by omega) (by omega)).mp q2
  omega
theorem eq_k (ha : KY σ kt a x) (hb : KY σ kt b y) (h1 : x = y → P 1 σ) (h0 : x ≠ y → P 0 σ) : (rcv σ (some a) 5 ∧ wX6_equals G P PX (some a) (some b) σ) ∨ (rcv σ (some a) 9 ∧ wX10_equals G P PX (some a) (some b) σ) ∨ (rcv σ (some a) 25 ∧ wJ31_equals G P PX (some a) (some b) σ) := by
  rcases ha with ⟨rfl, hx, ha⟩ | ⟨rfl, hx, nm, ha, hn⟩ | ⟨rfl, hx, ha⟩ <;> rcases hb with ⟨e, hy, hb⟩ | ⟨e, hy, nm', hb, hn'⟩ | ⟨e, hy, hb⟩ <;> try (exact absurd e (by decide))
  · exact Or.inl ⟨rco ha, eqN hx hy ha hb h1 h0⟩
  · refine Or.inr (Or.inl ⟨rco ha, ?_⟩)
    unfold wX10_equals wX10_equalsb0
    refine iOy hb (by decide) ⟨fun _ => ⟨cO hb (by decide), gI ha (by decide) rfl (gI hb (by decide) rfl ⟨fun q => ⟨ok_b0, h0 fun e => q (by rw [e])⟩, fun q => gR ha (by decide) rfl (gR hb (by decide) rfl ⟨rco hn, eqN (by omega) (by omega) hn hn' (fun q2 => ⟨fun w => absurd w (by decide), fun _ => ⟨ok_b1, h1 ?_⟩⟩) fun q2 => ⟨fun _ => ⟨ok_b0, h0 fun e => q2 (by rw [e])⟩, fun w => absurd rfl w⟩⟩)⟩)⟩, fun q => absurd q (by decide)⟩
    have e1 := (i_eq (by omega) (by omega)).mp q
    omega
  · refine Or.inr (Or.inr ⟨rco ha, ?_⟩)
    unfold wJ31_equals wJ31_equalsb0
    refine iOy hb (by decide) ⟨fun q => absurd q (by decide), fun _ => gI ha (by decide) rfl ⟨cO hb (by decide), rco hb, ?_⟩⟩
    unfold wJ31_intValue wJ31_intValueb0
    exact gI hb (by decide) rfl ⟨fun q => ⟨ok_b0, h0 fun e => q (by rw [e])⟩, fun q => ⟨ok_b1, h1 ((i_eq (by omega) (by omega)).mp q)⟩⟩
end KEY
-- ===== chains =====
/-- an entry: the node's address, the key's number, the key's address, the value -/
abbrev eT : Type := Nat × Nat × Nat × Option Nat
def nq (σ : hSt) (a h ka : Nat) (v nx : Option Nat) : Prop := ∃ ci Y, (ci = 26 ∨ ci = 27) ∧ σ.1 a = some (.inr (ci, .int (Int32.ofNat h) :: va_rf (some ka) :: va_rf v :: va_rf nx :: Y))
/-- a chain of nodes that ends at e -/
def ce (σ : hSt) (kt : Nat) (e : Option Nat) : List eT → Option Nat → Prop
  | [], r => r = e
  | q :: t, r => r = some q.1 ∧ KY σ kt q.2.2.1 q.2.1 ∧ ∃ nx, nq σ q.1 (hvk kt q.2.1) q.2.2.1 q.2.2.2 nx ∧ ce σ kt e t nx
abbrev ch (σ : hSt) (kt : Nat) (l : List eT) (r : Option Nat) : Prop := ce σ kt none l r
theorem n26 {ci : Nat} (h : ci = 26 ∨ ci = 27) : ci ∈ [26, 27] := by rcases h with rfl | rfl <;> decide
theorem n12 {ci : Nat} (h : ci = 12 ∨ ci = 13) : ci ∈ [12, 13] := by rcases h with rfl | rfl <;> decide
/-- the map object -/
def mm (σ : hSt) (m ci : Nat) (t : Option Nat) (sz md th : Int32) (Y : List Value) : Prop := (ci = 12 ∨ ci = 13) ∧ ∃ k0 k1 k3, σ.1 m = some (.inr (ci, mFl8 k0 k1 k3 t sz md th Y))
section GET
variable {G : gE} {σ : hSt} {PX : Nat → Nat → hSt → Prop} {P : Option Nat → hSt → Prop} {kt m ci k x : Nat}
theorem getNode_l {l0 l : List eT} {r : Option Nat} (hk : KY σ kt k x) (hl : ch σ kt l r) (hs : ∀ q ∈ l, q ∈ l0) (hn : (∀ q ∈ l, q.2.1 ≠ x) → ∀ q ∈ l0, q.2.1 ≠ x) (hr : l ≠ []) (h1 : ∀ q ∈ l0, q.2.1 = x → P (some q.1) σ) (h2 : (∀ q ∈ l0, q.2.1 ≠ x) → P none σ) : lpI (fun (K99 : (Option Nat × Option Nat × Int32 × hSt) → Prop) (y : (Option Nat × Option Nat × Int32 × hSt)) => wJ1_getNodeb99 G P PX K99 (y.1) (y.2.1) (y.2.2.1) (y.2.2.2)) (some k, r, Int32.ofNat (hvk kt x), σ) := by
  refine lp_n (fun n y => ∃ l, l.length = n ∧ l ≠ [] ∧ ∃ r, y = (some k, r, Int32.ofNat (hvk kt x), σ) ∧ ch σ kt l r ∧ (∀ q ∈ l, q ∈ l0) ∧ ((∀ q ∈ l, q.2.1 ≠ x) → ∀ q ∈ l0, q.2.1 ≠ x)) l.length ⟨l, rfl, hr, r, rfl, hl, hs, hn⟩ ?_
  rintro n y ⟨l, rfl, hr, r, rfl, hl, hs, hn⟩ K hK
  obtain _ | ⟨q, t⟩ := l
  · exact absurd rfl hr
  obtain ⟨rfl, hq, nx, ⟨ci, Y, hci, hc⟩, ht⟩ := hl
  have hb1 := hk.hb
  have hb2 := hq.hb
  have go : q.2.1 ≠ x → wJ1_getNodeb137 G P PX K (some k) (some q.1) (Int32.ofNat (hvk kt x)) σ := by
    intro hne
    unfold wJ1_getNodeb137 wJ1_getNodeb148
    refine gR hc (n26 hci) rfl ⟨fun hx => ?_, fun hx => ?_⟩
    · refine hK t.length _ (by simp) ⟨t, rfl, ?_, nx, rfl, ht, fun q' hq' => hs q' (List.mem_cons_of_mem _ hq'), fun hw => hn fun q' hq' => ?_⟩
      · rintro rfl; exact hx ht
      · rcases List.mem_cons.mp hq' with rfl | h
        · exact hne
        · exact hw q' h
    · refine h2 (hn fun q' hq' => ?_)
      rcases List.mem_cons.mp hq' with rfl | h
      · exact hne
      · cases t with
        | nil => exact nomatch h
        | cons q2 t2 => rw [hx] at ht; exact nomatch ht.1
  unfold wJ1_getNodeb99
  refine gI hc (n26 hci) rfl ⟨fun hx => go fun e => hx (by rw [e]), fun hx => gR hc (n26 hci) rfl ⟨fun e => ?_, fun e => ⟨fun w => (nomatch w), fun _ => ?_⟩⟩⟩
  · unfold wJ1_getNodeb134
    cases e
    exact h1 q (hs q List.mem_cons_self) (hq.inj hk)
  · refine eq_k hk hq (fun e2 => ?_) fun e2 => ?_
    · unfold wJ1_getNodeb131 wJ1_getNodeb134
      exact ⟨fun w => absurd w (by decide), fun _ => h1 q (hs q List.mem_cons_self) e2.symm⟩
    · unfold wJ1_getNodeb131
      exact ⟨fun _ => go (Ne.symm e2), fun w => absurd rfl w⟩
theorem getNode_k {t : Option Nat} {sz md th : Int32} {Y : List Value} {N ta : Nat} {f : Nat → Option Nat} {l : List eT} (hm : mm σ m ci t sz md th Y) (ht : t = some ta) (hta : σ.1 ta = some (.inl (6, N, .inr (.inr (.inr (.inr f)))))) (hN : pw N) (hk : KY σ kt k x) (hl : ch σ kt l (f (hvk kt x % N))) (h1 : ∀ q ∈ l, q.2.1 = x → P (some q.1) σ) (h2 : (∀ q ∈ l, q.2.1 ≠ x) → P none σ) : wJ1_getNode G P PX (some m) (some k) σ := by
  obtain ⟨hci, k0, k1, k3, hm⟩ := hm
  subst ht
  have hb1 := hk.hb
  have hNb := pw_b hN
  unfold wJ1_getNode wJ1_getNodeb0
  refine gR hm (n12 hci) rfl ⟨fun q => (nomatch q), fun _ => aL hta ⟨fun q => ?_, fun _ => hash_k hk ?_⟩⟩
  · rw [show (0 : Int32) = Int32.ofNat 0 from rfl, i_le (by omega) (by omega)] at q
    omega
  have e1 : (Int32.ofNat N - 1) &&& Int32.ofNat (hvk kt x) = Int32.ofNat (hvk kt x % N) := by
    obtain ⟨j, -, hj, rfl⟩ := hN
    exact bix0 j hj _ hb1
  rw [e1]
  refine aR hta (by decide) (by omega) (Nat.mod_lt _ (by omega)) ⟨fun q => ?_, fun q => ?_⟩
  · unfold wJ1_getNodeb148
    refine h2 fun q' hq' => ?_
    cases l with
    | nil => exact nomatch hq'
    | cons q2 t2 => rw [q] at hl; exact nomatch hl.1
  obtain _ | ⟨q1, t1⟩ := l
  · exact absurd hl q
  obtain ⟨er, hq, nx, ⟨cj, Y', hcj, hc⟩, ht1⟩ := hl
  rw [er]
  have go : q1.2.1 ≠ x → wJ1_getNodeb71 G P PX (some k) (some q1.1) (Int32.ofNat (hvk kt x)) σ := by
    intro hne
    unfold wJ1_getNodeb71 wJ1_getNodeb148
    refine gR hc (n26 hcj) rfl ⟨fun hx => ?_, fun hx => iOn hc (n26 hcj) ⟨fun _ => ?_, fun w => absurd rfl w⟩⟩
    · refine h2 fun q' hq' => ?_
      rcases List.mem_cons.mp hq' with rfl | h
      · exact hne
      · cases t1 with
        | nil => exact nomatch h
        | cons q2 t2 => rw [hx] at ht1; exact nomatch ht1.1
    · refine getNode_l hk ht1 (fun q' hq' => List.mem_cons_of_mem _ hq') (fun hw q' hq' => ?_) ?_ h1 h2
      · rcases List.mem_cons.mp hq' with rfl | h
        · exact hne
        · exact hw q' h
      · rintro rfl; exact hx ht1
  have hb2 := hq.hb
  refine gI hc (n26 hcj) rfl ⟨fun hx => go fun e => hx (by rw [e]), fun hx => gR hc (n26 hcj) rfl ⟨fun e => ?_, fun e => ⟨fun w => (nomatch w), fun _ => ?_⟩⟩⟩
  · unfold wJ1_getNodeb69
    cases e
    exact h1 q1 List.mem_cons_self (hq.inj hk)
  · refine eq_k hk hq (fun e2 => ?_) fun e2 => ?_
    · unfold wJ1_getNodeb66 wJ1_getNodeb69
      exact ⟨fun w => absurd w (by decide), fun _ => h1 q1 List.mem_cons_self e2.symm⟩
    · unfold wJ1_getNodeb66
      exact ⟨fun _ => go (Ne.symm e2), fun w => absurd rfl w⟩
/-- a map with no table yet -/
theorem getNode_0 {sz md th : Int32} {Y : List Value} (hm : mm σ m ci none sz md th Y) (h2 : P none σ) : wJ1_getNode G P PX (some m) (some k) σ := by
  obtain ⟨hci, k0, k1, k3, hm⟩ := hm
  unfold wJ1_getNode wJ1_getNodeb0
  exact gR hm (n12 hci) rfl ⟨fun _ => h2, fun q => absurd rfl q⟩
end GET
