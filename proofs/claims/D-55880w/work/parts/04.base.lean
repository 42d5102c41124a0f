/-! the base: a pure state (cells by their addresses, how many cells, how many slots), what the heap holds of it, and the words of the pure calculus -/
set_option maxRecDepth 100000
abbrev hE : Type := (Nat × vp_A) ⊕ (Nat × List Value)
abbrev hSt : Type := (Nat → Option hE) × Nat × Nat
/-- the fixed things of a run: classes, array classes, the cells from outside, the bounds of cells and slots, addresses of what lies outside -/
abbrev gE : Type := va_G × (Nat → ClassId) × (Nat → Prop) × (Nat × Nat) × (Nat → Nat)
abbrev gD (G : gE) : va_G := G.1
abbrev gT (G : gE) : Nat → ClassId := G.2.1
abbrev gX (G : gE) : Nat → Prop := G.2.2.1
abbrev gL (G : gE) : Nat := G.2.2.2.1.1
abbrev gU (G : gE) : Nat := G.2.2.2.1.2
abbrev gA (G : gE) : Nat → Nat := G.2.2.2.2
abbrev gF (G : gE) : Nat → Prop := fun q => ¬ gX G q
def hup (h : Nat → Option hE) (a : Nat) (e : hE) : Nat → Option hE := fun b => if b = a then some e else h b
theorem hup_s {h : Nat → Option hE} {a : Nat} {e : hE} : hup h a e a = some e := if_pos rfl
theorem hup_n {h : Nat → Option hE} {a b : Nat} {e : hE} (n : b ≠ a) : hup h a e b = h b := if_neg n
/-- a cell written; a cell made -/
def hset (σ : hSt) (a : Nat) (e : hE) : hSt := (hup σ.1 a e, σ.2.1, σ.2.2)
def hnew (σ : hSt) (e : hE) (k : Nat) : hSt := (hup σ.1 σ.2.1 e, σ.2.1 + 1, σ.2.2 + k)
-- ===== the pure calculus: what a step asks, and what it hands on =====
def gtI (σ : hSt) (r : Option Nat) (L : List Nat) (k : Nat) (K : Int32 → Prop) : Prop := ∃ a ci fs x, r = some a ∧ σ.1 a = some (.inr (ci, fs)) ∧ ci ∈ L ∧ fs[k]? = some (Value.int x) ∧ K x
def gtF (σ : hSt) (r : Option Nat) (L : List Nat) (k : Nat) (K : UInt32 → Prop) : Prop := ∃ a ci fs x, r = some a ∧ σ.1 a = some (.inr (ci, fs)) ∧ ci ∈ L ∧ fs[k]? = some (Value.float x) ∧ K x
def gtR (σ : hSt) (r : Option Nat) (L : List Nat) (k : Nat) (K : Option Nat → Prop) : Prop := ∃ a ci fs x, r = some a ∧ σ.1 a = some (.inr (ci, fs)) ∧ ci ∈ L ∧ fs[k]? = some (va_rf x) ∧ K x
def ptV (G : gE) (σ : hSt) (r : Option Nat) (L : List Nat) (k : Nat) (v : Value) (K : hSt → Prop) : Prop := ∃ a ci fs, r = some a ∧ σ.1 a = some (.inr (ci, fs)) ∧ ci ∈ L ∧ k < fs.length ∧ ((ci = 17 ∨ ci = 25) → ¬ gX G a) ∧ K (hset σ a (.inr (ci, fs.set k v)))
/-- a small int fits a field, an answer -/
def okN (ty : FieldType) (x : Int32) : Prop := narrow ty (.int x) = .int x ∧ fits ty (.int x) = true
def alI (σ : hSt) (r : Option Nat) (ti : Nat) (i : Int32) (K : Int32 → Prop) : Prop := ∃ a n f, r = some a ∧ σ.1 a = some (.inl (ti, n, .inl f)) ∧ vp_in i n ∧ K (f i.toNatClampNeg)
def alL (σ : hSt) (r : Option Nat) (i : Int32) (K : Int64 → Prop) : Prop := ∃ a n f, r = some a ∧ σ.1 a = some (.inl (1, n, .inr (.inl f))) ∧ vp_in i n ∧ K (f i.toNatClampNeg)
def alD (σ : hSt) (r : Option Nat) (i : Int32) (K : UInt64 → Prop) : Prop := ∃ a n f, r = some a ∧ σ.1 a = some (.inl (4, n, .inr (.inr (.inr (.inl f))))) ∧ vp_in i n ∧ K (f i.toNatClampNeg)
def alR (σ : hSt) (r : Option Nat) (L : List Nat) (i : Int32) (K : Option Nat → Prop) : Prop := ∃ a ti n f, r = some a ∧ σ.1 a = some (.inl (ti, n, .inr (.inr (.inr (.inr f))))) ∧ ti ∈ L ∧ vp_in i n ∧ K (f i.toNatClampNeg)
def asI (G : gE) (σ : hSt) (r : Option Nat) (ti : Nat) (ty : FieldType) (i x : Int32) (K : hSt → Prop) : Prop := ∃ a n f, r = some a ∧ σ.1 a = some (.inl (ti, n, .inl f)) ∧ ¬ gX G a ∧ vp_in i n ∧ K (hset σ a (.inl (ti, n, .inl (upd f i.toNatClampNeg (vp_nar ty x)))))
def asL (G : gE) (σ : hSt) (r : Option Nat) (i : Int32) (x : Int64) (K : hSt → Prop) : Prop := ∃ a n f, r = some a ∧ σ.1 a = some (.inl (1, n, .inr (.inl f))) ∧ ¬ gX G a ∧ vp_in i n ∧ K (hset σ a (.inl (1, n, .inr (.inl (vp_updL f i.toNatClampNeg x)))))
def asD (G : gE) (σ : hSt) (r : Option Nat) (i : Int32) (x : UInt64) (K : hSt → Prop) : Prop := ∃ a n f, r = some a ∧ σ.1 a = some (.inl (4, n, .inr (.inr (.inr (.inl f))))) ∧ ¬ gX G a ∧ vp_in i n ∧ K (hset σ a (.inl (4, n, .inr (.inr (.inr (.inl (vf_upd f i.toNatClampNeg x)))))))
/-- the classes of what an array of references may take -/
def elOk (σ : hSt) (L : List Nat) (y : Option Nat) : Prop := y = none ∨ ∃ b ci fs, y = some b ∧ σ.1 b = some (.inr (ci, fs)) ∧ ci ∈ L
def asR (G : gE) (σ : hSt) (r : Option Nat) (LT : List (Nat × List Nat)) (i : Int32) (y : Option Nat) (K : hSt → Prop) : Prop := ∃ a ti L n f, r = some a ∧ σ.1 a = some (.inl (ti, n, .inr (.inr (.inr (.inr f))))) ∧ (ti, L) ∈ LT ∧ ¬ gX G a ∧ vp_in i n ∧ elOk σ L y ∧ K (hset σ a (.inl (ti, n, .inr (.inr (.inr (.inr (va_up f i.toNatClampNeg y)))))))
def aln (σ : hSt) (r : Option Nat) (K : Int32 → Prop) : Prop := ∃ a ti n x, r = some a ∧ σ.1 a = some (.inl (ti, n, x)) ∧ K (Int32.ofNat n)
def nwO (G : gE) (σ : hSt) (ci N : Nat) (fs : List Value) (K : Nat → hSt → Prop) : Prop := σ.2.1 + 1 ≤ gL G ∧ σ.2.2 + N ≤ gU G ∧ (σ.1 σ.2.1 = none → ¬ gX G σ.2.1 → K σ.2.1 (hnew σ (.inr (ci, fs)) N))
def nwA (G : gE) (σ : hSt) (ti : Nat) (x : (Nat → Int32) ⊕ (Nat → Int64) ⊕ (Nat → UInt32) ⊕ (Nat → UInt64) ⊕ (Nat → Option Nat)) (n : Int32) (K : Nat → hSt → Prop) : Prop := ¬ n < 0 ∧ n.toNatClampNeg ≤ 67108864 ∧ σ.2.1 + 1 ≤ gL G ∧ σ.2.2 + n.toNatClampNeg ≤ gU G ∧ (σ.1 σ.2.1 = none → ¬ gX G σ.2.1 → K σ.2.1 (hnew σ (.inl (ti, n.toNatClampNeg, x)) n.toNatClampNeg))
/-- what is cast: null or an object of these classes, an array of these types -/
def ckO (σ : hSt) (r : Option Nat) (L : List Nat) : Prop := r = none ∨ ∃ a ci fs, r = some a ∧ σ.1 a = some (.inr (ci, fs)) ∧ ci ∈ L
def ckA (σ : hSt) (r : Option Nat) (L : List Nat) : Prop := r = none ∨ ∃ a ti x, r = some a ∧ σ.1 a = some (.inl (ti, x)) ∧ ti ∈ L
def ioO (σ : hSt) (r : Option Nat) (Ly Ln : List Nat) (K : Int32 → Prop) : Prop := (r = none ∧ K 0) ∨ ∃ a ci fs, r = some a ∧ σ.1 a = some (.inr (ci, fs)) ∧ ((ci ∈ Ly ∧ K 1) ∨ (ci ∈ Ln ∧ K 0))
/-- the receiver is an object of the class ci -/
def rcv (σ : hSt) (r : Option Nat) (ci : Nat) : Prop := ∃ a fs, r = some a ∧ σ.1 a = some (.inr (ci, fs))
/-- a loop: a picture that holds at its head, a measure that falls -/
def lpI {α : Type} (F : (α → Prop) → α → Prop) (x : α) : Prop := ∃ (I : α → Prop) (μ : α → Nat), I x ∧ ∀ y, I y → F (fun z => I z ∧ μ z < μ y) y
theorem lpI_sound {α : Type} {F : (α → Prop) → α → Prop} {Wt : α → Prop} (hF : ∀ (K : α → Prop) (y : α), (∀ z, K z → Wt z) → F K y → Wt y) {x : α} (h : lpI F x) : Wt x := by
  obtain ⟨I, μ, h0, hs⟩ := h
  have key : ∀ (n : Nat) (y : α), μ y < n → I y → Wt y := by
    intro n
    induction n with
    | zero => intro y hy; omega
    | succ n ih =>
      intro y hy hI
      exact hF _ y (fun z hz => ih z (by omega) hz.1) (hs y hI)
  exact key _ x (Nat.lt_succ_self _) h0
/-- answers by their types -/
def pI (P : Int32 → hSt → Prop) : Option Value → hSt → Prop := fun v σ => ∃ x, v = some (.int x) ∧ P x σ
def pL (P : Int64 → hSt → Prop) : Option Value → hSt → Prop := fun v σ => ∃ x, v = some (.long x) ∧ P x σ
def pF (P : UInt32 → hSt → Prop) : Option Value → hSt → Prop := fun v σ => ∃ x, v = some (.float x) ∧ P x σ
def pD (P : UInt64 → hSt → Prop) : Option Value → hSt → Prop := fun v σ => ∃ x, v = some (.double x) ∧ P x σ
def pR (P : Option Nat → hSt → Prop) : Option Value → hSt → Prop := fun v σ => ∃ x, v = some (va_rf x) ∧ P x σ
def pV (P : hSt → Prop) : Option Value → hSt → Prop := fun v σ => v = none ∧ P σ
-- ===== what the heap holds =====
def hsum (H : Heap) : Nat := (H.toList.map (fun c => c.slots.size)).sum
def gCell (G : gE) (U : State) (H : Heap) (a : Nat) (e : hE) : Prop := match e with
  | .inl (ti, x) => ∃ ty, gTY[ti]? = some ty ∧ ∃ cell : Cell, H[a]? = some cell ∧ U.isArrayOf cell ty ∧ cell.vm ≠ .unknown ∧ cell.vm.isStatics = false ∧ ((gX G a → ti ≠ 0) → cell.cls = gT G ti) ∧ cell.slots = (vp_cell (gT G ti) x).slots ∧ (¬ gX G a → cell = vp_cell (gT G ti) x)
  | .inr (ci, fs) => ∃ r, gCL[ci]? = some r ∧ fs.length = r.2.2 ∧ ∃ cell : Cell, H[a]? = some cell ∧ cell.cls = (gD G).1 ci ∧ cell.vm ≠ .unknown ∧ cell.vm.isStatics = false ∧ (¬ gX G a → cell.vm = .none ∧ ((ci = 8 ∨ ci = 11) → cell.monitor.owner = none ∧ cell.monitor.count = 0)) ∧ (gX G a → ci = 17 ∨ ci = 25) ∧ ∀ k, k < r.2.2 → cell.slots[(gD G).2 ci k]? = some (vp_V fs k)
def Sh0 (G : gE) (σ : hSt) (U : State) (H : Heap) : Prop := (∀ a e, σ.1 a = some e → gCell G U H a e) ∧ H.size = σ.2.1 ∧ hsum H = σ.2.2 ∧ σ.2.1 ≤ gL G ∧ σ.2.2 ≤ gU G ∧ ∀ a, gX G a → a < H.size
def Sh (G : gE) (σ : hSt) (s : State) (H : Heap) (locs : List Loc) : Prop := Sh0 G σ s H ∧ va_S (gF G) s.heap H locs
theorem gCell.lt {G : gE} {U : State} {H : Heap} {a : Nat} {e : hE} (h : gCell G U H a e) : a < H.size := by
  obtain ⟨ti, x⟩ | ⟨ci, fs⟩ := e
  · obtain ⟨ty, h1, cell, h2, -⟩ := h
    exact (Array.getElem?_eq_some_iff.mp h2).1
  · obtain ⟨r, h1, h0, cell, h2, -⟩ := h
    exact (Array.getElem?_eq_some_iff.mp h2).1
theorem gCell.kept {G : gE} {U : State} {H H1 : Heap} {a : Nat} {e : hE} (h : gCell G U H a e) (hq : H1[a]? = H[a]?) : gCell G U H1 a e := by
  obtain ⟨ti, x⟩ | ⟨ci, fs⟩ := e
  · obtain ⟨ty, h1, cell, h2, h3⟩ := h
    exact ⟨ty, h1, cell, hq.trans h2, h3⟩
  · obtain ⟨r, h1, h0, cell, h2, h3⟩ := h
    exact ⟨r, h1, h0, cell, hq.trans h2, h3⟩
theorem gCell.moved {G : gE} {u U : State} {H : Heap} {a : Nat} {e : hE} (hvm : u.vm.Alike U.vm) (h : gCell G u H a e) : gCell G U H a e := by
  obtain ⟨ti, x⟩ | ⟨ci, fs⟩ := e
  · obtain ⟨ty, h1, cell, h2, h3, h4⟩ := h
    exact ⟨ty, h1, cell, h2, State.isArrayOf_alike hvm h3, h4⟩
  · exact h
theorem Sh0.moved {G : gE} {σ : hSt} {u U : State} {H : Heap} (hvm : u.vm.Alike U.vm) (h : Sh0 G σ u H) : Sh0 G σ U H := ⟨fun a e ha => (h.1 a e ha).moved hvm, h.2⟩
theorem Sh0.fresh {G : gE} {σ : hSt} {U : State} {H : Heap} (h : Sh0 G σ U H) : σ.1 σ.2.1 = none := by
  cases hc : σ.1 σ.2.1 with
  | none => rfl
  | some e =>
    have h1 := (h.1 _ _ hc).lt
    have h2 := h.2.1
    omega
theorem Sh0.freshX {G : gE} {σ : hSt} {U : State} {H : Heap} (h : Sh0 G σ U H) : ¬ gX G σ.2.1 := fun q => by
  have h1 := h.2.2.2.2.2 _ q
  have h2 := h.2.1
  omega
theorem hsum_push (H : Heap) (c : Cell) : hsum (H.push c) = hsum H + c.slots.size := by
  simp [hsum]
theorem push_of {H H1 : Heap} {c : Cell} (z : H1.size = H.size + 1) (e : H1[H.size]? = some c) (o : ∀ q, q < H.size → H1[q]? = H[q]?) : H1 = H.push c := by
  apply Array.ext_getElem?
  intro i
  rw [Array.getElem?_push]
  by_cases hi : i = H.size
  · rw [if_pos hi, hi]
    exact e
  · rw [if_neg hi]
    by_cases hl : i < H.size
    · exact o i hl
    · rw [Array.getElem?_eq_none (by omega), Array.getElem?_eq_none (by omega)]
theorem hsum_same {H H1 : Heap} (h : ∀ i : Nat, (H1[i]?).map (fun c => c.slots.size) = (H[i]?).map (fun c => c.slots.size)) : hsum H1 = hsum H := by
  unfold hsum
  congr 1
  apply List.ext_getElem?
  intro i
  rw [List.getElem?_map, List.getElem?_map, Array.getElem?_toList, Array.getElem?_toList]
  exact h i
theorem hsum_set {H H1 : Heap} {a : Nat} {c c1 : Cell} (e0 : H[a]? = some c) (e1 : H1[a]? = some c1) (z : c1.slots.size = c.slots.size) (o : ∀ q, q ≠ a → H1[q]? = H[q]?) : hsum H1 = hsum H := by
  apply hsum_same
  intro i
  by_cases hi : i = a
  · rw [hi, e0, e1]
    simp [z]
  · rw [o i hi]
theorem foldl_sum (l : List Cell) (a : Nat) : l.foldl (fun n c => n + c.slots.size) a = a + (l.map (fun c => c.slots.size)).sum := by
  induction l generalizing a with
  | nil => simp
  | cons c l ih => simp [ih]; omega
theorem hsum_fold (H : Heap) : H.foldl (fun n c => n + c.slots.size) 0 = hsum H := by
  rw [← Array.foldl_toList, foldl_sum, Nat.zero_add]
  rfl
-- ===== the words that don't ride in the lists =====
def nwOk : Cond → Bool
  | .fieldLinkNest .. => true
  | .methodLinkNest .. => true
  | .declares x => decide (x.cls ≠ "java/lang/invoke/MethodHandle")
  | .interfaceMethod a b n d => decide (a = b ∧ a ≠ "java/lang/invoke/MethodHandle" ∧ a ≠ "java/lang/invoke/VarHandle")
  | .publicMethod .. => true
  | .privateMethod .. => true
  | .unhidden .. => true
  | .castable .. => true
  | _ => false
theorem va_tr {u U : State} {c : Cond} (hc : c.onTables = true) (h : c.before #[] (u.setVm U.vm) = true) : c.before #[] U = true := by
  have e := Cond.onTables_vm (A := #[]) (A' := #[]) (U := u) (U' := U) U.vm c hc
  have hU : U.setVm U.vm = U := rfl
  rw [hU] at e
  rw [← e]
  exact h
theorem nw_warm {s U : State} (hW : s.WarmedH U.vm) : ∀ w : Cond, nwOk w = true → va_Nw w s → va_Nw w U := by
  intro w hw h
  cases w <;> first
    | (cases hw; done)
    | exact va_Nw.warmF hW h
    | exact Cond.privateMethod_warm hW h
    | exact va_Nw.warmM hW h
    | exact va_tr rfl (by rw [Cond.declares_setVm hW.alike]; exact h)
    | exact va_tr rfl (by rw [Cond.publicMethod_setVm hW.alike]; exact h)
    | exact va_tr rfl (by rw [Cond.unhidden_setVm hW.alike]; exact h)
    | exact va_tr rfl (by rw [Cond.castable_setVm hW.alike]; exact h)
    | (simp only [nwOk, decide_eq_true_eq] at hw
       obtain ⟨rfl, hx⟩ := hw
       obtain ⟨cL, kL, r1, hcL, hkL, hiL, hfoundL, hn1⟩ := Cond.interfaceMethod_spec h
       exact va_tr rfl (by rw [Cond.interfaceMethod_setVm hW.alike (r := r1) hn1 hx]; exact h))
def gXW : List Cond := lw_tbl.filter nwOk
theorem gx {w : Cond} (h : w ∈ lw_tbl) (g : nwOk w = true) : w ∈ gXW := List.mem_filter.mpr ⟨h, g⟩
def gTys (G : gE) : List (ClassId × FieldType) := (List.range 9).map fun i => (gT G i, gTY.getD i .int)
/-- the String constants that are used: who names them, the entry, the text, the number of their address -/
def gSTR : List (String × Nat × String × Nat) := [("ExcuseLedger", 66, "", 0), ("ExcuseLedger", 156, "enter", 1), ("ExcuseLedger", 166, "strike", 2), ("ExcuseLedger", 171, "lend", 3), ("ExcuseLedger", 173, "back", 4), ("ExcuseLedger", 175, "mend", 5), ("ExcuseLedger", 180, "use", 6), ("ExcuseLedger", 182, "strict", 7), ("ExcuseLedger", 184, "weather", 8), ("ExcuseLedger", 186, "day", 9), ("ExcuseLedger", 332, ",", 10),
  ("ExcuseLedger$Command", 30, "enter", 1), ("ExcuseLedger$Command", 36, "lend", 3), ("ExcuseLedger$Command", 38, "mend", 5), ("ExcuseLedger$Command", 40, "use", 6), ("ExcuseLedger$Command", 42, "strict", 7), ("ExcuseLedger$Command", 67, "strike", 2), ("ExcuseLedger$Command", 69, "back", 4), ("ExcuseLedger$Command", 71, "weather", 8),
  ("ExcuseLedger$Excuse", 59, "*", 11), ("ExcuseLedger$Excuse", 64, "-", 12), ("ExcuseLedger$Excuse", 66, ">", 13), ("ExcuseLedger$Excuse", 72, "<", 14), ("ExcuseLedger$Excuse", 77, "", 0), ("ExcuseLedger$Name", 21, "", 0), ("ExcuseLedger$Name", 27, "dwit", 15), ("ExcuseLedger$Parser", 62, "dwit", 15), ("ExcuseLedger$Parser", 73, "nklbmuswe", 16),
  ("ExcuseLedger$Parser", 80, "enter", 1), ("ExcuseLedger$Parser", 90, "strike", 2), ("ExcuseLedger$Parser", 92, "lend", 3), ("ExcuseLedger$Parser", 94, "back", 4), ("ExcuseLedger$Parser", 96, "mend", 5), ("ExcuseLedger$Parser", 98, "use", 6), ("ExcuseLedger$Parser", 100, "strict", 7), ("ExcuseLedger$Parser", 102, "weather", 8), ("ExcuseLedger$Parser", 104, "day", 9)]
/-- what is not castable: exceptions that a handler passes, a plain node to a tree's -/
def gNC : List (String × String) := [("ExcuseLedger$BadText", "ExcuseLedger$Refusal"), ("ExcuseLedger$BadText", "java/lang/ArithmeticException"), ("ExcuseLedger$BadText", "java/lang/IllegalArgumentException"), ("ExcuseLedger$BadText", "java/lang/IllegalStateException"), ("ExcuseLedger$BadText", "java/lang/IndexOutOfBoundsException"), ("ExcuseLedger$BadText", "java/lang/UnsupportedOperationException"), ("ExcuseLedger$BadText", "java/util/NoSuchElementException"), ("ExcuseLedger$Refusal", "ExcuseLedger$BadText"), ("ExcuseLedger$Refusal", "java/lang/ArithmeticException"), ("ExcuseLedger$Refusal", "java/lang/IllegalArgumentException"), ("ExcuseLedger$Refusal", "java/lang/IllegalStateException"), ("ExcuseLedger$Refusal", "java/lang/IndexOutOfBoundsException"), ("ExcuseLedger$Refusal", "java/lang/UnsupportedOperationException"), ("ExcuseLedger$Refusal", "java/util/NoSuchElementException"), ("java/lang/ArithmeticException", "ExcuseLedger$BadText"), ("java/lang/ArithmeticException", "ExcuseLedger$Refusal"), ("java/lang/ArithmeticException", "java/lang/IllegalArgumentException"), ("java/lang/ArithmeticException", "java/lang/IllegalStateException"), ("java/lang/ArithmeticException", "java/lang/IndexOutOfBoundsException"), ("java/lang/ArithmeticException", "java/lang/UnsupportedOperationException"), ("java/lang/ArithmeticException", "java/util/NoSuchElementException"), ("java/lang/IllegalArgumentException", "ExcuseLedger$BadText"), ("java/lang/IllegalArgumentException", "ExcuseLedger$Refusal"), ("java/lang/IllegalArgumentException", "java/lang/ArithmeticException"), ("java/lang/IllegalArgumentException", "java/lang/IllegalStateException"), ("java/lang/IllegalArgumentException", "java/lang/IndexOutOfBoundsException"), ("java/lang/IllegalArgumentException", "java/lang/UnsupportedOperationException"), ("java/lang/IllegalArgumentException", "java/util/NoSuchElementException"), ("java/lang/IllegalStateException", "ExcuseLedger$BadText"), ("java/lang/IllegalStateException", "ExcuseLedger$Refusal"), ("java/lang/IllegalStateException", "java/lang/ArithmeticException"), ("java/lang/IllegalStateException", "java/lang/IllegalArgumentException"), ("java/lang/IllegalStateException", "java/lang/IndexOutOfBoundsException"), ("java/lang/IllegalStateException", "java/lang/UnsupportedOperationException"), ("java/lang/IllegalStateException", "java/util/NoSuchElementException"), ("java/lang/IndexOutOfBoundsException", "ExcuseLedger$BadText"), ("java/lang/IndexOutOfBoundsException", "ExcuseLedger$Refusal"), ("java/lang/IndexOutOfBoundsException", "java/lang/ArithmeticException"), ("java/lang/IndexOutOfBoundsException", "java/lang/IllegalArgumentException"), ("java/lang/IndexOutOfBoundsException", "java/lang/IllegalStateException"), ("java/lang/IndexOutOfBoundsException", "java/lang/UnsupportedOperationException"), ("java/lang/IndexOutOfBoundsException", "java/util/NoSuchElementException"), ("java/lang/UnsupportedOperationException", "ExcuseLedger$BadText"), ("java/lang/UnsupportedOperationException", "ExcuseLedger$Refusal"), ("java/lang/UnsupportedOperationException", "java/lang/ArithmeticException"), ("java/lang/UnsupportedOperationException", "java/lang/IllegalArgumentException"), ("java/lang/UnsupportedOperationException", "java/lang/IllegalStateException"), ("java/lang/UnsupportedOperationException", "java/lang/IndexOutOfBoundsException"), ("java/lang/UnsupportedOperationException", "java/util/NoSuchElementException"), ("java/util/NoSuchElementException", "ExcuseLedger$BadText"), ("java/util/NoSuchElementException", "ExcuseLedger$Refusal"), ("java/util/NoSuchElementException", "java/lang/ArithmeticException"), ("java/util/NoSuchElementException", "java/lang/IllegalArgumentException"), ("java/util/NoSuchElementException", "java/lang/IllegalStateException"), ("java/util/NoSuchElementException", "java/lang/IndexOutOfBoundsException"), ("java/util/NoSuchElementException", "java/lang/UnsupportedOperationException"), ("java/util/HashMap$Node", "java/util/HashMap$TreeNode"), ("java/util/LinkedHashMap$Entry", "java/util/HashMap$TreeNode")]
/-- statics whose values are known -/
def gSTA (G : gE) : List (String × String × String × Value) := [("java/util/HashSet", "PRESENT", "Ljava/lang/Object;", .ref (gA G 40)), ("java/util/ArrayList", "DEFAULTCAPACITY_EMPTY_ELEMENTDATA", "[Ljava/lang/Object;", .ref (gA G 41)), ("java/lang/Integer$IntegerCache", "cache", "[Ljava/lang/Integer;", .ref (gA G 42)), ("java/lang/Integer", "DigitOnes", "[B", .ref (gA G 43)), ("java/lang/Integer", "DigitTens", "[B", .ref (gA G 44)), ("java/lang/Integer$IntegerCache", "high", "I", .int 127), ("java/lang/String", "COMPACT_STRINGS", "Z", .int 1), ("java/lang/StrictMath", "$assertionsDisabled", "Z", .int 1)]
def gAOs : List String := ["ExcuseLedger$School", "ExcuseLedger$Pupil", "java/util/HashMap$Node", "java/lang/Object"]
/-- what the tables say at U -/
def gKn (G : gE) (U : State) : Prop := va_K (gD G) gCL (gTys G) U ∧ (∀ w ∈ gXW, va_Nw w U) ∧ (∀ C ∈ gAOs, va_AO C U) ∧ (∀ q ∈ gSTR, vk_R q.1 q.2.1 q.2.2.1 (gA G q.2.2.2) U) ∧ (∀ q ∈ gNC, va_Nc q.1 q.2 U) ∧ va_Mi "[Ljava/lang/Object;" (gA G 45) U
/-- what the statics hold at U, H -/
def gKz (G : gE) (U : State) (H : Heap) : Prop := (∀ q ∈ gSTA G, va_Z q.1 q.2.1 q.2.2.1 q.2.2.2 (gF G) U H) ∧ vx_Zq Bundle.tN "UNASSIGNED_STACK" Bundle.steD (gF G) U H ∧ vx_Zq Bundle.tN "SUPPRESSED_SENTINEL" Bundle.listD (gF G) U H ∧ va_Zq "jdk/internal/util/Preconditions" "SIOOBE_FORMATTER" "Ljava/util/function/BiFunction;" (gF G) U H
theorem gKn.warm {G : gE} {s U : State} (hW : s.WarmedH U.vm) (h : gKn G s) : gKn G U :=
  ⟨va_K.moved hW.alike h.1, fun w hw => nw_warm hW w (List.mem_filter.mp hw).2 (h.2.1 w hw), fun C hC => va_AO.moved hW.alike (h.2.2.1 C hC), fun q hq => vk_R.warm hW (h.2.2.2.1 q hq), fun q hq => va_Nc.moved hW.alike (h.2.2.2.2.1 q hq), va_Mi.moved hW.alike h.2.2.2.2.2⟩
theorem gKz.moved {G : gE} {u U : State} {H : Heap} (hvm : u.vm.Alike U.vm) (h : gKz G u H) : gKz G U H :=
  ⟨fun q hq => va_Z.moved hvm (h.1 q hq), vx_Zq.moved hvm h.2.1, vx_Zq.moved hvm h.2.2.1, va_Zq.moved hvm h.2.2.2⟩
theorem gKz.kept {G : gE} {U : State} {H H1 : Heap} (h : gKz G U H) (hq : ∀ a : Nat, a < H.size → ¬ gF G a → H1[a]? = H[a]?) : gKz G U H1 :=
  ⟨fun q hm => va_Z.kept (h.1 q hm) hq, vx_Zq.kept h.2.1 hq, vx_Zq.kept h.2.2.1 hq, va_Zq.kept h.2.2.2 hq⟩
-- ===== a method's contract =====
def cPre (G : gE) (σ : hSt) (vals : List Value) (pre : Prop) : Array Value → State → Prop := va_Pc vals (fun U => pre ∧ gKn G U ∧ gKz G U U.heap ∧ Sh0 G σ U U.heap)
def cQ (G : gE) (P : Option Value → hSt → Prop) : Array Value → State → Outcome → State → Prop := fun _ st oc t => ∃ v σ', oc = .returned v ∧ P v σ' ∧ Sh0 G σ' t t.heap ∧ va_F (gF G) st t
def cX (G : gE) (PX : Nat → Nat → hSt → Prop) : String → Addr → State → State → Prop := fun E q st t => ∃ ci σ' r, gCL[ci]? = some r ∧ r.1 = E ∧ PX ci q σ' ∧ Sh0 G σ' t t.heap ∧ va_F (gF G) st t
def cM (l : Launch) (G : gE) (y : MethodName) (ws : List Cond) (fr lo : Nat) (σ : hSt) (vals : List Value) (pre : Prop) (P : Option Value → hSt → Prop) (PX : Nat → Nat → hSt → Prop) : Prop :=
  vx_Met l y ws { frames := fr, cells := gL G - σ.2.1, slots := gU G - σ.2.2, locals := lo } (cPre G σ vals pre) (cQ G P) (cX G PX) (gL G - σ.2.1) (gU G - σ.2.2) (gF G)
theorem cPre_blind (G : gE) (σ : hSt) (vals : List Value) (pre : Prop) : FrameBlind (cPre G σ vals pre) := by
  intro a U g mk h
  obtain ⟨h1, h2, h3, h4, h5⟩ := h
  exact ⟨h1, h2, gKn.warm (s := U) (U := U.calling g mk a) (State.WarmedH.refl U) h3, gKz.moved (u := U) (U := U.calling g mk a) (Vm.Alike.refl U.vm) h4, Sh0.moved (u := U) (U := U.calling g mk a) (Vm.Alike.refl U.vm) h5⟩
/-- what a walk stands on -/
abbrev xC (G : gE) (p : Program) (l : Launch) (s : State) (m : MethodId) (args : Array Value) (meth : Method) (c : Code) (cc : ByteArray) (nL : Nat) (own : String) : Prop :=
  p.tables.exec = Jvm.exec ∧ c.code = cc ∧ c.maxLocals = nL ∧ s.vm.findClass own = some m.cls ∧ (∀ w ∈ lw_all, w.before args s = true) ∧ meth.locks = false ∧ l.stackTraces = false ∧ gKn G s ∧ gKz G s s.heap
section BASE
variable {p : Program} {l : Launch} {e : Env} {R : Room} {s : State} {m : MethodId} {args : Array Value} {below : List Frame} {meth : Method} {c : Code} {H : Heap} {locs : List Loc} {cells slots : Nat} {Q : State → Prop} {g : JFrame}
variable {G : gE} {σ : hSt} {cc : ByteArray} {nL : Nat} {own : String} {pc : Nat} {ls : Array Slot} {rest : List Value}
theorem stand_tight {k n : Nat} {T : State} (hS : Sh G σ s H locs) (hT : T.heap = H) (X : Stand p l e R s m args below meth c T locs k n) : Stand p l e R s m args below meth c T locs (σ.2.1 - s.heap.size) (σ.2.2 - hsum s.heap) := by
  have hb := X.book
  have h0 : s.slotsTrue = true := by
    have h := X.room
    simp only [State.hasRoom, Bool.and_eq_true] at h
    exact h.2
  refine { X with same := ?_ }
  obtain ⟨x1, x2, x3, x4, x5, x6⟩ := X.same
  have e1 : T.slotsUsed = hsum T.heap := by
    unfold State.slotsTrue at hb
    rw [hsum_fold] at hb
    exact eq_of_beq hb
  have e2 : s.slotsUsed = hsum s.heap := by
    unfold State.slotsTrue at h0
    rw [hsum_fold] at h0
    exact eq_of_beq h0
  have e3 : T.slotsUsed = s.slotsUsed + ((T.heap.toList.drop s.heap.size).map (·.slots.size)).sum := x4
  have e4 : hsum T.heap = σ.2.2 := by rw [hT]; exact hS.1.2.2.1
  have e5 : T.heap.size = σ.2.1 := by rw [hT]; exact hS.1.2.1
  have e6 : s.heap.size ≤ T.heap.size := by rw [hT]; exact hS.2.1
  refine ⟨x1, x2, ?_, x4, ?_, x6⟩
  · show T.heap.size ≤ s.heap.size + (σ.2.1 - s.heap.size)
    omega
  · show ((T.heap.toList.drop s.heap.size).map (·.slots.size)).sum ≤ σ.2.2 - hsum s.heap
    omega
theorem W_tight (hS : Sh G σ s H locs) (k : W p l e R s m args below meth c H locs (σ.2.1 - s.heap.size) (σ.2.2 - hsum s.heap) Q g) : W p l e R s m args below meth c H locs cells slots Q g := fun T hT X => k T hT (stand_tight hS hT X)
theorem vx_tight {q : Addr} (hS : Sh G σ s H locs) (k : vx_W p l e R s m args below meth c H locs (σ.2.1 - s.heap.size) (σ.2.2 - hsum s.heap) Q g q) : vx_W p l e R s m args below meth c H locs cells slots Q g q := fun T hT X => k T hT (stand_tight hS hT X)
/-- a cell's new contents -/
theorem Sh.put {H1 : Heap} {a i : Nat} {e0 e1 : hE} {c0 c1 : Cell} (hS : Sh G σ s H locs) (ha : gF G a) (h0 : H[a]? = some c0) (h1 : H1[a]? = some c1) (hz : c1.slots.size = c0.slots.size) (z : H1.size = H.size) (o : ∀ q, q ≠ a → H1[q]? = H[q]?) (he : gCell G s H1 a e1) : Sh G (hset σ a e1) s H1 (locs ++ [⟨a, i⟩]) := by
  obtain ⟨⟨x1, x2, x3, x4, x5, x6⟩, x7⟩ := hS
  refine ⟨⟨fun b e hb => ?_, z.trans x2, (hsum_set h0 h1 hz o).trans x3, x4, x5, fun b hb => by rw [z]; exact x6 b hb⟩, x7.put z o ha⟩
  by_cases hba : b = a
  · subst hba
    have h2 : hup σ.1 b e1 b = some e := hb
    rw [hup_s] at h2
    cases h2
    exact he
  · have h2 : hup σ.1 a e1 b = some e := hb
    rw [hup_n hba] at h2
    exact (x1 b e h2).kept (o b hba)
/-- a cell made -/
theorem Sh.push {H1 : Heap} {e1 : hE} {c1 : Cell} {N : Nat} (hS : Sh G σ s H locs) (hl : σ.2.1 + 1 ≤ gL G) (hu : σ.2.2 + N ≤ gU G) (h1 : H1[H.size]? = some c1) (hz : c1.slots.size = N) (z : H1.size = H.size + 1) (o : ∀ q, q < H.size → H1[q]? = H[q]?) (he : gCell G s H1 H.size e1) : Sh G (hnew σ e1 N) s H1 locs := by
  obtain ⟨⟨x1, x2, x3, x4, x5, x6⟩, x7, x8, x9⟩ := hS
  have hp := push_of z h1 o
  refine ⟨⟨fun b e hb => ?_, ?_, ?_, hl, hu, fun b hb => by rw [z]; exact Nat.lt_succ_of_lt (x6 b hb)⟩, ⟨by omega, fun q hq1 hq2 => (o q (by omega)).trans (x8 q hq1 hq2), x9⟩⟩
  · by_cases hba : b = σ.2.1
    · have h2 : hup σ.1 σ.2.1 e1 b = some e := hb
      rw [hba, hup_s] at h2
      cases h2
      rw [hba, ← x2]
      exact he
    · have h2 : hup σ.1 σ.2.1 e1 b = some e := hb
      rw [hup_n hba] at h2
      have h3 := x1 b e h2
      exact h3.kept (o b h3.lt)
  · show H1.size = σ.2.1 + 1
    omega
  · show hsum H1 = σ.2.2 + N
    rw [hp, hsum_push, x3, hz]
-- ===== fields =====
/-- the field k of the classes L -/
def fOk (L : List Nat) (k : Nat) (dn fn fd : String) (ty : FieldType) (fin : Bool) : Prop := ∀ ci ∈ L, ∃ (Cn : String) (T : u_T) (N : Nat) (ty0 : Nat → FieldType), gCL[ci]? = some (Cn, T, N) ∧ (∀ w ∈ u_ws Cn T N, w ∈ lw_all) ∧ (∀ k, k < N → parseFieldDescriptor (T k).2.2.1 = some (ty0 k)) ∧ (∀ a, a < N → ∀ b, b < N → a ≠ b → (T a).2.1 ≠ (T b).2.1) ∧ k < N ∧ T k = (dn, fn, fd, fin) ∧ ty0 k = ty
/-- the field's entry, plain or a nest mate's -/
def fLk (args : Array Value) (s : State) (own : String) (idx : Nat) (ref fn fd : String) : Prop := (Cond.fieldLink own idx ref fn fd).before args s = true ∨ ∃ host, (Cond.fieldLinkNest own idx ref fn fd host).before args s = true
theorem fl_d {idx : Nat} {ref fn fd : String} (C : xC G p l s m args meth c cc nL own) (h : Cond.fieldLink own idx ref fn fd ∈ lw_all) : fLk args s own idx ref fn fd := Or.inl (C.2.2.2.2.1 _ h)
theorem fl_n {idx : Nat} {ref fn fd host : String} (C : xC G p l s m args meth c cc nL own) (h : Cond.fieldLinkNest own idx ref fn fd host ∈ lw_tbl) : fLk args s own idx ref fn fd := Or.inr ⟨host, va_Nw.use rfl (C.2.2.2.2.2.2.2.1.2.1 _ (gx h rfl))⟩
theorem r_get {L : List Nat} {k idx : Nat} {dn ref fn fd : String} {ty : FieldType} {fin : Bool} {r : Option Nat} {KV : Value → Prop} (C : xC G p l s m args meth c cc nL own) (hS : Sh G σ s H locs) (hF : fOk L k dn fn fd ty fin) (hlk : fLk args s own idx ref fn fd) (hsame : ∀ x, s.fieldFound? dn fn fd = some x → s.fieldFound? ref fn fd = some x) (hdg : decode cc pc = .ok (.getfield idx, 3))
    (hw : ∃ a ci fs v, r = some a ∧ σ.1 a = some (.inr (ci, fs)) ∧ ci ∈ L ∧ fs[k]? = some v ∧ KV v)
    (kk : ∀ v, KV v → W p l e R s m args below meth c H locs cells slots Q (F0 m (pc + 3) ls (v :: rest))) : W p l e R s m args below meth c H locs cells slots Q (F0 m pc ls (va_rf r :: rest)) := by
  obtain ⟨a, ci, fs, v, rfl, h1, hL, hv, hK⟩ := hw
  obtain ⟨Cn, T, N, ty0, hc, hin, hty, hnm, hk, hT, hty0⟩ := hF ci hL
  obtain ⟨r, g1, g0, cell, q1, q2, q3, q3s, q4, q5, q6⟩ := hS.1.1 a _ h1
  obtain ⟨hx, hb, hml, hown, hts, hlocks, htr, hKn, hKz⟩ := C
  have hr : r = (Cn, T, N) := Option.some.inj (g1.symm.trans hc)
  subst hr
  obtain ⟨hSl, hfc, kC, hkC, hkind⟩ := hKn.1.1 ci _ hc
  obtain ⟨cf, kf, fi, f, hi, hsl⟩ := hSl k hk
  have hst := (u_facts hfc hkC (u_lays hts hin hk) hi).1
  simp only [hT] at hi
  have hslot : cell.slots[f.slot]? = some v := by
    rw [hsl, q6 k hk]
    simp [vp_V, hv]
  rcases hlk with hl | ⟨host, hl⟩
  · exact W.getf hx hb hown hl (hsame _ hi) hst q1 q3 hslot rfl rfl hdg (kk v hK)
  · exact va_Wgetf hx hb hown hl (hsame _ hi) hst q1 q3 hslot rfl rfl hdg (kk v hK)
theorem r_getI {L : List Nat} {k idx : Nat} {dn ref fn fd : String} {ty : FieldType} {fin : Bool} {r : Option Nat} {K : Int32 → Prop} (C : xC G p l s m args meth c cc nL own) (hS : Sh G σ s H locs) (hF : fOk L k dn fn fd ty fin) (hlk : fLk args s own idx ref fn fd) (hsame : ∀ x, s.fieldFound? dn fn fd = some x → s.fieldFound? ref fn fd = some x) (hdg : decode cc pc = .ok (.getfield idx, 3)) (hw : gtI σ r L k K)
    (kk : ∀ x, K x → W p l e R s m args below meth c H locs cells slots Q (F0 m (pc + 3) ls (.int x :: rest))) : W p l e R s m args below meth c H locs cells slots Q (F0 m pc ls (va_rf r :: rest)) := by
  obtain ⟨a, ci, fs, x, h1, h2, h3, h4, h5⟩ := hw
  exact r_get (KV := fun v => ∃ x, v = .int x ∧ K x) C hS hF hlk hsame hdg ⟨a, ci, fs, _, h1, h2, h3, h4, x, rfl, h5⟩ (fun v hv => by obtain ⟨x, rfl, h⟩ := hv; exact kk x h)
theorem r_getF {L : List Nat} {k idx : Nat} {dn ref fn fd : String} {ty : FieldType} {fin : Bool} {r : Option Nat} {K : UInt32 → Prop} (C : xC G p l s m args meth c cc nL own) (hS : Sh G σ s H locs) (hF : fOk L k dn fn fd ty fin) (hlk : fLk args s own idx ref fn fd) (hsame : ∀ x, s.fieldFound? dn fn fd = some x → s.fieldFound? ref fn fd = some x) (hdg : decode cc pc = .ok (.getfield idx, 3)) (hw : gtF σ r L k K)
    (kk : ∀ x, K x → W p l e R s m args below meth c H locs cells slots Q (F0 m (pc + 3) ls (.float x :: rest))) : W p l e R s m args below meth c H locs cells slots Q (F0 m pc ls (va_rf r :: rest)) := by
  obtain ⟨a, ci, fs, x, h1, h2, h3, h4, h5⟩ := hw
  exact r_get (KV := fun v => ∃ x, v = .float x ∧ K x) C hS hF hlk hsame hdg ⟨a, ci, fs, _, h1, h2, h3, h4, x, rfl, h5⟩ (fun v hv => by obtain ⟨x, rfl, h⟩ := hv; exact kk x h)
theorem r_getR {L : List Nat} {k idx : Nat} {dn ref fn fd : String} {ty : FieldType} {fin : Bool} {r : Option Nat} {K : Option Nat → Prop} (C : xC G p l s m args meth c cc nL own) (hS : Sh G σ s H locs) (hF : fOk L k dn fn fd ty fin) (hlk : fLk args s own idx ref fn fd) (hsame : ∀ x, s.fieldFound? dn fn fd = some x → s.fieldFound? ref fn fd = some x) (hdg : decode cc pc = .ok (.getfield idx, 3)) (hw : gtR σ r L k K)
    (kk : ∀ x, K x → W p l e R s m args below meth c H locs cells slots Q (F0 m (pc + 3) ls (va_rf x :: rest))) : W p l e R s m args below meth c H locs cells slots Q (F0 m pc ls (va_rf r :: rest)) := by
  obtain ⟨a, ci, fs, x, h1, h2, h3, h4, h5⟩ := hw
  exact r_get (KV := fun v => ∃ x, v = va_rf x ∧ K x) C hS hF hlk hsame hdg ⟨a, ci, fs, _, h1, h2, h3, h4, x, rfl, h5⟩ (fun v hv => by obtain ⟨x, rfl, h⟩ := hv; exact kk x h)
/-- the end of a store into a field: the cell's new contents -/
theorem put_cell {ci k : Nat} {a : Nat} {fs : List Value} {v : Value} {Cn : String} {T : u_T} {N : Nat} {cell : Cell} {H1 : Heap} {i : Nat} (hS : Sh G σ s H locs) (hXa : gF G a) (hc : gCL[ci]? = some (Cn, T, N)) (hk : k < N) (hlen : fs.length = N) (q1 : H[a]? = some cell) (q2 : cell.cls = (gD G).1 ci) (q4 : cell.vm = .none ∧ ((ci = 8 ∨ ci = 11) → cell.monitor.owner = none ∧ cell.monitor.count = 0)) (q6 : ∀ k, k < N → cell.slots[(gD G).2 ci k]? = some (vp_V fs k))
    (hap : ∀ x y, x < N → y < N → x ≠ y → (gD G).2 ci x ≠ (gD G).2 ci y) (e1 : H1[a]? = some (cell.setSlot ((gD G).2 ci k) v)) (e2 : H1.size = H.size) (e3 : ∀ q, q ≠ a → H1[q]? = H[q]?) : Sh G (hset σ a (.inr (ci, fs.set k v))) s H1 (locs ++ [⟨a, i⟩]) := by
  refine hS.put (e0 := .inr (ci, fs)) hXa q1 e1 (by simp [Cell.setSlot]) e2 e3 ?_
  refine ⟨(Cn, T, N), hc, by rw [List.length_set]; exact hlen, cell.setSlot ((gD G).2 ci k) v, e1, q2, (fun h => nomatch (q4.1.symm.trans h : VmData.none = VmData.unknown)), (by show cell.vm.isStatics = false; rw [q4.1]; rfl), fun _ => q4, fun h => absurd h hXa, fun j hj => ?_⟩
  have h9 := t_set (V := vp_V fs) (fun k hk => q6 k hk) hap hk v j hj
  rw [h9]
  exact congrArg some (vp_updV_set (by omega) v j)
theorem r_put {L : List Nat} {k idx : Nat} {dn ref fn fd : String} {ty : FieldType} {r : Option Nat} {v : Value} {K : hSt → Prop} (C : xC G p l s m args meth c cc nL own) (hS : Sh G σ s H locs) (hF : fOk L k dn fn fd ty false) (hlk : fLk args s own idx ref fn fd) (hsame : ∀ x, s.fieldFound? dn fn fd = some x → s.fieldFound? ref fn fd = some x) (hn : narrow ty v = v) (hfit : fits ty v = true) (hdg : decode cc pc = .ok (.putfield idx, 3)) (hw : ptV G σ r L k v K)
    (kk : ∀ σ' H1 locs1, K σ' → Sh G σ' s H1 locs1 → W p l e R s m args below meth c H1 locs1 (σ'.2.1 - s.heap.size) (σ'.2.2 - hsum s.heap) Q (F0 m (pc + 3) ls rest)) : W p l e R s m args below meth c H locs cells slots Q (F0 m pc ls (v :: va_rf r :: rest)) := by
  obtain ⟨a, ci, fs, rfl, h1, hL, hlen, hX, hK⟩ := hw
  obtain ⟨Cn, T, N, ty0, hc, hin, hty, hnm, hk, hT, hty0⟩ := hF ci hL
  obtain ⟨r, g1, g0, cell, q1, q2, q3, q3s, q4, q5, q6⟩ := hS.1.1 a _ h1
  obtain ⟨hx, hb, hml, hown, hts, hlocks, htr, hKn, hKz⟩ := C
  have hr : r = (Cn, T, N) := Option.some.inj (g1.symm.trans hc)
  subst hr
  have hXa : ¬ gX G a := fun h => hX (q5 h) h
  have hap := va_apart (own := own) hts hin ty0 hty hnm hKn.1 hc
  obtain ⟨hSl, hfc, kC, hkC, hkind⟩ := hKn.1.1 ci _ hc
  obtain ⟨cf, kf, fi, f, hi, hsl⟩ := hSl k hk
  have hlay := hts _ (hin _ (u_in_lay hk))
  unfold u_lay at hlay
  rw [if_neg (by rw [hT]; exact Bool.false_ne_true)] at hlay
  have hst := (u_facts hfc hkC (u_lays hts hin hk) hi).1
  have h6 := u_store (ty := ty) hfc hkC hkind hlay hi (by have h9 := hty k hk; rw [hty0] at h9; exact h9) hn hfit
  simp only [hT] at hi
  rcases hlk with hl | ⟨host, hl⟩
  · refine W_tight hS (W.putK hx hb ⟨hown, hl, ⟨_, _, _, hsame _ hi⟩, hst⟩ (by rw [q2]; exact h6) q1 (q4 hXa).1 (by rw [hsl]; exact k2_hasslot (q6 k hk)) rfl rfl hdg fun H' e1 e2 e3 => ?_)
    rw [hsl] at e1 ⊢
    have hS' := put_cell (i := (gD G).2 ci k) hS hXa hc hk g0 q1 q2 (q4 hXa) q6 hap e1 e2 e3
    exact W_tight hS' (kk _ _ _ hK hS')
  · refine W_tight hS (va_WputK hx hb (f := f) hown hl (hsame _ hi) hst (by rw [q2]; exact h6) q1 (q4 hXa).1 (by rw [hsl]; exact k2_hasslot (q6 k hk)) rfl rfl hdg fun H' e1 e2 e3 => ?_)
    rw [hsl] at e1 ⊢
    have hS' := put_cell (i := (gD G).2 ci k) hS hXa hc hk g0 q1 q2 (q4 hXa) q6 hap e1 e2 e3
    exact W_tight hS' (kk _ _ _ hK hS')
/-- a final field, in its class's constructor -/
theorem r_putF {L : List Nat} {k idx : Nat} {dn ref fn fd : String} {ty : FieldType} {r : Option Nat} {v : Value} {K : hSt → Prop} (C : xC G p l s m args meth c cc nL own) (hS : Sh G σ s H locs) (hF : fOk L k dn fn fd ty true) (hl : (Cond.fieldLink own idx ref fn fd).before args s = true) (hsame : ∀ x, s.fieldFound? dn fn fd = some x → s.fieldFound? ref fn fd = some x) (hin2 : meth.name = "<init>") (hdecl : dn = own) (hn : narrow ty v = v) (hfit : fits ty v = true) (hdg : decode cc pc = .ok (.putfield idx, 3)) (hw : ptV G σ r L k v K)
    (kk : ∀ σ' H1 locs1, K σ' → Sh G σ' s H1 locs1 → W p l e R s m args below meth c H1 locs1 (σ'.2.1 - s.heap.size) (σ'.2.2 - hsum s.heap) Q (F0 m (pc + 3) ls rest)) : W p l e R s m args below meth c H locs cells slots Q (F0 m pc ls (v :: va_rf r :: rest)) := by
  obtain ⟨a, ci, fs, rfl, h1, hL, hlen, hX, hK⟩ := hw
  obtain ⟨Cn, T, N, ty0, hc, hin, hty, hnm, hk, hT, hty0⟩ := hF ci hL
  obtain ⟨r, g1, g0, cell, q1, q2, q3, q3s, q4, q5, q6⟩ := hS.1.1 a _ h1
  obtain ⟨hx, hb, hml, hown, hts, hlocks, htr, hKn, hKz⟩ := C
  have hr : r = (Cn, T, N) := Option.some.inj (g1.symm.trans hc)
  subst hr
  have hXa : ¬ gX G a := fun h => hX (q5 h) h
  have hap := va_apart (own := own) hts hin ty0 hty hnm hKn.1 hc
  obtain ⟨hSl, hfc, kC, hkC, hkind⟩ := hKn.1.1 ci _ hc
  obtain ⟨cf, kf, fi, f, hi, hsl⟩ := hSl k hk
  have hlay := hts _ (hin _ (u_in_lay hk))
  unfold u_lay at hlay
  rw [if_pos (by rw [hT])] at hlay
  have hst := (u_facts hfc hkC (u_lays hts hin hk) hi).1
  have hcf : m.cls = cf := by
    obtain ⟨_, _, c', _, _, _, -, -, hf', -, -, -, hown2, -⟩ := Cond.laysFinal_spec hlay
    have e1 : c' = cf := by have := hi.symm.trans hf'; simp at this; exact this.1.symm
    rw [hT] at hown2
    simp only [hdecl] at hown2
    rw [← e1]; exact Option.some.inj (hown.symm.trans hown2)
  have h6 := u_fits (ty := ty) hfc hkC hkind (Or.inr hlay) hi (by have h9 := hty k hk; rw [hty0] at h9; exact h9) hn hfit
  simp only [hT] at hi
  refine W_tight hS (W.putFinK hx hb hown hl (hsame _ hi) hst hcf hin2 (by rw [q2]; exact h6) q1 (q4 hXa).1 (by rw [hsl]; exact k2_hasslot (q6 k hk)) rfl rfl hdg fun H' e1 e2 e3 => ?_)
  rw [hsl] at e1 ⊢
  have hS' := put_cell (i := (gD G).2 ci k) hS hXa hc hk g0 q1 q2 (q4 hXa) q6 hap e1 e2 e3
  exact W_tight hS' (kk _ _ _ hK hS')
end BASE
