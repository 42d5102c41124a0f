/-! small ints as natural numbers; loops that count -/
set_option maxRecDepth 100000
theorem i_toInt {n : Nat} (h : n < 2147483648) : (Int32.ofNat n).toInt = (n : Int) := Int32.toInt_ofNat_of_lt h
theorem i_nat {n : Nat} (h : n < 2147483648) : (Int32.ofNat n).toNatClampNeg = n := by
  show (Int32.ofNat n).toInt.toNat = n
  rw [i_toInt h]
  rfl
theorem i_lt {a b : Nat} (ha : a < 2147483648) (hb : b < 2147483648) : (Int32.ofNat a < Int32.ofNat b) ↔ a < b := by
  rw [Int32.lt_iff_toInt_lt, i_toInt ha, i_toInt hb]
  omega
theorem i_le {a b : Nat} (ha : a < 2147483648) (hb : b < 2147483648) : (Int32.ofNat a ≤ Int32.ofNat b) ↔ a ≤ b := by
  rw [Int32.le_iff_toInt_le, i_toInt ha, i_toInt hb]
  omega
theorem i_eq {a b : Nat} (ha : a < 2147483648) (hb : b < 2147483648) : (Int32.ofNat a = Int32.ofNat b) ↔ a = b := by
  rw [← Int32.toInt_inj, i_toInt ha, i_toInt hb]
  omega
theorem i_add (a b : Nat) : Int32.ofNat a + Int32.ofNat b = Int32.ofNat (a + b) := (Int32.ofNat_add a b).symm
theorem i_mul (a b : Nat) : Int32.ofNat a * Int32.ofNat b = Int32.ofNat (a * b) := (Int32.ofNat_mul a b).symm
theorem i_succ (a : Nat) : Int32.ofNat a + 1 = Int32.ofNat (a + 1) := (Int32.ofNat_add a 1).symm
theorem i_sub {a b : Nat} (h : b ≤ a) : Int32.ofNat a - Int32.ofNat b = Int32.ofNat (a - b) := by
  have h1 : Int32.ofNat a = Int32.ofNat (a - b) + Int32.ofNat b := by rw [i_add]; congr 1; omega
  rw [h1, Int32.add_sub_cancel]
theorem i_nn {n : Nat} (h : n < 2147483648) : ¬ Int32.ofNat n < 0 := by
  rw [show (0 : Int32) = Int32.ofNat 0 from rfl, i_lt h (by omega)]
  omega
theorem i_in {k n : Nat} (h : k < 2147483648) (hk : k < n) : vp_in (Int32.ofNat k) n := by
  unfold vp_in
  rw [i_nat h]
  exact fun q => q.elim (i_nn h) (fun q => Nat.not_le.mpr hk q)
/-- an int that lies between 0 and a bound is a natural number's -/
theorem i_of {x : Int32} {n : Nat} (h0 : ¬ x < 0) (h1 : ¬ Int32.ofNat n < x) (hn : n < 2147483648) : ∃ k, k ≤ n ∧ x = Int32.ofNat k := by
  have a : (0 : Int) ≤ x.toInt := by
    have := Int32.not_lt.mp h0
    simpa using Int32.le_iff_toInt_le.mp this
  have b : x.toInt ≤ n := by
    have := Int32.le_iff_toInt_le.mp (Int32.not_lt.mp h1)
    rwa [i_toInt hn] at this
  refine ⟨x.toInt.toNat, by omega, ?_⟩
  apply Int32.toInt_inj.mp
  rw [i_toInt (by omega)]
  omega
/-- a loop that counts up: its states by the count -/
theorem lp_det {α : Type} {F : (α → Prop) → α → Prop} {x : α} (n : Nat) (st : Nat → α) (m : α → Nat) (hm : ∀ e, e ≤ n → m (st e) = n - e) (h0 : x = st 0) (hs : ∀ (e : Nat), e ≤ n → ∀ K : α → Prop, (e < n → K (st (e + 1))) → F K (st e)) : lpI F x := by
  refine ⟨fun y => ∃ e, e ≤ n ∧ y = st e, m, ⟨0, Nat.zero_le _, h0⟩, ?_⟩
  rintro y ⟨e, he, rfl⟩
  refine hs e he _ fun hl => ⟨⟨e + 1, hl, rfl⟩, ?_⟩
  rw [hm e he, hm (e + 1) hl]
  omega
/-- the same, the count beginning at b -/
theorem lp_from {α : Type} {F : (α → Prop) → α → Prop} {x : α} (b n : Nat) (hb : b ≤ n) (st : Nat → α) (m : α → Nat) (hm : ∀ e, b ≤ e → e ≤ n → m (st e) = n - e) (h0 : x = st b) (hs : ∀ (e : Nat), b ≤ e → e ≤ n → ∀ K : α → Prop, (e < n → K (st (e + 1))) → F K (st e)) : lpI F x := by
  refine ⟨fun y => ∃ e, b ≤ e ∧ e ≤ n ∧ y = st e, m, ⟨b, Nat.le_refl _, hb, h0⟩, ?_⟩
  rintro y ⟨e, he0, he, rfl⟩
  refine hs e he0 he _ fun hl => ⟨⟨e + 1, by omega, hl, rfl⟩, ?_⟩
  rw [hm e he0 he, hm (e + 1) (by omega) hl]
  omega
theorem ok_b0 : okN .boolean 0 := ⟨rfl, rfl⟩
theorem ok_b1 : okN .boolean 1 := ⟨rfl, rfl⟩
