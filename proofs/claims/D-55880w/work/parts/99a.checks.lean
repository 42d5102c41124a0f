/-! the object's checks -/
set_option maxRecDepth 100000
section CHK
variable {G : gE} {σ : hSt} {PX : Nat → Nat → hSt → Prop} {K : hSt → Prop} {P : Int32 → hSt → Prop}
/-- an exception of the class ci thrown -/
abbrev XC (G : gE) (σ : hSt) (PX : Nat → Nat → hSt → Prop) (ci : Nat) : Prop := ∀ τ q, ev G W0 7 σ τ → τ.1 q = some (.inr (ci, [])) → PX ci q τ
theorem mkx_k {ci : Nat} (hS : SI G σ) (hb : bd G σ 7) (hc : ci ≠ 12 ∧ ci ≠ 13) (h : XC G σ PX ci) : mkE G σ ci (fun x1 z2 => (rcv z2 (some x1) ci ∧ ∀ q, (some x1) = some q → PX ci q z2)) :=
  nE hS hb hc fun a τ n e => ⟨rco n.2.1, fun q hq => by cases hq; exact h τ _ e n.2.1⟩
theorem chkA_k {v : Int32} (hS : SI G σ) (hb : bd G σ 7) (h1 : v ≠ 0 → K σ) (h0 : v = 0 → XC G σ PX 29) : wX1_checkArgument G K PX v σ := by
  unfold wX1_checkArgument wX1_checkArgumentb0
  exact ⟨h1, fun w => mkx_k hS hb (by omega) (h0 w)⟩
theorem chkI_k {v : Int32} (hS : SI G σ) (hb : bd G σ 7) (h1 : v ≠ 0 → K σ) (h0 : v = 0 → XC G σ PX 32) : wX1_checkIndex G K PX v σ := by
  unfold wX1_checkIndex wX1_checkIndexb0
  exact ⟨h1, fun w => mkx_k hS hb (by omega) (h0 w)⟩
theorem chkE_k {v : Int32} (hS : SI G σ) (hb : bd G σ 7) (h1 : v ≠ 0 → K σ) (h0 : v = 0 → XC G σ PX 28) : wX1_checkElement G K PX v σ := by
  unfold wX1_checkElement wX1_checkElementb0
  exact ⟨h1, fun w => mkx_k hS hb (by omega) (h0 w)⟩
theorem chkC_k {v : Int32} (hS : SI G σ) (hb : bd G σ 7) (h1 : v ≠ 0 → K σ) (h0 : v = 0 → XC G σ PX 33) : wX1_checkCount G K PX v σ := by
  unfold wX1_checkCount wX1_checkCountb0
  exact ⟨h1, fun w => mkx_k hS hb (by omega) (h0 w)⟩
theorem isTop_k {v : Int32} (h1 : isE v → P 1 σ) (h0 : ¬ isE v → P 0 σ) : wX1_isTopic G P PX v σ := by
  unfold wX1_isTopic wX1_isTopicb0
  exact isIn_k (fun w => ⟨ok_b1, h1 w⟩) fun w => ⟨ok_b0, h0 w⟩
theorem isExc_k {k t : Int32} (h1 : isX k t → P 1 σ) (h0 : ¬ isX k t → P 0 σ) : wX1_isExcuse G P PX k t σ := by
  unfold wX1_isExcuse wX1_isExcuseb0 wX1_isExcuseb20
  exact isIn_k (fun w => ⟨fun u => absurd u n10, fun _ => isTop_k (fun w2 => ⟨fun u => absurd u n10, fun _ => ⟨ok_b1, h1 ⟨w, w2⟩⟩⟩) fun w2 => ⟨fun _ => ⟨ok_b0, h0 fun u => w2 u.2⟩, fun u => absurd rfl u⟩⟩) fun w => ⟨fun _ => ⟨ok_b0, h0 fun u => w u.1⟩, fun u => absurd rfl u⟩
theorem cname_k {P : Option Nat → hSt → Prop} {k t : Int32} (hS : SI G σ) (hb : bd G σ 10) (h1 : ∀ k' t' τ nm, k = Int32.ofNat k' → k' < 4 → t = Int32.ofNat t' → t' < 10 → ev G W0 3 σ τ → KY τ 5 nm (10 * k' + t') → P (some nm) τ) (h0 : ¬ isX k t → XC G σ PX 29) : wX1_checkedName G P PX k t σ := by
  unfold wX1_checkedName wX1_checkedNameb0
  refine isExc_k (fun w => chkA_k hS (hb.mono (by omega)) (fun _ => ?_) fun u => absurd u n10) fun w => chkA_k hS (hb.mono (by omega)) (fun u => absurd rfl u) fun _ => h0 w
  obtain ⟨k', hk, rfl⟩ := i_of (n := 3) w.1.1 w.1.2 (by omega)
  obtain ⟨t', ht, rfl⟩ := i_of (n := 9) w.2.1 w.2.2 (by omega)
  refine nO hS (hb.mono (by omega)) (fun w => by omega) fun a τ n hXa e => ⟨⟨a, rfl⟩, name_k e.t (by omega) (by omega) n.2.1 fun τ2 e2 hky => h1 k' t' τ2 a rfl (by omega) rfl (by omega) ((e.f1 e2 (by rw [n.1]; exact Nat.le_refl _)).le' (by omega)) hky⟩
theorem found_k {v : Int32} (hS : SI G σ) (hb : bd G σ 7) (h1 : v ≠ -1 → P v σ) (h0 : v = -1 → XC G σ PX 28) : wX1_checkedFound G P PX v σ := by
  unfold wX1_checkedFound wX1_checkedFoundb0 wX1_checkedFoundb10
  exact ⟨fun w => chkE_k hS hb (fun u => absurd rfl u) fun _ => h0 w, fun w => chkE_k hS hb (fun _ => h1 w) fun u => absurd u n10⟩
end CHK
