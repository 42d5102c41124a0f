/-! copies: a school; a ledger's cells -/
set_option maxRecDepth 100000
section CP4
variable {G : gE} {σ : hSt} {PX : Nat → Nat → hSt → Prop} {K : hSt → Prop} {P : Option Nat → hSt → Prop}
theorem schI {b : Nat} {D : Nat → Prop} (hS : SI G σ) (h0 : σ.1 b = some (.inr (2, dfX3))) (hb : bd G σ 11) (hD : ∀ a, σ.2.1 ≤ a → D a) (hK : ∀ τ h m, ev G (W1 b 2) 11 σ τ → σ.2.1 ≤ h → σ.2.1 ≤ m → τ.1 b = some (.inr (2, [va_rf (some h), .int 5, .int 0, .int 0])) → HS G τ D h m 0 0 (fun _ => False) → K τ) : wX3_init G K PX (some b) σ := by
  unfold wX3_init wX3_initb0
  refine ⟨⟨b, rfl⟩, nO hS (hb.mono (by omega)) (fun w => by omega) fun h τ n hX e => ⟨⟨h, rfl⟩, setI e.t n.2.1 (e.rm hb (by omega)) fun τ2 m e2 hm hc hmm => ?_⟩⟩
  have hh : σ.2.1 ≤ h := by rw [n.1]; exact Nat.le_refl _
  have hm' : σ.2.1 ≤ m := Nat.le_trans e.le hm
  have e12 : ev G W0 11 σ τ2 := (e.f1 e2 hh).le' (by omega)
  have hbc := e12.o h0 (fun w => w) (by decide) (by decide)
  refine pO e12.t hbc (by decide) (by simp) (by decide) fun τ3 w3 e3 => pO e3.t w3.1 (by decide) (by simp) (by decide) fun τ4 w4 e4 => ?_
  have e34 := e3.tr e4
  refine hK τ4 h m ((e12.up0.tr e34).le' (by omega)) hh hm' w4.1 ⟨e34.o hc (fun w => by have := w.2; omega) (by decide) (by decide), _, mm.HM (hmm.ev e34 fun w => by have := w.2; omega) (hD m hm'), fun q w => w.elim, fun x => ⟨fun w => w.elim, fun ⟨q, w, _⟩ => w⟩⟩
theorem scopy_k {D : Nat → Prop} {x h m N : Nat} {p : Nat → Bool} {st us be : Int32} (hS : SI G σ) (hx : σ.1 x = some (.inr (2, [va_rf (some h), .int st, .int us, .int be]))) (hh : HS G σ D h m (cntB p 240) N (fun x => p x = true)) (hc1 : ∀ x, p x = true → x < 240) (hb : bd G σ 7000) (hP : ∀ τ b h' m' N', ev G W0 2800 σ τ → σ.2.1 ≤ b → σ.2.1 ≤ h' → σ.2.1 ≤ m' → τ.1 b = some (.inr (2, [va_rf (some h'), .int st, .int us, .int be])) → HS G τ (fun a => σ.2.1 ≤ a ∧ a < τ.2.1) h' m' (cntB p 240) N' (fun x => p x = true) → P (some b) τ) : wX3_copy G P PX (some x) σ := by
  unfold wX3_copy wX3_copyb0
  refine nO hS (hb.mono (by omega)) (fun w => by omega) fun b τ n hX e => ⟨⟨b, rfl⟩, schI (D := fun a => σ.2.1 ≤ a) e.t n.2.1 (e.rm hb (by omega)) (fun a ha => Nat.le_trans e.le ha) fun τ2 h' m' e2 hh' hm' hbc hH' => ?_⟩
  have hbσ : σ.2.1 ≤ b := by rw [n.1]; exact Nat.le_refl _
  have e12 : ev G W0 20 σ τ2 := (e.f1 e2 hbσ).le' (by omega)
  have hx2 := e12.o hx (fun w => w) (by decide) (by decide)
  have hH2 := (hh.res hS).ev e12 W0_k (fun _ _ _ _ w => w) fun w => w
  refine gR hbc (by decide) rfl (gR hx2 (by decide) rfl ⟨rco hH'.1, addAll_k e2.t hH2 hH' (fun a ha => Nat.le_trans e12.le ha) (fun a ha _ w => by have := ha.2; omega) hc1 (e12.rm hb (by omega)) fun τ3 N' v hN' e3 hH3 => ?_⟩)
  have e13 : ev G W0 (20 + 2744) σ τ3 := e12.trans (e3.le' (by omega)) fun a k ha w => absurd w.1 (by omega)
  have hx3 := e13.o hx (fun w => w) (by decide) (by decide)
  have hb3 := e3.o hbc (fun w => by have := w.2; unfold mkd at this; omega) (by decide) (by decide)
  have hne : x ≠ b := fun w => by
    have := hS.lt hx
    omega
  refine gI hx3 (by decide) rfl (pO e13.t hb3 (by decide) (by simp) (by decide) fun τ4 w4 e4 => ?_)
  have hx4 := e4.o hx3 (fun w => hne w.1) (by decide) (by decide)
  refine gI hx4 (by decide) rfl (pO e4.t w4.1 (by decide) (by simp) (by decide) fun τ5 w5 e5 => ?_)
  have hx5 := e5.o hx4 (fun w => hne w.1) (by decide) (by decide)
  refine gI hx5 (by decide) rfl (pO e5.t w5.1 (by decide) (by simp) (by decide) fun τ6 w6 e6 => ?_)
  have e46 := e4.tr (e5.tr e6)
  exact hP τ6 b h' m' N' ((e13.f1 e46 hbσ).le' (by omega)) hbσ (Nat.le_trans e.le hh') (Nat.le_trans e.le hm') w6.1 ((hH3.ev e46 (W1_k (by omega)) (fun a k _ hk w => by have := w.2; unfold mkd at hk; omega) fun w => by have := w.2; omega).res e6.t)
/-- a ledger's first cells -/
theorem linit_k {a : Nat} (hS : SI G σ) (h0 : σ.1 a = some (.inr (1, dfX2))) (hb : bd G σ 40) (hK : ∀ τ m d as ap, ev G (W1 a 1) 40 σ τ → σ.2.1 ≤ m → σ.2.1 ≤ d → σ.2.1 ≤ as → σ.2.1 ≤ ap → τ.1 a = some (.inr (1, [va_rf (some m), va_rf (some d), va_rf (some as), va_rf (some ap), .int 0, .int (-1), .int 0, .int 0, .int 0])) → mm τ m 13 none 0 0 0 [va_rf none, va_rf none, .int 0, .int 0] → mm τ d 12 none 0 0 0 [] → τ.1 as = some (.inl (7, 3, .inr (.inr (.inr (.inr fun _ => none))))) → τ.1 ap = some (.inl (8, 6, .inr (.inr (.inr (.inr fun _ => none))))) → ¬ gX G as → ¬ gX G ap → K τ) : wX2_init G K PX (some a) σ := by
  unfold wX2_init wX2_initb0
  refine ⟨⟨a, rfl⟩, nO hS (hb.mono (by omega)) (fun _ => ⟨rfl, rfl, rfl⟩) fun m τ1 n1 hX1 e1 => ⟨⟨m, rfl⟩, lmapI e1.t n1.2.1 fun τ2 e2 hm2 => ?_⟩⟩
  have hm : σ.2.1 ≤ m := by rw [n1.1]; exact Nat.le_refl _
  have f2 : ev G W0 13 σ τ2 := (e1.f1 e2 hm).le' (by omega)
  refine pO f2.t (f2.o h0 (fun w => w) (by decide) (by decide)) (by decide) (by simp) (by decide) fun τ3 w3 e3 => ?_
  have f3 : ev G (W1 a 1) 13 σ τ3 := (f2.up0.tr e3).le' (by omega)
  have hm3 := hm2.ev e3 fun w => by have := w.2; omega
  refine nO f3.t (f3.rm hb (by omega)) (fun _ => ⟨rfl, rfl, rfl⟩) fun d τ4 n4 hX4 e4 => ⟨⟨d, rfl⟩, mapI e4.t n4.2.1 fun τ5 e5 hd5 => ?_⟩
  have hd : σ.2.1 ≤ d := by rw [n4.1]; exact f3.le
  have hd3 : τ3.2.1 ≤ d := by rw [n4.1]; exact Nat.le_refl _
  have f5' : ev G W0 9 τ3 τ5 := (e4.f1 e5 hd3).le' (by omega)
  have f5 : ev G (W1 a 1) 22 σ τ5 := (f3.trans f5' fun _ _ _ w => w.elim).le' (by omega)
  have hm5 := hm3.ev f5' fun w => w
  refine pO f5.t (f5'.o w3.1 (fun w => w) (by decide) (by decide)) (by decide) (by simp) (by decide) fun τ6 w6 e6 => ?_
  have f6 : ev G (W1 a 1) 22 σ τ6 := (f5.tr e6).le' (by omega)
  have hm6 := hm5.ev e6 fun w => by have := w.2; omega
  have hd6 := hd5.ev e6 fun w => by have := w.2; omega
  refine nA (n := 3) f6.t (by omega) (f6.rm hb (by omega)) fun as τ7 n7 hX7 e7 => ?_
  have has : σ.2.1 ≤ as := by rw [n7.1]; exact f6.le
  refine pO e7.t (e7.o w6.1 (fun w => w) (by decide) (by decide)) (by decide) (by simp) (by decide) fun τ8 w8 e8 => ?_
  have f8' : ev G (W1 a 1) 4 τ6 τ8 := (e7.up0.tr e8).le' (by omega)
  have f8 : ev G (W1 a 1) 26 σ τ8 := (f6.tr f8').le' (by omega)
  have has8 := e8.a n7.2.1 fun w => by have := w.2; omega
  refine nA (n := 6) f8.t (by omega) (f8.rm hb (by omega)) fun ap τ9 n9 hX9 e9 => ?_
  have hap : σ.2.1 ≤ ap := by rw [n9.1]; exact f8.le
  refine pO e9.t (e9.o w8.1 (fun w => w) (by decide) (by decide)) (by decide) (by simp) (by decide) fun τA wA eA => pO eA.t wA.1 (by decide) (by simp) (by decide) fun τB wB eB => ?_
  have fAB := eA.tr eB
  have f9' : ev G (W1 a 1) 7 τ8 τB := (e9.up0.tr fAB).le' (by omega)
  have f9 : ev G (W1 a 1) 40 σ τB := (f8.tr f9').le' (by omega)
  have nm : ∀ k, k ≠ 1 → ∀ b, ¬ W1 a 1 b k := fun k hk b w => hk w.2
  exact hK τB m d as ap f9 hm hd has hap wB.1 ((hm6.ev f8' (nm _ (by omega) _)).ev f9' (nm _ (by omega) _)) ((hd6.ev f8' (nm _ (by omega) _)).ev f9' (nm _ (by omega) _)) (f9'.a has8 (nm _ (by omega) _)) (fAB.a n9.2.1 (nm _ (by omega) _)) hX7 hX9
end CP4
