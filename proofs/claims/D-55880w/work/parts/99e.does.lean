/-! the object does a command -/
set_option maxRecDepth 100000
theorem Wc_g {x H : Nat} : Wg (Wc x H) := fun b => ⟨by omega, by omega, by omega, by omega, by omega, by omega, by omega, by omega, by omega, by omega, by omega, by omega, by omega, by omega, by omega⟩
section DOE
variable {G : gE} {σ : hSt} {PX : Nat → Nat → hSt → Prop} {P : Int32 → hSt → Prop} {n0 : Nat} {o A : Nat → Nat} {md : Int32} {es : List eT} {g : Nat → Int32}
theorem kept_k {P : Option Nat → hSt → Prop} {x : Nat} {r : Option Nat} {fs : List Value} (hS : SI G σ) (hx : σ.1 x = some (.inr (0, fs))) (h7 : fs.length = 7) (hb : bd G σ 7) (hP : ∀ τ e, ev G (W1 x 0) 7 σ τ → τ.1 x = some (.inr (0, fs.set 6 (va_rf r))) → τ.1 e = some (.inr (30, [])) → P (some e) τ) : wX1_kept G P PX (some x) r σ := by
  unfold wX1_kept wX1_keptb0
  exact pO hS hx (by decide) (by omega) (by decide) fun τ w e => nE e.t (e.rm hb (by omega)) (by omega) fun a τ2 n e2 => hP τ2 a ((e.tr e2.up0).le' (by omega)) (n.o w.1) n.2.1
theorem does_k {N x H arr c w k t : Nat} {one ot mdh : Int32} {hs : List Nat} {fs : List Value} {r : Option Nat} (hS : SI G σ) (h : LG G σ n0 o A md es g) (hg : GI N g) (hx : σ.1 x = some (.inr (0, fs))) (h7 : fs.length = 7) (h0 : fs[0]? = some (va_rf (some (A 0)))) (h2 : fs[2]? = some (va_rf (some H))) (hA : AL G σ H arr mdh hs) (hl : hs.length ≤ 6) (hb : bd G σ 20000)
    (hc : σ.1 c = some (.inr (6, [va_rf (some (gA G w)), .int one, va_rf r, .int ot]))) (hw : 1 ≤ w ∧ w ≤ 9) (hnm : w ≤ 6 → ∃ nm, r = some nm ∧ KY σ 5 nm (10 * k + t)) (hk : k < 4) (ht : t < 10) (hr : cR w one ot)
    (hR : ∀ rs d τ q e, cDo g w one k t ot (.inl (rs, d)) → ev G (W1 x 0) 14200 σ τ → τ.1 x = some (.inr (0, fs.set 6 (va_rf (some q)))) → RF τ q rs d → τ.1 e = some (.inr (30, [])) → PX 30 e τ)
    (hP : ∀ v g' τ n1 o' A' md' es' arr' mdh', cDo g w one k t ot (.inr (v, g')) → ev G (Wc x H) 14200 σ τ → LG G τ n1 o' A' md' es' g' → τ.1 x = some (.inr (0, fs.set 0 (va_rf (some (A' 0))))) → AL G τ H arr' mdh' ((if hs.length = 6 then hs.tail else hs) ++ [A 0]) → P v τ) : wX1_does G P PX (some x) (some c) σ := by
  unfold wX1_does wX1_doesb0
  refine gR hx (by decide) h0 ⟨h.rc, copy_k hS h hb fun τ1 o1 A1 md1 es1 e1 h1 => ?_⟩
  have hc1 := e1.o hc (fun w => w) (by decide) (by decide)
  refine ⟨rco hc1, in_k e1.t h1 hg.iOK e1.le (e1.rm hb (by omega)) hc1 hw (fun w => ?_) hk ht (fun u => absurd hr u) (fun rs d τ q _ ho e hq => ?_) fun v g' τ o' md' es' _ ho e h' => ?_⟩
  · obtain ⟨nm, a1, a2⟩ := hnm w
    exact ⟨nm, a1, a2.ev e1 W0_k⟩
  · have e02 : ev G W0 10709 σ τ := (e1.tr e).le' (by omega)
    have hx2 := e02.o hx (fun w => w) (by decide) (by decide)
    unfold wX1_doesb21
    refine Or.inl ⟨rfl, rco hx2, kept_k e.t hx2 h7 (e02.rm hb (by omega)) fun τ2 ee e3 a1 a2 => ⟨rco a2, fun q' hq' => ?_⟩⟩
    cases hq'
    refine hR rs d τ2 q _ ho ((e02.up0.tr e3).le' (by omega)) a1 ?_ a2
    obtain ⟨fq, b1, b2, b3, b4⟩ := hq
    exact ⟨fq, e3.o b1 (fun w => by have := w.2; omega) (by decide) (by decide), b2, b3, b4⟩
  · have e02 : ev G W0 14000 σ τ := (e1.fr e fun a k w => w.1).le' (by omega)
    have hx2 := e02.o hx (fun w => w) (by decide) (by decide)
    have hold := h.ev e02 W0_g
    refine ⟨rco hx2, become_k e.t hx2 h7 h0 h2 (hA.ev e02 (fun w => w) fun w => w) hl hold.L (e02.rm hb (by omega)) fun τ2 arr' mdh' e3 a1 a2 => hP v g' τ2 _ o' A1 md' es' arr' mdh' ho ((e02.up0.tr e3).le' (by omega)) (h'.ev e3 Wc_g) a1 a2⟩
end DOE
