/-! the object is asked: the first of the public questions -/
set_option maxRecDepth 100000
section PUB
variable {G : gE} {σ : hSt} {PX : Nat → Nat → hSt → Prop} {P : Int32 → hSt → Prop} {n0 : Nat} {o A : Nat → Nat} {md : Int32} {es : List eT} {g : Nat → Int32}
/-- the object x has the ledger A 0 -/
def OB (σ : hSt) (x l : Nat) : Prop := ∃ fs, σ.1 x = some (.inr (0, fs)) ∧ fs.length = 7 ∧ fs[0]? = some (va_rf (some l))
theorem OB.L {K : Option Nat → Prop} {x l : Nat} (h : OB σ x l) (hK : K (some l)) : gtR σ (some x) [0] 0 K := by
  obtain ⟨fs, h1, h2, h3⟩ := h
  exact gR h1 (by decide) h3 hK
theorem OB.rc {x l : Nat} (h : OB σ x l) : rcv σ (some x) 0 := by
  obtain ⟨fs, h1, h2, h3⟩ := h
  exact rco h1
theorem cexc_k {P : Option Nat → hSt → Prop} {x : Nat} {k t : Int32} (hS : SI G σ) (hO : OB σ x (A 0)) (h : LG G σ n0 o A md es g) (hb : bd G σ 20) (hX : ¬ isX k t → XC G σ PX 29) (hE : isX k t → noF g k t → ∀ τ q, ev G W0 10 σ τ → τ.1 q = some (.inr (28, [])) → PX 28 q τ) (hP : ∀ e τ, isX k t → isF g k t e → ev G W0 3 σ τ → LG G τ n0 o A md es g → xE τ es g e (xa es e) → P (some (xa es e)) τ) : wX1_checkedExcuse G P PX (some x) k t σ := by
  unfold wX1_checkedExcuse wX1_checkedExcuseb0 wX1_checkedExcuseb28
  refine hO.L (gR h.L (by decide) rfl (cname_k hS (hb.mono (by omega)) (fun k' t' τ nm hk hk4 ht ht10 e hky => ?_) hX))
  subst hk
  subst ht
  have hx : isX (Int32.ofNat k') (Int32.ofNat t') := ⟨⟨i_nn (by omega), by rw [show (3 : Int32) = Int32.ofNat 3 from rfl, i_lt (by omega) (by omega)]; omega⟩, ⟨i_nn (by omega), by rw [show (9 : Int32) = Int32.ofNat 9 from rfl, i_lt (by omega) (by omega)]; omega⟩⟩
  have h1 := h.ev e W0_g
  refine ⟨h1.M.rc, lk_k h1 hk4 ht10 hky (fun ei he hxE => ?_) fun hno => ⟨Or.inl rfl, fun _ => chkE_k e.t (e.rm hb (by omega)) (fun u => absurd rfl u) fun _ τ2 q e2 hq => hE hx hno τ2 q ((e.tr e2).le' (by omega)) hq, fun u => absurd rfl u⟩⟩
  obtain ⟨q, -, -, hxc⟩ := id hxE
  exact ⟨cO hxc (by decide), fun u => (nomatch u), fun _ => chkE_k e.t (e.rm hb (by omega)) (fun _ => hP ei τ hx he e h1 hxE) fun u => absurd u n10⟩
end PUB
