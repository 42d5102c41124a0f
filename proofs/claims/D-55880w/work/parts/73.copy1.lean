/-! copies: the pieces -/
set_option maxRecDepth 100000
section RES
variable {G : gE} {σ : hSt} {D : Nat → Prop} {m n N kt h : Nat} {md : Int32} {es : List eT} {E : eT → Prop} {S : Nat → Prop}
/-- own cells exist: what does not exist yet need not be own -/
theorem HM.res (hS : SI G σ) (h : HM G σ D kt m n N E) : HM G σ (fun a => D a ∧ a < σ.2.1) kt m n N E := by
  obtain ⟨t, md, th, hm, hDm, h0, hor⟩ := id h
  obtain ⟨-, k0, k1, k3, hmc⟩ := id hm
  refine ⟨t, md, th, hm, ⟨hDm, hS.lt hmc⟩, h0, ?_⟩
  rcases hor with hor | ⟨ta, B, q1, q2, q3, q4, q5, q6, q7, q8, q9⟩
  · exact Or.inl hor
  · refine Or.inr ⟨ta, B, q1, ⟨q2, ?_⟩, q3, q4, q5, q6, q7, fun i hi q hq => ⟨q8 i hi q hq, ?_⟩, q9⟩
    · obtain ⟨f, hf, -⟩ := q6
      exact hS.lt hf
    · obtain ⟨nx, ci, Y, -, hn⟩ := h.nd ((q9 q).mpr ⟨i, hi, hq⟩)
      exact hS.lt hn
theorem LM.res (hS : SI G σ) (h : LM G σ D m md es) : LM G σ (fun a => D a ∧ a < σ.2.1) m md es := by
  obtain ⟨t, th, hm, hDm, hd, hnd, hE, hor⟩ := id h
  obtain ⟨-, k0, k1, k3, hmc⟩ := id hm
  refine ⟨t, th, hm, ⟨hDm, hS.lt hmc⟩, hd, hnd, fun q hq => ⟨⟨(hE q hq).1, ?_⟩, (hE q hq).2⟩, ?_⟩
  · obtain ⟨nx, b, f, hn⟩ := h.nd hq
    exact hS.lt hn
  · rcases hor with hor | ⟨ta, q1, q2, q3, q4, q5⟩
    · exact Or.inl hor
    · refine Or.inr ⟨ta, q1, ⟨q2, ?_⟩, q3, q4, q5⟩
      obtain ⟨f, hf, -⟩ := q5
      exact hS.lt hf
theorem HS.res (hS : SI G σ) (hh : HS G σ D h m n N S) : HS G σ (fun a => D a ∧ a < σ.2.1) h m n N S := by
  obtain ⟨h1, E, h2, h3⟩ := hh
  exact ⟨h1, E, h2.res hS, h3⟩
end RES
section CP1
variable {G : gE} {σ : hSt} {PX : Nat → Nat → hSt → Prop} {K : hSt → Prop} {P : Option Nat → hSt → Prop} {kt : Nat}
/-- maps made -/
theorem mapI {a : Nat} (hS : SI G σ) (ha : σ.1 a = some (.inr (12, dfJ1))) (hK : ∀ τ, ev G (W1 a 12) 0 σ τ → mm τ a 12 none 0 0 0 [] → K τ) : wJ1_init G K PX (some a) σ := by
  unfold wJ1_init wJ1_initb0 wJ0_init wJ0_initb0
  exact ⟨⟨a, rfl⟩, ⟨a, rfl⟩, pM hS ha (by decide) (by simp) (Or.inl rfl) (by decide) (by decide) (by decide) fun τ w e => hK τ e ⟨Or.inl rfl, .null, .null, .null, w.1⟩⟩
theorem lmapI {a : Nat} (hS : SI G σ) (ha : σ.1 a = some (.inr (13, dfJ2))) (hK : ∀ τ, ev G (W1 a 13) 0 σ τ → mm τ a 13 none 0 0 0 [va_rf none, va_rf none, .int 0, .int 0] → K τ) : wJ2_init G K PX (some a) σ := by
  unfold wJ2_init wJ2_initb0 wJ1_init wJ1_initb0 wJ0_init wJ0_initb0
  exact ⟨⟨a, rfl⟩, ⟨a, rfl⟩, ⟨a, rfl⟩, pM hS ha (by decide) (by simp) (Or.inr rfl) (by decide) (by decide) (by decide) fun τ w e => pM e.t w.1 (by decide) (by simp) (Or.inr rfl) (by decide) (by decide) (by decide) fun τ2 w2 e2 => ⟨ok_b0, pM e2.t w2.1 (by decide) (by simp) (Or.inr rfl) (by decide) (by decide) (by decide) fun τ3 w3 e3 => hK τ3 (((e.tr e2).tr e3).le' (by omega)) ⟨Or.inr rfl, .null, .null, .null, w3.1⟩⟩⟩
theorem mm.HM {D : Nat → Prop} {a : Nat} (h : mm σ a 12 none 0 0 0 []) (hD : D a) : HM G σ D kt a 0 0 (fun _ => False) := ⟨none, 0, 0, h, hD, fun _ _ w => w, Or.inl ⟨rfl, rfl, fun _ w => w, Or.inl rfl⟩⟩
theorem mm.LM {D : Nat → Prop} {a : Nat} (h : mm σ a 13 none 0 0 0 [va_rf none, va_rf none, .int 0, .int 0]) (hD : D a) : LM G σ D a 0 [] := ⟨none, 0, h, hD, trivial, List.nodup_nil, fun q hq => (nomatch hq), Or.inl ⟨rfl, rfl, rfl⟩⟩
/-- a set made -/
theorem setI {a : Nat} {c0 : Value} (hS : SI G σ) (ha : σ.1 a = some (.inr (14, [c0]))) (hb : bd G σ 9) (hK : ∀ τ m, ev G (W1 a 14) 9 σ τ → σ.2.1 ≤ m → τ.1 a = some (.inr (14, [va_rf (some m)])) → mm τ m 12 none 0 0 0 [] → K τ) : wJ5_init G K PX (some a) σ := by
  unfold wJ5_init wJ5_initb0 wJ4_init wJ4_initb0 wJ3_init wJ3_initb0
  refine ⟨⟨a, rfl⟩, ⟨a, rfl⟩, ⟨a, rfl⟩, nO hS hb (fun _ => ⟨rfl, rfl, rfl⟩) fun m τ n hX e => ⟨⟨m, rfl⟩, mapI e.t n.2.1 fun τ2 e2 h2 => ?_⟩⟩
  have hm : σ.2.1 ≤ m := by rw [n.1]; exact Nat.le_refl _
  have e12 : ev G W0 9 σ τ2 := (e.f1 e2 hm).le' (by omega)
  refine pO e12.t (e12.o ha (fun w => w) (by decide) (by decide)) (by decide) (by simp) (by decide) fun τ3 w3 e3 => hK τ3 m ((e12.up0.tr e3).le' (by omega)) hm w3.1 (h2.ev e3 fun w => by have := w.2; omega)
end CP1
