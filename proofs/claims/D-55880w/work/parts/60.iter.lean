/-! the values of the linked map, one by one -/
set_option maxRecDepth 100000
section VIEW
variable {G : gE} {σ τ : hSt}
/-- a view made and remembered -/
theorem view_ev {m ci k vk N : Nat} {fs vfs : List Value} (hS : SI G σ) (hm : σ.1 m = some (.inr (ci, fs))) (hci : ci = 12 ∨ ci = 13) (hk : (k = 0 ∧ vk = 22 ∧ vfs = [va_rf (some m)]) ∨ (k = 1 ∧ vk = 18 ∧ vfs = [.int 0, va_rf (some m)]) ∨ (k = 3 ∧ vk = 24 ∧ vfs = [va_rf (some m)])) (hl : 3 < fs.length) (hf : σ.1 σ.2.1 = none) (h1 : τ.1 σ.2.1 = some (.inr (vk, vfs))) (h2 : τ.1 m = some (.inr (ci, fs.set k (va_rf (some σ.2.1))))) (h3 : ∀ b, b ≠ m → b ≠ σ.2.1 → τ.1 b = σ.1 b) (h4 : τ.2.1 = σ.2.1 + 1) (h5 : τ.2.2 = σ.2.2 + N) : ev G W0 (1 + N) σ τ := by
  have hne : m ≠ σ.2.1 := by
    intro e
    rw [e, hf] at hm; exact nomatch hm
  have ho : ∀ b e, σ.1 b = some e → b ≠ m → τ.1 b = some e := fun b e hb hbm => by
    rw [h3 b hbm (by rintro rfl; rw [hf] at hb; exact nomatch hb)]; exact hb
  have hov : ∀ v i fs', (i = 22 ∨ i = 18 ∨ i = 24) → σ.1 v = some (.inr (i, fs')) → τ.1 v = some (.inr (i, fs')) := by
    intro v i fs' hi hvk
    refine ho v _ hvk ?_
    rintro rfl
    rw [hm] at hvk
    injection hvk with w; injection w with w; injection w with w1 w2
    omega
  have hvc : ∀ b fs', vwC σ.1 b fs' → vwC τ.1 b fs' := by
    rintro b fs' ⟨q1, q2, q3⟩
    refine ⟨q1.imp id ?_, q2.imp id ?_, q3.imp id ?_⟩
    · rintro ⟨v, w1, w2⟩; exact ⟨v, w1, hov _ _ _ (Or.inl rfl) w2⟩
    · rintro ⟨v, w1, w2⟩; exact ⟨v, w1, hov _ _ _ (Or.inr (Or.inl rfl)) w2⟩
    · rintro ⟨v, w1, w2⟩; exact ⟨v, w1, hov _ _ _ (Or.inr (Or.inr rfl)) w2⟩
  refine ⟨hS, ⟨fun b e hb => ?_, fun b ci' fs' hb hc => ?_, cst_keep hS.2.2 fun b e1 _ hb hke => ho b e1 hb ?_⟩, by omega, fun b e hb => ?_, fun n hn => ?_⟩
  · rw [h4]
    by_cases q1 : b = σ.2.1
    · omega
    · by_cases q2 : b = m
      · have := hS.lt hm; omega
      · rw [h3 b q2 q1] at hb
        have := hS.lt hb
        omega
  · by_cases q1 : b = σ.2.1
    · subst q1
      rw [h1] at hb
      injection hb with w; injection w with w; injection w with w1 w2
      omega
    · by_cases q2 : b = m
      · subst q2
        rw [h2] at hb
        injection hb with w; injection w with w; injection w with w1 w2
        subst w2
        obtain ⟨v1, v2, v3⟩ := hvc _ _ (hS.2.1 b ci fs hm hci)
        rcases hk with ⟨rfl, rfl, rfl⟩ | ⟨rfl, rfl, rfl⟩ | ⟨rfl, rfl, rfl⟩
        · refine ⟨Or.inr ⟨σ.2.1, List.getElem?_set_self (by omega), h1⟩, ?_, ?_⟩
          · rw [List.getElem?_set_ne (by decide)]; exact v2
          · rw [List.getElem?_set_ne (by decide)]; exact v3
        · refine ⟨?_, Or.inr ⟨σ.2.1, List.getElem?_set_self (by omega), h1⟩, ?_⟩
          · rw [List.getElem?_set_ne (by decide)]; exact v1
          · rw [List.getElem?_set_ne (by decide)]; exact v3
        · refine ⟨?_, ?_, Or.inr ⟨σ.2.1, List.getElem?_set_self (by omega), h1⟩⟩
          · rw [List.getElem?_set_ne (by decide)]; exact v1
          · rw [List.getElem?_set_ne (by decide)]; exact v2
      · rw [h3 b q2 q1] at hb
        exact hvc _ _ (hS.2.1 b ci' fs' hb hc)
  · rintro rfl
    rw [hm] at hb
    cases hb
    have := hke _ _ rfl
    omega
  · by_cases q2 : b = m
    · subst q2
      rw [hm] at hb
      cases hb
      refine ⟨_, h2, rfl, fun _ => ⟨_, rfl, by rw [List.length_set], fun j hj => ?_⟩⟩
      refine List.getElem?_set_ne ?_
      rintro rfl
      refine hj ⟨hci, ?_⟩
      rcases hk with ⟨rfl, -, -⟩ | ⟨rfl, -, -⟩ | ⟨rfl, -, -⟩ <;> simp
    · exact ⟨e, ho b e hb q2, rfl, fun _ => simE_refl _⟩
  · obtain ⟨n1, n2⟩ := hn
    exact ⟨by rw [h4]; omega, by rw [h5]; omega⟩
end VIEW
section VALS
variable {G : gE} {σ : hSt} {PX : Nat → Nat → hSt → Prop} {P : Option Nat → hSt → Prop} {m : Nat} {md : Int32} {D : Nat → Prop} {es : List eT}
theorem vals_k (hS : SI G σ) (h : LM G σ D m md es) (hb : bd G σ 3) (hP : ∀ τ v, ev G W0 3 σ τ → τ.1 v = some (.inr (18, [.int 0, va_rf (some m)])) → P (some v) τ) : wJ2_values G P PX (some m) σ := by
  have hrc := h.rc
  obtain ⟨t, th, ⟨hci, k0, k1, k3, hm⟩, -⟩ := h
  unfold wJ2_values wJ2_valuesb0
  refine ⟨hrc, ?_⟩
  unfold wJ2_sequencedValues wJ2_sequencedValuesb0
  have hvk := (hS.2.1 m 13 _ hm hci).2.1
  rcases hvk with hvk | ⟨v, hvk, hvc⟩
  · refine gR (r := none) hm (by decide) hvk ⟨fun w => absurd rfl w, fun _ => ⟨by have := hb.1; omega, by have := hb.2; omega, fun hf hX => ⟨⟨_, rfl⟩, ?_⟩⟩⟩
    have hne : m ≠ σ.2.1 := by
      intro e
      rw [e, hf] at hm; exact nomatch hm
    unfold wJ18_init wJ18_initb0 wJ3_init wJ3_initb0
    refine ⟨σ.2.1, 18, _, rfl, hup_s, by decide, by decide, fun w => by omega, ⟨_, rfl⟩, ⟨_, rfl⟩, ok_b0, σ.2.1, 18, _, rfl, hup_s, by decide, by simp, fun w => by omega, m, 13, _, rfl, ?_, by decide, by simp, fun w => by omega, hP _ _ (view_ev (k := 1) (N := 2) hS hm hci (Or.inr (Or.inl ⟨rfl, rfl, rfl⟩)) (by simp) hf ?_ hup_s (fun b hb1 hb2 => ?_) rfl rfl) ?_⟩
    · show hup (hup (hup σ.1 σ.2.1 _) σ.2.1 _) σ.2.1 _ m = _
      rw [hup_n hne, hup_n hne, hup_n hne]; exact hm
    · show hup (hup (hup (hup σ.1 σ.2.1 _) σ.2.1 _) σ.2.1 _) m _ σ.2.1 = _
      rw [hup_n (Ne.symm hne)]; exact hup_s
    · show hup (hup (hup (hup σ.1 σ.2.1 _) σ.2.1 _) σ.2.1 _) m _ b = _
      rw [hup_n hb1, hup_n hb2, hup_n hb2, hup_n hb2]
    · show hup (hup (hup (hup σ.1 σ.2.1 _) σ.2.1 _) σ.2.1 _) m _ σ.2.1 = _
      rw [hup_n (Ne.symm hne)]; exact hup_s
  · refine gR (r := some v) hm (by decide) hvk ⟨fun _ => ⟨cO hvc (by decide), hP σ v ((ev.refl hS).le' (by omega)) hvc⟩, fun w => nomatch w⟩
/-- an iterator, with what is still to come -/
def IT (σ : hSt) (it m : Nat) (md : Int32) (r : List eT) : Prop := ∃ cur, σ.1 it = some (.inr (23, [va_rf (hd1 r none), cur, .int md, .int 0, va_rf (some m)]))
theorem IT.ev {W : Nat → Nat → Prop} {c : Nat} {τ : hSt} {it : Nat} {r : List eT} (h : IT σ it m md r) (he : ev G W c σ τ) (hW : ¬ W it 23) : IT τ it m md r := by
  obtain ⟨cur, h⟩ := h
  exact ⟨cur, he.o h hW (by decide) (by decide)⟩
theorem iter_k (hS : SI G σ) (h : LM G σ D m md es) (hb : bd G σ 9) (hP : ∀ τ it, ev G W0 9 σ τ → σ.2.1 ≤ it → IT τ it m md es → P (some it) τ) : rcv σ (some m) 13 ∧ wJ2_values G (fun x3 z2 => (rcv z2 x3 18 ∧ wJ18_iterator G (fun x5 z4 => P x5 z4) PX x3 z2)) PX (some m) σ := by
  refine ⟨h.rc, vals_k hS h (hb.mono (by omega)) fun τ v e hvk => ⟨rco hvk, ?_⟩⟩
  have hL := h.ev e W0_k fun _ _ _ _ w => w
  obtain ⟨t, th, ⟨hci, k0, k1, k3, hm⟩, -⟩ := hL
  unfold wJ18_iterator wJ18_iteratorb0
  refine nO e.t (e.rm hb (by omega)) (fun w => by omega) fun it τ1 n1 hX e1 => ?_
  have hv1 := n1.o hvk
  have hm1 := n1.o hm
  have hitm : it ≠ m := Ne.symm (n1.ne hm)
  refine gR hv1 (by decide) rfl (gI hv1 (by decide) rfl ⟨⟨it, rfl⟩, ?_⟩)
  unfold wJ28_init wJ28_initb0
  refine ⟨⟨it, rfl⟩, ?_⟩
  unfold wJ25_init wJ25_initb0
  refine pO e1.t n1.2.1 (by decide) (by simp) (by decide) fun τ2 w2 e2 => ⟨⟨it, rfl⟩, ok_b0, pO e2.t w2.1 (by decide) (by simp) (by decide) fun τ3 w3 e3 => ⟨fun _ => ?_, fun w => absurd rfl w⟩⟩
  have hm3 : τ3.1 m = some (.inr (13, mFl8 k0 k1 k3 t (Int32.ofNat es.length) md th [va_rf (hd1 es none), va_rf (ls1 es none), .int 0, .int 0])) := by rw [w3.o (Ne.symm hitm), w2.o (Ne.symm hitm)]; exact hm1
  refine gR hm3 (by decide) rfl ?_
  unfold wJ25_initb30
  refine pO e3.t w3.1 (by decide) (by simp) (by decide) fun τ4 w4 e4 => gI (by rw [w4.o (Ne.symm hitm)]; exact hm3) (by decide) rfl (pO e4.t w4.1 (by decide) (by simp) (by decide) fun τ5 w5 e5 => pO e5.t w5.1 (by decide) (by simp) (by decide) fun τ6 w6 e6 => ?_)
  have ha : σ.2.1 ≤ it := by rw [n1.1]; exact e.le
  refine hP τ6 it (((((((e.tr e1).f1 e2 ha).f1 e3 ha).f1 e4 ha).f1 e5 ha).f1 e6 ha).le' (by omega)) ha ⟨_, w6.1⟩
/-- one round of the iteration -/
theorem step_k {it : Nat} {d r : List eT} {X : hSt → Prop} {Bd : Option Nat → hSt → Prop} (hS : SI G σ) (hi : IT σ it m md r) (h : LM G σ D m md (d ++ r)) (hX : r = [] → X σ) (hB : ∀ q r', r = q :: r' → ∀ υ, ev G (W1 it 23) 0 σ υ → IT υ it m md r' → Bd q.2.2.2 υ) : rcv σ (some it) 23 ∧ wJ25_hasNext G (fun x7 z6 => ((x7 = 0 → X z6) ∧ (¬ x7 = 0 → (rcv z6 (some it) 23 ∧ wJ28_next G (fun x9 z8 => Bd x9 z8) PX (some it) z6)))) PX (some it) σ := by
  obtain ⟨cur, hi⟩ := hi
  refine ⟨rco hi, ?_⟩
  unfold wJ25_hasNext wJ25_hasNextb0
  refine gR hi (by decide) rfl ?_
  cases r with
  | nil => exact ⟨fun _ => ⟨ok_b0, fun _ => hX rfl, fun w => absurd rfl w⟩, fun w => absurd rfl w⟩
  | cons q r' =>
    refine ⟨fun w => (nomatch w), fun _ => ⟨ok_b1, fun w => absurd w (by decide), fun _ => ⟨rco hi, ?_⟩⟩⟩
    obtain ⟨nx, b, f, hq⟩ := h.nd (List.mem_append_right _ List.mem_cons_self : q ∈ d ++ q :: r')
    obtain ⟨t, th, ⟨hci, k0, k1, k3, hm⟩, -, hd, -⟩ := h
    obtain ⟨-, ⟨q0, q1, q2, q3, hl⟩, -⟩ := dl_app.mp hd
    have hf : va_rf f = va_rf (hd1 r' none) := by
      have := hq.symm.trans hl
      simp only [Option.some.injEq, Sum.inr.injEq, Prod.mk.injEq, List.cons.injEq] at this
      exact this.2.2.2.2.2.2.1
    rw [hf] at hq
    have hitq : it ≠ q.1 := by
      rintro rfl
      rw [hi] at hq
      injection hq with w; injection w with w; injection w with w1 w2
      omega
    unfold wJ28_next wJ28_nextb0
    refine ⟨rco hi, ?_⟩
    unfold wJ25_nextNode wJ25_nextNodeb0
    refine gR hi (by decide) rfl (gR hi (by decide) rfl (gI hm (by decide) rfl (gI hi (by decide) rfl ⟨fun _ => ⟨fun _ => ?_, fun w => nomatch w⟩, fun w => absurd rfl w⟩)))
    refine pO hS hi (by decide) (by simp) (by decide) fun τ w e => gI w.1 (by decide) rfl ⟨fun _ => ?_, fun w => absurd rfl w⟩
    have hq1 : τ.1 q.1 = some (.inr (27, [.int (Int32.ofNat q.2.1), va_rf (some q.2.2.1), va_rf q.2.2.2, va_rf nx, va_rf b, va_rf (hd1 r' none)])) := by rw [w.o (Ne.symm hitq)]; exact hq
    refine gR hq1 (by decide) rfl ?_
    unfold wJ25_nextNodeb63
    refine pO e.t w.1 (by decide) (by simp) (by decide) fun υ w2 e2 => ?_
    have hq2 : υ.1 q.1 = some (.inr (27, [.int (Int32.ofNat q.2.1), va_rf (some q.2.2.1), va_rf q.2.2.2, va_rf nx, va_rf b, va_rf (hd1 r' none)])) := by rw [w2.o (Ne.symm hitq)]; exact hq1
    exact gR hq2 (by decide) rfl (hB q r' rfl υ ((e.tr e2).le' (by omega)) ⟨_, w2.1⟩)
end VALS
