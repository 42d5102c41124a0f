/-! a HashMap's entries, one by one -/
set_option maxRecDepth 100000
/-- the bins from i on, n of them, one behind another -/
def flB (B : Nat → List eT) : Nat → Nat → List eT
  | _, 0 => []
  | i, n + 1 => B i ++ flB B (i + 1) n
theorem flB_in {B : Nat → List eT} {q : eT} {i n : Nat} : q ∈ flB B i n ↔ ∃ j, i ≤ j ∧ j < i + n ∧ q ∈ B j := by
  induction n generalizing i with
  | zero => exact ⟨fun w => (nomatch w), fun ⟨j, h1, h2, _⟩ => by omega⟩
  | succ n ih =>
    show q ∈ B i ++ flB B (i + 1) n ↔ _
    rw [List.mem_append, ih]
    constructor
    · rintro (h | ⟨j, h1, h2, h3⟩)
      · exact ⟨i, Nat.le_refl _, by omega, h⟩
      · exact ⟨j, by omega, by omega, h3⟩
    · rintro ⟨j, h1, h2, h3⟩
      by_cases e : j = i
      · subst e; exact Or.inl h3
      · exact Or.inr ⟨j, by omega, by omega, h3⟩
theorem flB_nd {kt N : Nat} {B : Nat → List eT} (hW : WB kt N B) {i n : Nat} (h : i + n ≤ N) : ((flB B i n).map fun q => q.2.1).Nodup := by
  induction n generalizing i with
  | zero => exact List.nodup_nil
  | succ n ih =>
    show ((B i ++ flB B (i + 1) n).map fun q => q.2.1).Nodup
    rw [List.map_append, List.nodup_append]
    refine ⟨(hW i (by omega)).2, ih (by omega), fun a ha b hb e => ?_⟩
    obtain ⟨q, hq, rfl⟩ := List.mem_map.mp ha
    obtain ⟨q', hq', rfl⟩ := List.mem_map.mp hb
    obtain ⟨j, h1, h2, h3⟩ := flB_in.mp hq'
    have e1 := (hW i (by omega)).1 q hq
    have e2 := (hW j (by omega)).1 q' h3
    rw [e] at e1
    omega
/-- an iterator over a HashMap, with what is still to come -/
def HI (σ : hSt) (it ci m : Nat) (kt : Nat) (r : List eT) : Prop := (ci = 20 ∨ ci = 21) ∧ ∃ (t : Option Nat) (sz md th : Int32) (nxt : Option Nat) (cur : Value) (idx : Nat), mm σ m 12 t sz md th [] ∧ σ.1 it = some (.inr (ci, [va_rf nxt, cur, .int md, .int (Int32.ofNat idx), va_rf (some m)])) ∧ ((nxt = none ∧ r = []) ∨ ∃ ta N B l, t = some ta ∧ pw N ∧ BK σ kt ta N B ∧ idx ≤ N ∧ l ≠ [] ∧ ch σ kt l nxt ∧ r = l ++ flB B idx (N - idx))
theorem n20 {ci : Nat} (h : ci = 20 ∨ ci = 21) : ci ∈ [20, 21] := by rcases h with rfl | rfl <;> decide
theorem n20' {ci : Nat} (h : ci = 20 ∨ ci = 21) : ci ∉ [12, 13, 17, 18, 22, 24, 25] := by rcases h with rfl | rfl <;> decide
/-- the iterator stands while its map does -/
theorem HI.keep {G : gE} {W : Nat → Nat → Prop} {c n N : Nat} {σ τ : hSt} {it ci m kt : Nat} {D : Nat → Prop} {E : eT → Prop} {r : List eT} (h : HI σ it ci m kt r) (hH : HM G σ D kt m n N E) (hr : ∀ q ∈ r, E q) (he : ev G W c σ τ) (hk : Wk W) (hi : ¬ W it 20 ∧ ¬ W it 21) (hW : ∀ a k, D a → mkd k → ¬ W a k) : HI τ it ci m kt r := by
  obtain ⟨hci, t, sz, md, th, nxt, cur, idx, h1, h2, h3⟩ := h
  obtain ⟨t', md', th', g1, g2, g3, g4⟩ := hH
  have htt : t = t' := by
    obtain ⟨-, k0, k1, k3, h1⟩ := h1
    obtain ⟨-, k0', k1', k3', g1⟩ := g1
    have e := h1.symm.trans g1
    simp only [Option.some.injEq, Sum.inr.injEq, Prod.mk.injEq, List.cons.injEq] at e
    exact va_rf_inj e.2.2.2.1
  subst htt
  refine ⟨hci, t, sz, md, th, nxt, cur, idx, h1.ev he (hW _ _ g2 (Or.inl rfl)), he.o h2 (by rcases hci with rfl | rfl; exact hi.1; exact hi.2) (by omega) (by omega), h3.imp id ?_⟩
  rintro ⟨ta, N', B', l, rfl, q2, q3, q4, q5, q6, q7⟩
  rcases g4 with ⟨w, -⟩ | ⟨ta', B, e1, e2, e3, e4, e5, ⟨f, e6, e6'⟩, e7, e8, e9⟩
  · exact nomatch w
  cases e1
  obtain ⟨f', q3, q3'⟩ := q3
  have e10 := q3.symm.trans e6
  simp only [Option.some.injEq, Sum.inl.injEq, Prod.mk.injEq, Sum.inr.injEq, true_and] at e10
  obtain ⟨rfl, rfl⟩ := e10
  have hcell : ∀ a h ka v nx, nq σ a h ka v nx → D a → nq τ a h ka v nx := fun a h ka v nx w hD => w.ev he ⟨hW _ _ hD (Or.inr (Or.inr (Or.inl rfl))), hW _ _ hD (Or.inr (Or.inr (Or.inr (Or.inl rfl))))⟩
  -- both pictures have the same chains
  have hDl : ∀ i, i < N' → ∀ l1 r1, ch σ kt l1 r1 → r1 = f' i → ∀ q ∈ l1, D q.1 := by
    intro i hi l1 r1 hl1 hr1 q hq
    have key : ∀ (l1 l2 : List eT) (r : Option Nat), ch σ kt l1 r → ch σ kt l2 r → ∀ q ∈ l1, ∃ q' ∈ l2, q'.1 = q.1 := by
      intro l1
      induction l1 with
      | nil => intro l2 r _ _ q hq; exact nomatch hq
      | cons a t ih =>
        intro l2 r h1 h2 q hq
        obtain ⟨rfl, -, nx, ⟨c1, Y1, d1, d2⟩, h1⟩ := h1
        cases l2 with
        | nil => exact nomatch h2
        | cons a2 t2 =>
          obtain ⟨w, -, nx2, ⟨c2, Y2, d3, d4⟩, h2⟩ := h2
          injection w with w
          rcases List.mem_cons.mp hq with rfl | hq
          · exact ⟨a2, List.mem_cons_self, w.symm⟩
          · rw [w] at d2
            have e := d2.symm.trans d4
            simp only [Option.some.injEq, Sum.inr.injEq, Prod.mk.injEq, List.cons.injEq] at e
            have := va_rf_inj e.2.2.2.2.1
            subst this
            obtain ⟨q', h3, h4⟩ := ih t2 nx h1 h2 q hq
            exact ⟨q', List.mem_cons_of_mem _ h3, h4⟩
    subst hr1
    obtain ⟨q', h3, h4⟩ := key l1 (B i) _ hl1 (e6' i hi) q hq
    rw [← h4]
    exact e8 i hi q' h3
  refine ⟨ta, N', B', l, rfl, q2, ⟨f', he.a e6 (hW _ _ e2 (Or.inr (Or.inr (Or.inr (Or.inr rfl))))), fun i hi => ce_keep (fun ka x w => w.ev he hk) (fun q hq h ka v nx w => hcell _ _ _ _ _ w (hDl i hi _ _ (q3' i hi) rfl q hq)) (q3' i hi)⟩, q4, q5, ce_keep (fun ka x w => w.ev he hk) (fun q hq h ka v nx w => hcell _ _ _ _ _ w ?_) q6, q7⟩
  obtain ⟨i, hi, hqB⟩ := (e9 q).mp (hr q (by rw [q7]; exact List.mem_append_left _ hq))
  exact e8 i hi q hqB
section HIT
variable {G : gE} {σ : hSt} {PX : Nat → Nat → hSt → Prop} {kt m n N : Nat} {D : Nat → Prop} {E : eT → Prop}
/-- the iterator's cell written: the map's cells are as they were -/
theorem it_mm {it ci : Nat} {τ : hSt} {t : Option Nat} {sz md th : Int32} (h : mm σ m 12 t sz md th []) (e : ev G (W1 it ci) 0 σ τ) (hci : ci = 20 ∨ ci = 21) : mm τ m 12 t sz md th [] := h.ev e fun w => by have := w.2; omega
theorem it_bk {it ci ta : Nat} {τ : hSt} {B : Nat → List eT} (h : BK σ kt ta N B) (e : ev G (W1 it ci) 0 σ τ) (hci : ci = 20 ∨ ci = 21) : BK τ kt ta N B := h.ev e (W1_k (by omega)) (fun w => by have := w.2; omega) fun i hi q hq => ⟨fun w => by have := w.2; omega, fun w => by have := w.2; omega⟩
theorem it_ch {it ci : Nat} {τ : hSt} {l : List eT} {r : Option Nat} (h : ch σ kt l r) (e : ev G (W1 it ci) 0 σ τ) (hci : ci = 20 ∨ ci = 21) : ch τ kt l r := ce_keep (fun ka x w => w.ev e (W1_k (by omega))) (fun q hq h ka v nx w => w.ev e ⟨fun w => by have := w.2; omega, fun w => by have := w.2; omega⟩) h
/-- the search for the next bin that is not empty -/
theorem seek {α : Type} {it ci ta : Nat} {md : Int32} {B : Nat → List eT} {cur : Value} (hci : ci = 20 ∨ ci = 21) (hN : pw N) (P : hSt → Prop) (tup : hSt → α) (F : (α → Prop) → α → Prop)
    (hF : ∀ (K : α → Prop) z, gtI z (some it) [20, 21] 3 (fun x9 => aln z (some ta) (fun x10 => ((x10 ≤ x9 → P z) ∧ (¬ x10 ≤ x9 → gtI z (some it) [20, 21] 3 (fun x11 => ptV G z (some it) [20, 21] 3 (.int (x11 + 1)) (fun z12 => alR z12 (some ta) arL x11 (fun x13 => ptV G z12 (some it) [20, 21] 0 (va_rf x13) (fun z14 => ((x13 = none → K (tup z14)) ∧ (¬ x13 = none → P z14)))))))))) → F K (tup z))
    {idx : Nat} (hidx : idx ≤ N) (hS : SI G σ) (hit : σ.1 it = some (.inr (ci, [.null, cur, .int md, .int (Int32.ofNat idx), va_rf (some m)]))) (hB : BK σ kt ta N B)
    (hP : ∀ τ nxt idx' l, ev G (W1 it ci) 0 σ τ → τ.1 it = some (.inr (ci, [va_rf nxt, cur, .int md, .int (Int32.ofNat idx'), va_rf (some m)])) → idx' ≤ N → ch τ kt l nxt → flB B idx (N - idx) = l ++ flB B idx' (N - idx') → (nxt = none → flB B idx (N - idx) = []) → (nxt ≠ none → l ≠ []) → P τ) : lpI F (tup σ) := by
  have hNb := pw_b hN
  refine lp_n (fun n y => ∃ j z, N - j = n ∧ idx ≤ j ∧ j ≤ N ∧ y = tup z ∧ ev G (W1 it ci) 0 σ z ∧ z.1 it = some (.inr (ci, [.null, cur, .int md, .int (Int32.ofNat j), va_rf (some m)])) ∧ flB B idx (N - idx) = flB B j (N - j)) (N - idx) ⟨idx, σ, rfl, Nat.le_refl _, hidx, rfl, ev.refl hS, hit, rfl⟩ ?_
  rintro n y ⟨j, z, rfl, hj1, hj2, rfl, e, hz, hfl⟩ K hK
  refine hF K z (gI hz (n20 hci) rfl ?_)
  have hBz := it_bk hB e hci
  obtain ⟨f, hf, hc⟩ := hBz
  refine aL hf ⟨fun w => ?_, fun w => gI hz (n20 hci) rfl (pO e.t hz (n20 hci) (by simp) (n20' hci) fun τ1 w1 e1 => ?_)⟩
  · have w := (i_le (by omega) (by omega)).mp w
    have : j = N := by omega
    subst this
    rw [Nat.sub_self] at hfl
    refine hP z none j [] e hz (Nat.le_refl _) rfl ?_ (fun _ => hfl) fun w => absurd rfl w
    rw [hfl, Nat.sub_self]; rfl
  · have hj : j < N := Nat.lt_of_not_le fun q => w ((i_le (by omega) (by omega)).mpr q)
    have hti : ta ≠ it := by
      rintro rfl
      rw [hf] at hz; exact nomatch hz
    have hf1 : τ1.1 ta = some (.inl (6, N, .inr (.inr (.inr (.inr f))))) := by rw [w1.o hti]; exact hf
    refine aR hf1 (by decide) (by omega) hj (pO e1.t w1.1 (n20 hci) (by simp) (n20' hci) fun τ2 w2 e2 => ?_)
    have e02 : ev G (W1 it ci) 0 σ τ2 := ((e.tr e1).tr e2).le' (by omega)
    have hch := it_ch (it_ch (hc j hj) e1 hci) e2 hci
    have hN1 : N - j = (N - (j + 1)) + 1 := by omega
    have hfl1 : flB B idx (N - idx) = B j ++ flB B (j + 1) (N - (j + 1)) := by rw [hfl, hN1]; rfl
    have hit2 : τ2.1 it = some (.inr (ci, [va_rf (f j), cur, .int md, .int (Int32.ofNat (j + 1)), va_rf (some m)])) := by rw [← i_succ]; exact w2.1
    refine ⟨fun w9 => ?_, fun w9 => ?_⟩
    · have hBj : B j = [] := by
        cases hb : B j with
        | nil => rfl
        | cons q t => have := hc j hj; rw [hb, w9] at this; exact nomatch this.1
      rw [w9] at hit2
      exact hK (N - (j + 1)) _ (by omega) ⟨j + 1, τ2, rfl, by omega, by omega, rfl, e02, hit2, by rw [hfl1, hBj]; rfl⟩
    · refine hP τ2 (f j) (j + 1) (B j) e02 hit2 (by omega) hch hfl1 (fun w => absurd w w9) fun _ => ?_
      intro hb
      have := hc j hj
      rw [hb] at this
      exact w9 this
end HIT
