/-! lists: place of an object, iterators, removal -/
set_option maxRecDepth 100000
section LIST2
variable {G : gE} {σ : hSt} {PX : Nat → Nat → hSt → Prop} {a arr : Nat} {md : Int32} {l : List Nat}
/-- the place of an object (an Excuse) by identity -/
theorem al_idx {P : Int32 → hSt → Prop} {x i : Nat} {fs : List Value} (h : AL G σ a arr md l) (hx : σ.1 x = some (.inr (7, fs))) (hi : l[i]? = some x) (hf : ∀ j, j < i → l[j]? ≠ some x) (hP : P (Int32.ofNat i) σ) : wJ7_indexOf G P PX (some a) (some x) σ := by
  have hrc := h.rc
  obtain ⟨cap, f, q1, q2, q3, q4, q5, q6⟩ := h
  have hil : i < l.length := (List.getElem?_eq_some_iff.mp hi).1
  unfold wJ7_indexOf wJ7_indexOfb0
  refine gI q1 (by decide) rfl ⟨hrc, ?_⟩
  unfold wJ7_indexOfRange wJ7_indexOfRangeb0
  refine gR q1 (by decide) rfl ⟨fun _ => ?_, fun w => nomatch w⟩
  refine lp_n (fun n y => ∃ j, j ≤ i ∧ n = i - j ∧ y = (some x, Int32.ofNat l.length, some arr, Int32.ofNat j, σ)) i ⟨0, Nat.zero_le _, rfl, rfl⟩ ?_
  rintro n y ⟨j, hj, rfl, rfl⟩ K hK
  unfold wJ7_indexOfRangeb42
  refine ⟨fun w => ?_, fun _ => aR q2 (by decide) (by omega) (by omega) ⟨rco hx, ?_⟩⟩
  · rw [i_le (by omega) (by omega)] at w
    omega
  have hjl : j < l.length := by omega
  have hq := (q5 j l[j] (List.getElem?_eq_getElem hjl)).1
  rw [hq]
  unfold wJ51_equals wJ51_equalsb0
  by_cases e : j = i
  · subst e
    have e2 : l[j] = x := by
      rw [List.getElem?_eq_getElem hjl] at hi
      injection hi
    exact ⟨fun w => absurd (by rw [e2]) w, fun _ => ⟨ok_b1, fun w => absurd w (by decide), fun _ => hP⟩⟩
  · have e2 : l[j] ≠ x := fun w => hf j (by omega) (by rw [List.getElem?_eq_getElem hjl, w])
    refine ⟨fun _ => ⟨ok_b0, fun _ => ?_, fun w => absurd rfl w⟩, fun w => absurd (by injection w with w; exact w.symm) e2⟩
    rw [i_succ]
    exact hK (i - (j + 1)) _ (by omega) ⟨j + 1, by omega, rfl, rfl⟩
/-- an iterator over a list -/
def LI (σ : hSt) (it a : Nat) (md : Int32) (i : Nat) : Prop := ∃ lr, σ.1 it = some (.inr (19, [.int (Int32.ofNat i), lr, .int md, va_rf (some a)]))
theorem LI.ev {W : Nat → Nat → Prop} {c : Nat} {τ : hSt} {it i : Nat} (h : LI σ it a md i) (he : ev G W c σ τ) (hW : ¬ W it 19) : LI τ it a md i := by
  obtain ⟨lr, h⟩ := h
  exact ⟨lr, he.o h hW (by decide) (by decide)⟩
theorem li_new {P : Option Nat → hSt → Prop} (hS : SI G σ) (h : AL G σ a arr md l) (hb : bd G σ 5) (hP : ∀ τ it, ev G W0 5 σ τ → σ.2.1 ≤ it → LI τ it a md 0 → P (some it) τ) : wJ7_iterator G P PX (some a) σ := by
  obtain ⟨cap, f, q1, -⟩ := h
  unfold wJ7_iterator wJ7_iteratorb0
  refine nO hS hb (fun w => by omega) fun it τ n hX e => ⟨⟨it, rfl⟩, ?_⟩
  have q11 := n.o q1
  have hne : a ≠ it := n.ne q1
  unfold wJ19_init wJ19_initb0
  refine pO e.t n.2.1 (by decide) (by simp) (by decide) fun τ1 w1 e1 => ⟨⟨it, rfl⟩, pO e1.t w1.1 (by decide) (by simp) (by decide) fun τ2 w2 e2 => gR w2.1 (by decide) rfl (gI (by rw [w2.o hne, w1.o hne]; exact q11) (by decide) rfl (pO e2.t w2.1 (by decide) (by simp) (by decide) fun τ3 w3 e3 => ?_))⟩
  have ha : σ.2.1 ≤ it := by rw [n.1]; exact Nat.le_refl _
  exact hP τ3 it (((((e.f1 e1 ha).f1 e2 ha).f1 e3 ha)).le' (by omega)) ha ⟨_, w3.1⟩
/-- one round of the iteration -/
theorem li_step {it i : Nat} {X : hSt → Prop} {Bd : Option Nat → hSt → Prop} (hS : SI G σ) (hi : LI σ it a md i) (h : AL G σ a arr md l) (hil : i ≤ l.length) (hX : i = l.length → X σ) (hB : ∀ x, l[i]? = some x → ∀ υ, ev G (W1 it 19) 0 σ υ → LI υ it a md (i + 1) → Bd (some x) υ) : rcv σ (some it) 19 ∧ wJ19_hasNext G (fun x7 z6 => ((x7 = 0 → X z6) ∧ (¬ x7 = 0 → (rcv z6 (some it) 19 ∧ wJ19_next G (fun x9 z8 => Bd x9 z8) PX (some it) z6)))) PX (some it) σ := by
  obtain ⟨lr, hi⟩ := hi
  obtain ⟨cap, f, q1, q2, q3, q4, q5, q6⟩ := h
  refine ⟨rco hi, ?_⟩
  unfold wJ19_hasNext wJ19_hasNextb0
  refine gI hi (by decide) rfl (gR hi (by decide) rfl (gI q1 (by decide) rfl ⟨fun w => ⟨ok_b0, fun _ => hX ((i_eq (by omega) (by omega)).mp w), fun w => absurd rfl w⟩, fun w => ⟨ok_b1, fun w => absurd w (by decide), fun _ => ⟨rco hi, ?_⟩⟩⟩))
  have hlt : i < l.length := by
    rw [i_eq (by omega) (by omega)] at w
    omega
  have hai : a ≠ it := by
    rintro rfl
    rw [q1] at hi
    injection hi with w; injection w with w; injection w with w1 w2
    omega
  have hri : arr ≠ it := by
    rintro rfl
    rw [q2] at hi; exact nomatch hi
  unfold wJ19_next wJ19_nextb0
  refine ⟨rco hi, ?_⟩
  unfold wJ19_checkForComodification wJ19_checkForComodificationb0
  refine gR hi (by decide) rfl (gI q1 (by decide) rfl (gI hi (by decide) rfl ⟨fun _ => ?_, fun w => absurd rfl w⟩))
  refine gI hi (by decide) rfl (gR hi (by decide) rfl (gI q1 (by decide) rfl ⟨fun _ => gR hi (by decide) rfl (gR q1 (by decide) rfl (aL q2 ⟨fun _ => ?_, fun w => absurd ((i_lt (by omega) (by omega)).mpr (by omega)) w⟩)), fun w => absurd ((i_lt (by omega) (by omega)).mpr hlt) w⟩))
  refine pO hS hi (by decide) (by simp) (by decide) fun τ1 w1 e1 => pO e1.t w1.1 (by decide) (by simp) (by decide) fun τ2 w2 e2 => ?_
  refine aR (by rw [w2.o hri, w1.o hri]; exact q2) (by decide) (by omega) (by omega) ?_
  have hx := List.getElem?_eq_getElem hlt
  rw [(q5 i _ hx).1]
  exact hB _ hx τ2 ((e1.tr e2).le' (by omega)) ⟨_, by rw [← i_succ]; exact w2.1⟩
end LIST2
