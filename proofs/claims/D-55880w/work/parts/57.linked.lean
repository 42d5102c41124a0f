/-! the linked map of the excuses -/
set_option maxRecDepth 100000
def lkd (σ : hSt) (a : Nat) (b f : Option Nat) : Prop := ∃ q0 q1 q2 q3, σ.1 a = some (.inr (27, [q0, q1, q2, q3, va_rf b, va_rf f]))
/-- the head of a list of entries, or what comes behind -/
def hd1 : List eT → Option Nat → Option Nat
  | [], e => e
  | q :: _, _ => some q.1
/-- its last one, or what comes ahead -/
def ls1 : List eT → Option Nat → Option Nat
  | [], b => b
  | q :: t, _ => ls1 t (some q.1)
def dl (σ : hSt) : Option Nat → List eT → Option Nat → Prop
  | _, [], _ => True
  | b, q :: t, e => lkd σ q.1 b (hd1 t e) ∧ dl σ (some q.1) t e
theorem nil_or_end (l : List eT) : l = [] ∨ ∃ l' p, l = l' ++ [p] := by
  induction l with
  | nil => exact Or.inl rfl
  | cons q t ih =>
    rcases ih with rfl | ⟨l', p, rfl⟩
    · exact Or.inr ⟨[], q, rfl⟩
    · exact Or.inr ⟨q :: l', p, rfl⟩
theorem hd1_app {l1 l2 : List eT} {e : Option Nat} : hd1 (l1 ++ l2) e = hd1 l1 (hd1 l2 e) := by
  cases l1 <;> rfl
theorem ls1_app {l1 l2 : List eT} {b : Option Nat} : ls1 (l1 ++ l2) b = ls1 l2 (ls1 l1 b) := by
  induction l1 generalizing b with
  | nil => rfl
  | cons q t ih => exact ih
theorem dl_app {σ : hSt} {l1 l2 : List eT} {b e : Option Nat} : dl σ b (l1 ++ l2) e ↔ dl σ b l1 (hd1 l2 e) ∧ dl σ (ls1 l1 b) l2 e := by
  induction l1 generalizing b with
  | nil => exact ⟨fun h => ⟨trivial, h⟩, fun h => h.2⟩
  | cons q t ih =>
    constructor
    · rintro ⟨h1, h2⟩
      have := ih.mp h2
      have h1' : lkd σ q.1 b (hd1 (t ++ l2) e) := h1
      rw [hd1_app] at h1'
      exact ⟨⟨h1', this.1⟩, this.2⟩
    · rintro ⟨⟨h1, h2⟩, h3⟩
      refine ⟨?_, ih.mpr ⟨h2, h3⟩⟩
      show lkd σ q.1 b (hd1 (t ++ l2) e)
      rw [hd1_app]; exact h1
theorem dl_keep {σ τ : hSt} {l : List eT} {b e : Option Nat} (hk : ∀ q ∈ l, ∀ b f, lkd σ q.1 b f → lkd τ q.1 b f) (h : dl σ b l e) : dl τ b l e := by
  induction l generalizing b with
  | nil => trivial
  | cons q t ih => exact ⟨hk q List.mem_cons_self _ _ h.1, ih (fun q hq => hk q (List.mem_cons_of_mem _ hq)) h.2⟩
theorem dl_in {σ : hSt} {l : List eT} {b e : Option Nat} (h : dl σ b l e) {q : eT} (hq : q ∈ l) : ∃ b f, lkd σ q.1 b f := by
  induction l generalizing b with
  | nil => exact nomatch hq
  | cons q0 t ih =>
    rcases List.mem_cons.mp hq with rfl | h9
    · exact ⟨_, _, h.1⟩
    · exact ih h.2 h9
theorem ls1_end {l : List eT} {p : eT} {b : Option Nat} : ls1 (l ++ [p]) b = some p.1 := by rw [ls1_app]; rfl
theorem lkd.ev {G : gE} {W : Nat → Nat → Prop} {c : Nat} {σ τ : hSt} {a : Nat} {b f : Option Nat} (h : lkd σ a b f) (he : ev G W c σ τ) (hW : ¬ W a 27) : lkd τ a b f := by
  obtain ⟨q0, q1, q2, q3, h⟩ := h
  exact ⟨q0, q1, q2, q3, he.o h hW (by decide) (by decide)⟩
/-- the bins of the linked map: its entries by their numbers -/
def lB (es : List eT) : Nat → List eT := fun i => es.filter fun q => decide (q.2.1 % 16 = i)
/-- m is a LinkedHashMap that holds the entries es in this order -/
def LM (G : gE) (σ : hSt) (D : Nat → Prop) (m : Nat) (md : Int32) (es : List eT) : Prop := ∃ t th, mm σ m 13 t (Int32.ofNat es.length) md th [va_rf (hd1 es none), va_rf (ls1 es none), .int 0, .int 0] ∧ D m ∧ dl σ none es none ∧ (es.map fun q => q.2.1).Nodup ∧ (∀ q ∈ es, D q.1 ∧ KY σ 5 q.2.2.1 q.2.1) ∧ ((t = none ∧ es = [] ∧ th = 0) ∨ ∃ ta, t = some ta ∧ D ta ∧ ¬ gX G ta ∧ th = 12 ∧ BK σ 5 ta 16 (lB es))
theorem hv5 (x : Nat) : hvk 5 x = x := if_neg (by decide)
theorem lB_W {es : List eT} (h : (es.map fun q => q.2.1).Nodup) : WB 5 16 (lB es) := by
  intro i hi
  refine ⟨fun q hq => ?_, List.Nodup.sublist (List.Sublist.map _ List.filter_sublist) h⟩
  rw [hv5]
  exact of_decide_eq_true (List.mem_filter.mp hq).2
theorem lB_in {es : List eT} {q : eT} (hq : q ∈ es) : q ∈ lB es (q.2.1 % 16) := List.mem_filter.mpr ⟨hq, decide_eq_true rfl⟩
theorem pw16 : pw 16 := ⟨4, by decide, by decide, rfl⟩
theorem LM.ev {G : gE} {W : Nat → Nat → Prop} {c : Nat} {σ τ : hSt} {D : Nat → Prop} {m : Nat} {md : Int32} {es : List eT} (h : LM G σ D m md es) (he : ev G W c σ τ) (hk : Wk W) (hW : ∀ a k, D a → mkd k → ¬ W a k) : LM G τ D m md es := by
  obtain ⟨t, th, h1, h2, h3, h4, h5, h6⟩ := h
  refine ⟨t, th, h1.ev he (hW _ _ h2 (Or.inr (Or.inl rfl))), h2, dl_keep (fun q hq b f w => w.ev he (hW _ _ (h5 q hq).1 (Or.inr (Or.inr (Or.inr (Or.inl rfl)))))) h3, h4, fun q hq => ⟨(h5 q hq).1, (h5 q hq).2.ev he hk⟩, h6.imp id ?_⟩
  rintro ⟨ta, q1, q2, q3, q4, q5⟩
  refine ⟨ta, q1, q2, q3, q4, q5.ev he hk (hW _ _ q2 (Or.inr (Or.inr (Or.inr (Or.inr rfl))))) fun i hi q hq => ?_⟩
  have := (h5 q (List.mem_filter.mp hq).1).1
  exact ⟨hW _ _ this (Or.inr (Or.inr (Or.inl rfl))), hW _ _ this (Or.inr (Or.inr (Or.inr (Or.inl rfl))))⟩
theorem LM.mono {G : gE} {σ : hSt} {D D' : Nat → Prop} {m : Nat} {md : Int32} {es : List eT} (h : LM G σ D m md es) (hD : ∀ a, D a → D' a) : LM G σ D' m md es := by
  obtain ⟨t, th, h1, h2, h3, h4, h5, h6⟩ := h
  refine ⟨t, th, h1, hD _ h2, h3, h4, fun q hq => ⟨hD _ (h5 q hq).1, (h5 q hq).2⟩, h6.imp id ?_⟩
  rintro ⟨ta, q1, q2, q3⟩
  exact ⟨ta, q1, hD _ q2, q3⟩
section LNK
variable {G : gE} {σ : hSt} {PX : Nat → Nat → hSt → Prop} {P : Option Nat → hSt → Prop} {m k x : Nat} {md : Int32} {D : Nat → Prop} {es : List eT}
theorem LM.rc (h : LM G σ D m md es) : rcv σ (some m) 13 := by
  obtain ⟨t, th, ⟨-, k0, k1, k3, h1⟩, -⟩ := h
  exact rco h1
theorem LM.nd (h : LM G σ D m md es) {q : eT} (hq : q ∈ es) : ∃ nx b f, σ.1 q.1 = some (.inr (27, [.int (Int32.ofNat q.2.1), va_rf (some q.2.2.1), va_rf q.2.2.2, va_rf nx, va_rf b, va_rf f])) := by
  obtain ⟨t, th, h1, h2, h3, h4, h5, ⟨-, rfl, -⟩ | ⟨ta, q1, q2, q3, q4, f, q5, q6⟩⟩ := h
  · exact nomatch hq
  · obtain ⟨b, f', q0', q1', q2', q3', w⟩ := dl_in h3 hq
    obtain ⟨-, nx, ci, Y, hc, hn⟩ := ce_in (q6 _ (Nat.mod_lt _ (by decide))) (lB_in hq)
    have e := w.symm.trans hn
    simp only [Option.some.injEq, Sum.inr.injEq, Prod.mk.injEq, List.cons.injEq] at e
    obtain ⟨-, e1, e2, e3, e4, -⟩ := e
    rw [hv5] at e1
    exact ⟨nx, b, f', by rw [w, e1, e2, e3, e4]⟩
theorem lsz_k {P : Int32 → hSt → Prop} (h : LM G σ D m md es) (hP : P (Int32.ofNat es.length) σ) : wJ1_size G P PX (some m) σ := by
  obtain ⟨t, th, ⟨hci, k0, k1, k3, h1⟩, -⟩ := h
  unfold wJ1_size wJ1_sizeb0
  exact gI h1 (by decide) rfl hP
theorem lfind_k (h : LM G σ D m md es) (hk : KY σ 5 k x) (h1 : ∀ q ∈ es, q.2.1 = x → P (some q.1) σ) (h2 : (∀ q ∈ es, q.2.1 ≠ x) → P none σ) : wJ1_getNode G P PX (some m) (some k) σ := by
  obtain ⟨t, th, hm, -, h3, h4, h5, ⟨rfl, rfl, -⟩ | ⟨ta, rfl, q2, q3, q4, f, hf, hc⟩⟩ := h
  · exact getNode_0 hm (h2 fun q hq => nomatch hq)
  · have hlt : hvk 5 x % 16 < 16 := Nat.mod_lt _ (by decide)
    refine getNode_k hm rfl hf pw16 hk (hc _ hlt) (fun q hq e => h1 q (List.mem_filter.mp hq).1 e) fun hn => h2 fun q hq e => ?_
    refine hn q ?_ e
    rw [hv5, ← e]
    exact lB_in hq
theorem lget_k (h : LM G σ D m md es) (hk : KY σ 5 k x) (h1 : ∀ q ∈ es, q.2.1 = x → P q.2.2.2 σ) (h2 : (∀ q ∈ es, q.2.1 ≠ x) → P none σ) : wJ2_get G P PX (some m) (some k) σ := by
  have h' := h
  obtain ⟨t, th, ⟨hci, k0, k1, k3, hm⟩, -⟩ := h'
  unfold wJ2_get wJ2_getb0
  refine ⟨h.rc, lfind_k h hk (fun q hq e => ⟨fun _ => gI hm (by decide) rfl ⟨fun _ => ?_, fun w => absurd rfl w⟩, fun w => nomatch w⟩) fun hn => ⟨fun w => absurd rfl w, fun _ => h2 hn⟩⟩
  obtain ⟨nx, b, f, hq2⟩ := h.nd hq
  unfold wJ2_getb24
  exact gR hq2 (by decide) rfl (h1 q hq e)
/-- a linked node made and hung behind the last one -/
theorem lnode_k {K : Option Nat → hSt → Prop} {t : Option Nat} {sz th : Int32} {v : Option Nat} {h : Nat} (hS : SI G σ) (hm : mm σ m 13 t sz md th [va_rf (hd1 es none), va_rf (ls1 es none), .int 0, .int 0]) (hDm : D m) (hd : dl σ none es none) (hDe : ∀ q ∈ es, D q.1) (hnd : (es.map fun q => q.1).Nodup) (hb : bd G σ 7) (hDf : ∀ a, σ.2.1 ≤ a → D a) (hK : ∀ τ a, a = σ.2.1 → σ.1 a = none → ev G (Wm D) 7 σ τ → (∀ q, nq τ a h k v none ∧ (∀ b h' ka v' nx, nq σ b h' ka v' nx → nq τ b h' ka v' nx) ∧ mm τ m 13 t sz md th [va_rf (hd1 (es ++ [(a, q)]) none), va_rf (ls1 (es ++ [(a, q)]) none), .int 0, .int 0] ∧ dl τ none (es ++ [(a, q)]) none) → (∀ ta n f, σ.1 ta = some (.inl (6, n, f)) → τ.1 ta = some (.inl (6, n, f))) → K (some a) τ) : wJ2_newNode G K PX (some m) (Int32.ofNat h) (some k) v none σ := by
  obtain ⟨hci, k0, k1, k3, hm⟩ := hm
  unfold wJ2_newNode wJ2_newNodeb0
  refine nO hS hb (fun w => by omega) fun a τ n hX e => ⟨⟨a, rfl⟩, ?_⟩
  unfold wJ38_init wJ38_initb0 wJ37_init wJ37_initb0
  refine ⟨⟨a, rfl⟩, ⟨a, rfl⟩, pO e.t n.2.1 (by decide) (by simp) (by decide) fun τ1 w1 e1 => pO e1.t w1.1 (by decide) (by simp) (by decide) fun τ2 w2 e2 => pO e2.t w2.1 (by decide) (by simp) (by decide) fun τ3 w3 e3 => pO e3.t w3.1 (by decide) (by simp) (by decide) fun τ4 w4 e4 => ?_⟩
  have ha : σ.2.1 ≤ a := by rw [n.1]; exact Nat.le_refl _
  have e04 : ev G W0 7 σ τ4 := (((((e.f1 e1 ha).f1 e2 ha).f1 e3 ha).f1 e4 ha).le' (by omega))
  have hk4 : ∀ b, b ≠ a → τ4.1 b = σ.1 b := fun b hb => by rw [w4.o hb, w3.o hb, w2.o hb, w1.o hb, n.2.2.1 b hb]
  have ham : m ≠ a := n.ne hm
  have hm4 : τ4.1 m = some (.inr (13, mFl8 k0 k1 k3 t sz md th [va_rf (hd1 es none), va_rf (ls1 es none), .int 0, .int 0])) := by rw [hk4 m ham]; exact hm
  refine ⟨rco hm4, ?_⟩
  unfold wJ2_linkNodeAtEnd wJ2_linkNodeAtEndb0
  refine gI hm4 (by decide) rfl ⟨fun _ => gR hm4 (by decide) rfl (pM e4.t hm4 (by decide) (by simp) hci (by decide) (by decide) (by decide) fun τ5 w5 e5 => ?_), fun w => absurd w (by decide)⟩
  have ha5 : τ5.1 a = some (.inr (27, [.int (Int32.ofNat h), va_rf (some k), va_rf v, va_rf none, .null, .null])) := by rw [w5.o (Ne.symm ham)]; exact w4.1
  have hDa : D a := hDf a ha
  have e05 : ev G (Wm D) 7 σ τ5 := (e04.up0.tr (e5.up hDm (by unfold mkd; omega))).le' (by omega)
  have hnn : ∀ b e, σ.1 b = some e → b ≠ a := fun b e hb => n.ne hb
  rcases nil_or_end es with rfl | ⟨l, p, rfl⟩
  · refine ⟨fun w => absurd rfl w, fun _ => pM e5.t w5.1 (by decide) (by simp) hci (by decide) (by decide) (by decide) fun τ6 w6 e6 => ?_⟩
    refine hK τ6 a n.1 n.2.2.2 ((e05.tr (e6.up hDm (by unfold mkd; omega))).le' (by omega)) (fun q => ⟨⟨27, [.null, .null], Or.inr rfl, by rw [w6.o (Ne.symm ham)]; exact ha5⟩, fun b h' ka v' nx ⟨cj, Y, hc, hq⟩ => ⟨cj, Y, hc, ?_⟩, ⟨hci, k0, k1, k3, w6.1⟩, ⟨_, _, _, _, by rw [w6.o (Ne.symm ham)]; exact ha5⟩, trivial⟩) fun ta n f hf => ?_
    · have hbm : b ≠ m := by
        rintro rfl
        rw [hm] at hq
        injection hq with w; injection w with w; injection w with w1 w2
        omega
      rw [w6.o hbm, w5.o hbm, hk4 b (hnn _ _ hq)]; exact hq
    · have hbm : ta ≠ m := by
        rintro rfl
        rw [hm] at hf; exact nomatch hf
      rw [w6.o hbm, w5.o hbm, hk4 ta (hnn _ _ hf)]; exact hf
  · have hpm : p ∈ l ++ [p] := List.mem_append_right _ List.mem_cons_self
    have hls : ls1 (l ++ [p]) none = some p.1 := ls1_end
    have hdl := dl_app.mp hd
    obtain ⟨q0, q1, q2, q3, hp⟩ : lkd σ p.1 (ls1 l none) none := hdl.2.1
    have hpa : p.1 ≠ a := hnn _ _ hp
    have hpmm : p.1 ≠ m := by
      intro w
      rw [w, hm] at hp
      injection hp with w; injection w with w; injection w with w1 w2
      omega
    refine ⟨fun _ => ?_, fun w => by rw [hls] at w; exact nomatch w⟩
    refine pO e5.t ha5 (by decide) (by simp) (by decide) fun τ6 w6 e6 => ?_
    rw [hls]
    have hp6 : τ6.1 p.1 = some (.inr (27, [q0, q1, q2, q3, va_rf (ls1 l none), va_rf none])) := by rw [w6.o hpa, w5.o hpmm, hk4 _ hpa]; exact hp
    refine pO e6.t hp6 (by decide) (by simp) (by decide) fun τ7 w7 e7 => ?_
    have ha7 : τ7.1 a = some (.inr (27, [.int (Int32.ofNat h), va_rf (some k), va_rf v, va_rf none, va_rf (some p.1), .null])) := by rw [w7.o (Ne.symm hpa), w6.1, hls]; rfl
    refine hK τ7 a n.1 n.2.2.2 (((e05.tr (e6.up hDa (by unfold mkd; omega))).tr (e7.up (hDe p hpm) (by unfold mkd; omega))).le' (by omega)) (fun q => ⟨⟨27, [va_rf (some p.1), .null], Or.inr rfl, ha7⟩, fun b h' ka v' nx ⟨cj, Y, hc, hq⟩ => ?_, ⟨hci, k0, k1, k3, ?_⟩, ?_⟩) fun ta n f hf => ?_
    · have hbm : b ≠ m := by
        rintro rfl
        rw [hm] at hq
        injection hq with w; injection w with w; injection w with w1 w2
        omega
      by_cases hbp : b = p.1
      · subst hbp
        have e9 := hp.symm.trans hq
        simp only [Option.some.injEq, Sum.inr.injEq, Prod.mk.injEq, List.cons.injEq] at e9
        obtain ⟨rfl, rfl, rfl, rfl, rfl, -⟩ := e9
        exact ⟨27, [va_rf (ls1 l none), va_rf (some a)], Or.inr rfl, w7.1⟩
      · exact ⟨cj, Y, hc, by rw [w7.o hbp, w6.o (hnn _ _ hq), w5.o hbm, hk4 b (hnn _ _ hq)]; exact hq⟩
    · rw [w7.o (Ne.symm hpmm), w6.o ham, w5.1]
      have e1 : hd1 (l ++ [p] ++ [(a, q)]) none = hd1 (l ++ [p]) none := by
        rw [hd1_app, hd1_app, hd1_app]
        cases l <;> rfl
      have e2 : ls1 (l ++ [p] ++ [(a, q)]) none = some a := ls1_end
      rw [e1, e2]
      rfl
    · refine dl_app.mpr ⟨dl_app.mpr ⟨?_, ⟨q0, q1, q2, q3, w7.1⟩, trivial⟩, ?_⟩
      · refine dl_keep (fun q' hq' b f w => ?_) hdl.1
        have hne : q'.1 ≠ p.1 := by
          rw [List.map_append, List.nodup_append] at hnd
          exact hnd.2.2 q'.1 (List.mem_map.mpr ⟨q', hq', rfl⟩) p.1 (by simp)
        obtain ⟨r0, r1, r2, r3, w⟩ := w
        have hbm : q'.1 ≠ m := by
          intro e9
          rw [e9, hm] at w
          injection w with w; injection w with w; injection w with w1 w2
          omega
        exact ⟨r0, r1, r2, r3, by rw [w7.o hne, w6.o (hnn _ _ w), w5.o hbm, hk4 _ (hnn _ _ w)]; exact w⟩
      · rw [hls]
        exact ⟨⟨_, _, _, _, ha7⟩, trivial⟩
    · have hbm : ta ≠ m := by
        rintro rfl
        rw [hm] at hf; exact nomatch hf
      have hbp : ta ≠ p.1 := by
        rintro rfl
        rw [hp] at hf; exact nomatch hf
      rw [w7.o hbp, w6.o (hnn _ _ hf), w5.o hbm, hk4 ta (hnn _ _ hf)]; exact hf
end LNK
