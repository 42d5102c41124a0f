/-! the linked map: an entry gone -/
set_option maxRecDepth 100000
section PY
variable {G : gE} {σ : hSt}
theorem pY {K : hSt → Prop} {a i : Nat} {b f r : Option Nat} (hi : i = 4 ∨ i = 5) (hS : SI G σ) (h : lkd σ a b f) (hK : ∀ τ, ev G (W1 a 27) 0 σ τ → lkd τ a (if i = 4 then r else b) (if i = 5 then r else f) → (∀ c h ka v nx, nq σ c h ka v nx → nq τ c h ka v nx) → (∀ c, c ≠ a → τ.1 c = σ.1 c) → (∀ q0 q1 q2 q3 b f, σ.1 a = some (.inr (27, [q0, q1, q2, q3, b, f])) → ∃ b' f', τ.1 a = some (.inr (27, [q0, q1, q2, q3, b', f']))) → K τ) : ptV G σ (some a) [27] i (va_rf r) K := by
  obtain ⟨q0, q1, q2, q3, h⟩ := h
  refine pO hS h (by decide) (by rcases hi with rfl | rfl <;> simp) (by decide) fun τ w e => hK τ e ?_ (fun c h' ka v nx hn => ?_) w.2.1 fun r0 r1 r2 r3 b' f' h9 => ?_
  · rcases hi with rfl | rfl
    · exact ⟨q0, q1, q2, q3, w.1⟩
    · exact ⟨q0, q1, q2, q3, w.1⟩
  · by_cases hc : c = a
    · subst hc
      obtain ⟨cj, Y, hcj, hq⟩ := hn
      have e9 := h.symm.trans hq
      simp only [Option.some.injEq, Sum.inr.injEq, Prod.mk.injEq, List.cons.injEq] at e9
      obtain ⟨rfl, rfl, rfl, rfl, rfl, rfl⟩ := e9
      rcases hi with rfl | rfl
      · exact ⟨27, _, Or.inr rfl, w.1⟩
      · exact ⟨27, _, Or.inr rfl, w.1⟩
    · exact hn.wr w hc
  · have e9 := h.symm.trans h9
    simp only [Option.some.injEq, Sum.inr.injEq, Prod.mk.injEq, List.cons.injEq, true_and] at e9
    obtain ⟨rfl, rfl, rfl, rfl, -⟩ := e9
    rcases hi with rfl | rfl
    · exact ⟨_, _, w.1⟩
    · exact ⟨_, _, w.1⟩
end PY
section LREM
variable {G : gE} {σ : hSt} {PX : Nat → Nat → hSt → Prop} {P : Option Nat → hSt → Prop} {m k x : Nat} {md : Int32} {D : Nat → Prop}
theorem rem_loop {kt ta : Nat} {l : List eT} {q0 q : eT} {idx : Int32} (hk : KY σ kt k x) (hl : ch σ kt l (some q0.1)) (hl0 : ∃ t, l = q0 :: t) (hne : q0.2.1 ≠ x) (hq : q ∈ l) (hqx : q.2.1 = x) (hM : ∀ c p d, l = c ++ p :: q :: d → wJ1_removeNodeb171 G P PX (some m) none 0 1 (some ta) (some p.1) idx (some q.1) σ) (hun : ∀ q' ∈ l, q'.2.1 = x → q' = q) : wJ1_removeNodeb81 G P PX (some m) (Int32.ofNat (hvk kt x)) (some k) none 0 1 (some ta) (some q0.1) idx none σ := by
  obtain ⟨t, rfl⟩ := hl0
  have hb1 := hk.hb
  obtain ⟨-, hq0, nx0, ⟨c0, Y0, hc0, hn0⟩, ht0⟩ := id hl
  have hqt : q ∈ t := by
    rcases List.mem_cons.mp hq with rfl | h
    · exact absurd hqx hne
    · exact h
  unfold wJ1_removeNodeb81
  refine gR hn0 (n26 hc0) rfl ⟨fun w => ?_, fun w => iOn hn0 (n26 hc0) ⟨fun _ => ?_, fun w => absurd rfl w⟩⟩
  · cases t with
    | nil => exact nomatch hqt
    | cons q2 t2 => rw [w] at ht0; exact nomatch ht0.1
  refine lp_n (fun n y => ∃ c p e d, q0 :: t = c ++ p :: e :: d ∧ d.length = n ∧ y = (some m, Int32.ofNat (hvk kt x), some k, none, 0, 1, some ta, some p.1, idx, none, some e.1, σ) ∧ q ∈ e :: d) (t.length - 1) ?_ ?_
  · cases t with
    | nil => exact nomatch hqt
    | cons q2 t2 => exact ⟨[], q0, q2, t2, rfl, rfl, by rw [ht0.1], hqt⟩
  rintro n y ⟨c, p, e, d, he, rfl, rfl, hqe⟩ K hK
  rw [he] at hl
  obtain ⟨mm, hl1, rfl, hp, nxp, hnp, rfl, hek, nx, ⟨cj, Y, hc, hn⟩, hd⟩ := ce_app.mp hl
  have hbe := hek.hb
  have hem : e ∈ q0 :: t := by rw [he]; exact List.mem_append_right _ (List.mem_cons_of_mem _ List.mem_cons_self)
  have hit : e.2.1 = x → wJ1_removeNodeb149 G P PX (some m) none 0 1 (some ta) (some p.1) idx (some e.1) σ := by
    intro hx
    have := hun e hem hx
    subst this
    unfold wJ1_removeNodeb149
    exact hM c p d he
  have go : e.2.1 ≠ x → wJ1_removeNodeb156 G P PX K (some m) (Int32.ofNat (hvk kt x)) (some k) none 0 1 (some ta) idx none (some e.1) σ := by
    intro hx
    have hqd : q ∈ d := by
      rcases List.mem_cons.mp hqe with rfl | h
      · exact absurd hqx hx
      · exact h
    unfold wJ1_removeNodeb156
    refine gR hn (n26 hc) rfl ⟨fun w => ?_, fun w => ?_⟩
    · cases d with
      | nil => exact nomatch hqd
      | cons q2 t2 =>
        rw [hd.1]
        exact hK t2.length _ (by simp) ⟨c ++ [p], e, q2, t2, by rw [he]; simp, rfl, rfl, hqd⟩
    · cases d with
      | nil => exact nomatch hqd
      | cons q2 t2 => rw [w] at hd; exact nomatch hd.1
  unfold wJ1_removeNodeb115
  refine gI hn (n26 hc) rfl ⟨fun hx => go fun e => hx (by rw [e]), fun hx => gR hn (n26 hc) rfl ⟨fun e2 => ?_, fun e2 => ⟨fun w => (nomatch w), fun _ => ?_⟩⟩⟩
  · cases e2
    exact hit (hek.inj hk)
  · refine eq_k hk hek (fun e3 => ?_) fun e3 => ?_
    · unfold wJ1_removeNodeb146
      exact ⟨fun w => absurd w (by decide), fun _ => hit e3.symm⟩
    · unfold wJ1_removeNodeb146
      exact ⟨fun _ => go (Ne.symm e3), fun w => absurd rfl w⟩
theorem rem_walk {kt ta N : Nat} {t : Option Nat} {sz md th : Int32} {Y : List Value} {f : Nat → Option Nat} {l : List eT} {q : eT} (hm : mm σ m 13 t sz md th Y) (ht : t = some ta) (hta : σ.1 ta = some (.inl (6, N, .inr (.inr (.inr (.inr f)))))) (hN : pw N) (hk : KY σ kt k x) (hl : ch σ kt l (f (hvk kt x % N))) (hq : q ∈ l) (hqx : q.2.1 = x) (hun : ∀ q' ∈ l, q'.2.1 = x → q' = q)
    (hH : (∃ d, l = q :: d) → wJ1_removeNodeb171 G P PX (some m) none 0 1 (some ta) (some q.1) (Int32.ofNat (hvk kt x % N)) (some q.1) σ)
    (hM : ∀ c p d, l = c ++ p :: q :: d → wJ1_removeNodeb171 G P PX (some m) none 0 1 (some ta) (some p.1) (Int32.ofNat (hvk kt x % N)) (some q.1) σ) : wJ1_removeNode G P PX (some m) (Int32.ofNat (hvk kt x)) (some k) none 0 1 σ := by
  obtain ⟨hci, k0, k1, k3, hm⟩ := hm
  subst ht
  have hb1 := hk.hb
  have hNb := pw_b hN
  have e1 : (Int32.ofNat N - 1) &&& Int32.ofNat (hvk kt x) = Int32.ofNat (hvk kt x % N) := by
    obtain ⟨j, -, hj, rfl⟩ := hN
    exact bix0 j hj _ hb1
  unfold wJ1_removeNode wJ1_removeNodeb0
  refine gR hm (by decide) rfl ⟨fun w => (nomatch w), fun _ => aL hta ⟨fun w => ?_, fun _ => ?_⟩⟩
  · rw [show (0 : Int32) = Int32.ofNat 0 from rfl, i_le (by omega) (by omega)] at w
    omega
  rw [e1]
  obtain _ | ⟨q1, t1⟩ := l
  · exact nomatch hq
  obtain ⟨er, hq1, nx, ⟨cj, Y', hcj, hc⟩, ht1⟩ := id hl
  refine aR hta (by decide) (by omega) (Nat.mod_lt _ (by omega)) ⟨fun w => by rw [er] at w; exact (nomatch w), fun _ => ?_⟩
  rw [er]
  rw [er] at hl
  have hb2 := hq1.hb
  have go : q1.2.1 ≠ x → wJ1_removeNodeb81 G P PX (some m) (Int32.ofNat (hvk kt x)) (some k) none 0 1 (some ta) (some q1.1) (Int32.ofNat (hvk kt x % N)) none σ := fun hx => rem_loop hk hl ⟨t1, rfl⟩ hx hq hqx hM hun
  have hit : q1.2.1 = x → wJ1_removeNodeb74 G P PX (some m) none 0 1 (some ta) (some q1.1) (Int32.ofNat (hvk kt x % N)) σ := by
    intro hx
    have := hun q1 List.mem_cons_self hx
    subst this
    unfold wJ1_removeNodeb74
    exact hH ⟨t1, rfl⟩
  refine gI hc (n26 hcj) rfl ⟨fun hx => go fun e => hx (by rw [e]), fun hx => gR hc (n26 hcj) rfl ⟨fun e2 => ?_, fun e2 => ⟨fun w => (nomatch w), fun _ => ?_⟩⟩⟩
  · cases e2
    exact hit (hq1.inj hk)
  · refine eq_k hk hq1 (fun e3 => ?_) fun e3 => ?_
    · unfold wJ1_removeNodeb71
      exact ⟨fun w => absurd w (by decide), fun _ => hit e3.symm⟩
    · unfold wJ1_removeNodeb71
      exact ⟨fun _ => go (Ne.symm e3), fun w => absurd rfl w⟩
theorem lrem_end {ta : Nat} {l1 l2 : List eT} {q : eT} (hS : SI G σ) (hm : mm σ m 13 (some ta) (Int32.ofNat (l1 ++ q :: l2).length) md 12 [va_rf (hd1 (l1 ++ q :: l2) none), va_rf (ls1 (l1 ++ q :: l2) none), .int 0, .int 0]) (hlen : (l1 ++ q :: l2).length ≤ 12) (hDm : D m) (hDa : D ta) (hXa : ¬ gX G ta) (hdl : dl σ none (l1 ++ q :: l2) none) (hnda : ((l1 ++ q :: l2).map fun q => q.1).Nodup) (hnd : ((l1 ++ q :: l2).map fun q => q.2.1).Nodup) (hDe : ∀ p ∈ l1 ++ q :: l2, D p.1 ∧ KY σ 5 p.2.2.1 p.2.1) (hB : BK σ 5 ta 16 (lB (l1 ++ l2))) {nx : Option Nat} (hqn : nq σ q.1 q.2.1 q.2.2.1 q.2.2.2 nx) (hP : ∀ τ, ev G (Wm D) 0 σ τ → LM G τ D m (md + 1) (l1 ++ l2) → (∃ h ka nx, nq τ q.1 h ka q.2.2.2 nx) → P (some q.1) τ) : wJ1_removeNodeb260 G P PX (some m) (some q.1) σ := by
  obtain ⟨hci, k0, k1, k3, hm⟩ := hm
  have hsub : ∀ p ∈ l1 ++ l2, p ∈ l1 ++ q :: l2 := fun p hp => by
    rcases List.mem_append.mp hp with h | h
    · exact List.mem_append_left _ h
    · exact List.mem_append_right _ (List.mem_cons_of_mem _ h)
  have hqm : q ∈ l1 ++ q :: l2 := List.mem_append_right _ List.mem_cons_self
  unfold wJ1_removeNodeb260
  refine gI hm (by decide) rfl (pM hS hm (by decide) (by simp) hci (by decide) (by decide) (by decide) fun τ1 w1 e1 => ?_)
  refine gI w1.1 (by decide) rfl (pM e1.t w1.1 (by decide) (by simp) hci (by decide) (by decide) (by decide) fun τ2 w2 e2 => ?_)
  have hnm : ∀ b fs, σ.1 b = some (.inr (27, fs)) → b ≠ m := fun b fs hb => by
    rintro rfl
    rw [hm] at hb
    injection hb with w; injection w with w; injection w with w1 w2
    omega
  have hl2 : ∀ a b f, lkd σ a b f → lkd τ2 a b f := fun a b f ⟨q0, q1, q2, q3, h⟩ => ⟨q0, q1, q2, q3, by rw [w2.o (hnm _ _ h), w1.o (hnm _ _ h)]; exact h⟩
  have hw1 : ∀ {a : Nat}, ¬ W1 m 13 a 27 := fun w => by have := w.2; omega
  have hw2 : ∀ {a : Nat}, ¬ W1 m 13 a 26 := fun w => by have := w.2; omega
  have hn2 : ∀ c h ka v nx, nq σ c h ka v nx → nq τ2 c h ka v nx := fun c h ka v nx w => (w.ev e1 ⟨hw2, hw1⟩).ev e2 ⟨hw2, hw1⟩
  have e12 : ev G (Wm D) 0 σ τ2 := ((e1.up hDm (by unfold mkd; omega)).tr (e2.up hDm (by unfold mkd; omega))).le' (by omega)
  refine ⟨rco w2.1, ?_⟩
  obtain ⟨hdl1, hlq, hdl2⟩ := dl_app.mp hdl
  have hlq2 := hl2 _ _ _ hlq
  obtain ⟨q0, q1, q2, q3, hqc⟩ := hlq2
  unfold wJ2_afterNodeRemoval wJ2_afterNodeRemovalb0
  refine ⟨cO hqc (by decide), gR hqc (by decide) rfl (gR hqc (by decide) rfl ?_)⟩
  refine pY (Or.inr rfl) e2.t (hl2 _ _ _ hlq) fun τ3 e3 hl3 hn3 hk3 hf3 => ?_
  refine pY (Or.inl rfl) e3.t hl3 fun τ4 e4 hl4 hn4 hk4 hf4 => ?_
  have hDq := (hDe q hqm).1
  have e14 : ev G (Wm D) 0 σ τ4 := ((e12.tr (e3.up hDq (by unfold mkd; omega))).tr (e4.up hDq (by unfold mkd; omega))).le' (by omega)
  have hmq : m ≠ q.1 := fun e => by
    obtain ⟨r0, r1, r2, r3, h⟩ := hlq
    exact hnm _ _ h e.symm
  have hm4 : τ4.1 m = some (.inr (13, mFl8 k0 k1 k3 (some ta) (Int32.ofNat (l1 ++ q :: l2).length - 1) (md + 1) 12 [va_rf (hd1 (l1 ++ q :: l2) none), va_rf (ls1 (l1 ++ q :: l2) none), .int 0, .int 0])) := by rw [hk4 _ hmq, hk3 _ hmq]; exact w2.1
  have hsz : Int32.ofNat (l1 ++ q :: l2).length - 1 = Int32.ofNat (l1 ++ l2).length := by
    rw [show (1 : Int32) = Int32.ofNat 1 from rfl, i_sub (by simp; omega)]
    congr 1
    simp
  have hne : ∀ p ∈ l1 ++ l2, p.1 ≠ q.1 := by
    intro p hp e
    rw [List.map_append, List.map_cons, List.nodup_append] at hnda
    rcases List.mem_append.mp hp with h | h
    · exact hnda.2.2 p.1 (List.mem_map.mpr ⟨p, h, rfl⟩) q.1 List.mem_cons_self e
    · have := hnda.2.1
      rw [List.nodup_cons] at this
      exact this.1 (List.mem_map.mpr ⟨p, h, e⟩)
  have hl4' : ∀ p ∈ l1 ++ l2, ∀ b f, lkd σ p.1 b f → lkd τ4 p.1 b f := fun p hp b f w => by
    obtain ⟨r0, r1, r2, r3, h⟩ := hl2 _ _ _ w
    exact ⟨r0, r1, r2, r3, by rw [hk4 _ (hne p hp), hk3 _ (hne p hp)]; exact h⟩
  have hta : ta ≠ m := by
    obtain ⟨f, hf, -⟩ := hB
    rintro rfl
    rw [hm] at hf; exact nomatch hf
  have hB4 : BK τ4 5 ta 16 (lB (l1 ++ l2)) := by
    obtain ⟨f, hf, hc⟩ := hB
    refine ⟨f, ?_, fun i hi => ce_keep (fun ka x w => w.ev e14 (Wm_k D)) (fun p _ h ka v nx w => hn4 _ _ _ _ _ (hn3 _ _ _ _ _ (hn2 _ _ _ _ _ w))) (hc i hi)⟩
    have htq : ta ≠ q.1 := by
      obtain ⟨r0, r1, r2, r3, h⟩ := hlq
      rintro rfl
      rw [h] at hf; exact nomatch hf
    rw [hk4 _ htq, hk3 _ htq, w2.o hta, w1.o hta]; exact hf
  -- the two ends of the gap
  have hnd12 : ((l1 ++ l2).map fun q => q.2.1).Nodup := by
    refine List.Nodup.sublist (List.Sublist.map _ ?_) hnd
    exact List.Sublist.append (List.Sublist.refl _) (List.sublist_cons_self _ _)
  have hdisj : ∀ p ∈ l1, ∀ p' ∈ l2, p.1 ≠ p'.1 := by
    intro p hp p' hp' e
    rw [List.map_append, List.map_cons, List.nodup_append] at hnda
    exact hnda.2.2 p.1 (List.mem_map.mpr ⟨p, hp, rfl⟩) p'.1 (List.mem_cons_of_mem _ (List.mem_map.mpr ⟨p', hp', rfl⟩)) e
  -- the second half: what lies behind
  have back : ∀ τ5 H, ev G (Wm D) 0 σ τ5 → τ5.1 m = some (.inr (13, mFl8 k0 k1 k3 (some ta) (Int32.ofNat (l1 ++ q :: l2).length - 1) (md + 1) 12 [va_rf H, va_rf (ls1 (l1 ++ q :: l2) none), .int 0, .int 0])) → H = hd1 (l1 ++ l2) none → (∀ c h ka v nx, nq τ4 c h ka v nx → nq τ5 c h ka v nx) → τ5.1 ta = τ4.1 ta → dl τ5 none l1 (hd1 l2 none) → dl τ5 (some q.1) l2 none → wJ2_afterNodeRemovalb45 G (fun z20 => P (some q.1) z20) PX (some m) (ls1 l1 none) (hd1 l2 none) τ5 := by
    intro τ5 H e5 hm5 hH hn5 hta5 hd5 hd5'
    have fin : ∀ τ6, ev G (Wm D) 0 σ τ6 → (∃ T, τ6.1 m = some (.inr (13, mFl8 k0 k1 k3 (some ta) (Int32.ofNat (l1 ++ q :: l2).length - 1) (md + 1) 12 [va_rf H, va_rf T, .int 0, .int 0])) ∧ T = ls1 (l1 ++ l2) none) → (∀ c h ka v nx, nq τ5 c h ka v nx → nq τ6 c h ka v nx) → τ6.1 ta = τ5.1 ta → dl τ6 none (l1 ++ l2) none → P (some q.1) τ6 := by
      rintro τ6 e6 ⟨T, hm6, rfl⟩ hn6 hta6 hd6
      refine hP τ6 e6 ⟨some ta, 12, ⟨hci, k0, k1, k3, by rw [← hH, ← hsz]; exact hm6⟩, hDm, hd6, hnd12, fun p hp => ⟨(hDe p (hsub p hp)).1, (hDe p (hsub p hp)).2.ev e6 (Wm_k D)⟩, Or.inr ⟨ta, rfl, hDa, hXa, rfl, ?_⟩⟩ ⟨_, _, _, hn6 _ _ _ _ _ (hn5 _ _ _ _ _ (hn4 _ _ _ _ _ (hn3 _ _ _ _ _ (hn2 _ _ _ _ _ hqn))))⟩
      obtain ⟨f, hf, hc⟩ := hB
      have htq : ta ≠ q.1 := by
        obtain ⟨r0, r1, r2, r3, h⟩ := hlq
        rintro rfl
        rw [h] at hf; exact nomatch hf
      exact ⟨f, by rw [hta6, hta5, hk4 _ htq, hk3 _ htq, w2.o hta, w1.o hta]; exact hf, fun i hi => ce_keep (fun ka x w => w.ev e6 (Wm_k D)) (fun p _ h ka v nx w => hn6 _ _ _ _ _ (hn5 _ _ _ _ _ (hn4 _ _ _ _ _ (hn3 _ _ _ _ _ (hn2 _ _ _ _ _ w))))) (hc i hi)⟩
    unfold wJ2_afterNodeRemovalb45
    cases l2 with
    | nil =>
      refine ⟨fun w => absurd rfl w, fun _ => pM e5.t hm5 (by decide) (by simp) hci (by decide) (by decide) (by decide) fun τ6 w6 e6 => ?_⟩
      refine fin τ6 ((e5.tr (e6.up hDm (by unfold mkd; omega))).le' (by omega)) ⟨ls1 l1 none, w6.1, by rw [List.append_nil]⟩ (fun c h ka v nx w => w.ev e6 ⟨hw2, hw1⟩) (w6.o hta) ?_
      rw [List.append_nil]
      exact dl_keep (fun p _ b f w => w.ev e6 hw1) hd5
    | cons p t =>
      refine ⟨fun _ => ?_, fun w => nomatch w⟩
      have hpl : p ∈ l1 ++ q :: p :: t := List.mem_append_right _ (List.mem_cons_of_mem _ List.mem_cons_self)
      refine pY (Or.inl rfl) e5.t hd5'.1 fun τ6 e6 hl6 hn6 hk6 hf6 => ?_
      have hpm : p.1 ≠ m := by
        obtain ⟨r0, r1, r2, r3, h⟩ := hd5'.1
        intro e
        rw [e, hm5] at h
        injection h with w; injection w with w; injection w with w1 w2
        omega
      have hpt : ta ≠ p.1 := by
        obtain ⟨r0, r1, r2, r3, h⟩ := hd5'.1
        obtain ⟨f, hf, -⟩ := hB4
        rintro rfl
        rw [← hta5, h] at hf; exact nomatch hf
      refine fin τ6 ((e5.tr (e6.up (hDe p hpl).1 (by unfold mkd; omega))).le' (by omega)) ⟨ls1 (l1 ++ q :: p :: t) none, by rw [hk6 _ (Ne.symm hpm)]; exact hm5, by rw [ls1_app, ls1_app]; rfl⟩ hn6 (hk6 _ hpt) (dl_app.mpr ⟨?_, hl6, ?_⟩)
      · refine dl_keep (fun p' hp' b f ⟨r0, r1, r2, r3, h⟩ => ⟨r0, r1, r2, r3, ?_⟩) hd5
        rw [hk6 _ (hdisj p' hp' p List.mem_cons_self)]; exact h
      · refine dl_keep (fun p' hp' b f ⟨r0, r1, r2, r3, h⟩ => ⟨r0, r1, r2, r3, ?_⟩) hd5'.2
        have hnp : p'.1 ≠ p.1 := by
          rw [List.map_append, List.map_cons, List.map_cons, List.nodup_append] at hnda
          have := hnda.2.1
          rw [List.nodup_cons, List.nodup_cons] at this
          exact fun e => this.2.1 (List.mem_map.mpr ⟨p', hp', e⟩)
        rw [hk6 _ hnp]; exact h
  rcases nil_or_end l1 with rfl | ⟨c, p, rfl⟩
  · refine ⟨fun w => absurd rfl w, fun _ => pM e4.t hm4 (by decide) (by simp) hci (by decide) (by decide) (by decide) fun τ5 w5 e5 => ?_⟩
    refine back τ5 _ ((e14.tr (e5.up hDm (by unfold mkd; omega))).le' (by omega)) w5.1 rfl (fun c h ka v nx w => w.ev e5 ⟨hw2, hw1⟩) (w5.o hta) trivial ?_
    exact dl_keep (fun p hp b f w => (hl4' p hp b f w).ev e5 hw1) hdl2
  · have hls : ls1 (c ++ [p]) none = some p.1 := ls1_end
    rw [hls]
    refine ⟨fun _ => ?_, fun w => nomatch w⟩
    have hpl : p ∈ (c ++ [p]) ++ q :: l2 := List.mem_append_left _ (List.mem_append_right _ List.mem_cons_self)
    have hpl' : p ∈ (c ++ [p]) ++ l2 := List.mem_append_left _ (List.mem_append_right _ List.mem_cons_self)
    obtain ⟨hc1, hpk, -⟩ := dl_app.mp hdl1
    have hpk4 := hl4' p hpl' _ _ hpk
    refine pY (Or.inr rfl) e4.t hpk4 fun τ5 e5 hl5 hn5 hk5 hf5 => ?_
    have hpm : p.1 ≠ m := by
      obtain ⟨r0, r1, r2, r3, h⟩ := hpk
      exact hnm _ _ h
    have hpt : ta ≠ p.1 := by
      obtain ⟨r0, r1, r2, r3, h⟩ := hpk4
      obtain ⟨f, hf, -⟩ := hB4
      rintro rfl
      rw [h] at hf; exact nomatch hf
    rw [← hls]
    refine back τ5 _ ((e14.tr (e5.up (hDe p hpl).1 (by unfold mkd; omega))).le' (by omega)) (by rw [hk5 _ (Ne.symm hpm)]; exact hm4) ?_ hn5 (hk5 _ hpt) (dl_app.mpr ⟨?_, hl5, trivial⟩) ?_
    · rw [hd1_app, hd1_app, hd1_app, hd1_app]
      cases c <;> rfl
    · refine dl_keep (fun p' hp' b f w => ?_) hc1
      have hnp : p'.1 ≠ p.1 := by
        rw [List.map_append, List.map_append, List.nodup_append] at hnda
        have := hnda.1
        rw [List.nodup_append] at this
        exact this.2.2 p'.1 (List.mem_map.mpr ⟨p', hp', rfl⟩) p.1 (by simp)
      obtain ⟨r0, r1, r2, r3, h⟩ := hl4' p' (List.mem_append_left _ (List.mem_append_left _ hp')) _ _ w
      exact ⟨r0, r1, r2, r3, by rw [hk5 _ hnp]; exact h⟩
    · refine dl_keep (fun p' hp' b f w => ?_) hdl2
      obtain ⟨r0, r1, r2, r3, h⟩ := hl4' p' (List.mem_append_right _ hp') _ _ w
      exact ⟨r0, r1, r2, r3, by rw [hk5 _ (Ne.symm (hdisj p (List.mem_append_right _ List.mem_cons_self) p' hp'))]; exact h⟩
end LREM
theorem split_un {a b a' b' : List eT} {q : eT} (h : a ++ q :: b = a' ++ q :: b') (hn : (a ++ q :: b).Nodup) : a = a' ∧ b = b' := by
  induction a generalizing a' with
  | nil =>
    cases a' with
    | nil => exact ⟨rfl, by injection h⟩
    | cons p t =>
      injection h with h1 h2
      subst h1
      rw [List.nil_append, List.nodup_cons, h2] at hn
      exact absurd (List.mem_append_right _ List.mem_cons_self) hn.1
  | cons x t ih =>
    cases a' with
    | nil =>
      injection h with h1 h2
      subst h1
      rw [List.cons_append, List.nodup_cons] at hn
      exact absurd (List.mem_append_right _ List.mem_cons_self) hn.1
    | cons p t' =>
      injection h with h1 h2
      subst h1
      rw [List.cons_append, List.nodup_cons] at hn
      obtain ⟨h3, h4⟩ := ih h2 hn.2
      exact ⟨by rw [h3], h4⟩
theorem lB_cat {l1 l2 : List eT} {i : Nat} : lB (l1 ++ l2) i = lB l1 i ++ lB l2 i := List.filter_append _ _
theorem lB_pos {l : List eT} {q : eT} : lB (q :: l) (q.2.1 % 16) = q :: lB l (q.2.1 % 16) := List.filter_cons_of_pos (by simp)
theorem lB_neg {l : List eT} {q : eT} {i : Nat} (h : i ≠ q.2.1 % 16) : lB (q :: l) i = lB l i := List.filter_cons_of_neg (by simp; exact fun e => h e.symm)
section LREM2
variable {G : gE} {σ : hSt} {PX : Nat → Nat → hSt → Prop} {P : Option Nat → hSt → Prop} {m k : Nat} {md : Int32} {D : Nat → Prop}
theorem ce_hd {kt : Nat} {l : List eT} {r : Option Nat} (h : ch σ kt l r) : elOk σ [26, 27] r := by
  cases l with
  | nil => exact Or.inl h
  | cons q t =>
    obtain ⟨rfl, -, nx, ⟨ci, Y, hc, hn⟩, -⟩ := h
    exact Or.inr ⟨_, ci, _, rfl, hn, n26 hc⟩
theorem lrem_k {l1 l2 : List eT} {q : eT} (hS : SI G σ) (hH : LM G σ D m md (l1 ++ q :: l2)) (hlen : (l1 ++ q :: l2).length ≤ 12) (hk : KY σ 5 k q.2.1) (hP : ∀ τ, ev G (Wm D) 0 σ τ → LM G τ D m (md + 1) (l1 ++ l2) → P q.2.2.2 τ) : wJ1_remove G P PX (some m) (some k) σ := by
  have hrc := hH.rc
  have hnda := hH.nda
  obtain ⟨t, th, hm, hDm, hd, hnd, hDe, ⟨-, h9, -⟩ | ⟨ta, rfl, hDa, hXa, rfl, hB⟩⟩ := id hH
  · simp at h9
  obtain ⟨f, hf, hc⟩ := id hB
  have hW := lB_W hnd
  have hi : q.2.1 % 16 < 16 := Nat.mod_lt _ (by decide)
  have hbin : lB (l1 ++ q :: l2) (q.2.1 % 16) = lB l1 (q.2.1 % 16) ++ q :: lB l2 (q.2.1 % 16) := by rw [lB_cat, lB_pos]
  have hbin2 : ∀ i, i ≠ q.2.1 % 16 → lB (l1 ++ l2) i = lB (l1 ++ q :: l2) i := fun i h => by rw [lB_cat, lB_cat, lB_neg h]
  have hbnd := nd_of (hW _ hi).2
  rw [hbin] at hbnd
  have hc0 := hc _ hi
  have hqm : q ∈ lB (l1 ++ q :: l2) (q.2.1 % 16) := by rw [hbin]; exact List.mem_append_right _ List.mem_cons_self
  -- the tail
  have fin : ∀ τ nx, ev G (Wm D) 0 σ τ → τ.1 m = σ.1 m → BK τ 5 ta 16 (lB (l1 ++ l2)) → nq τ q.1 q.2.1 q.2.2.1 q.2.2.2 nx → (∀ a b f, lkd σ a b f → lkd τ a b f) → wJ1_removeNodeb260 G (fun x4 z3 => ((¬ x4 = none → gtR z3 x4 [26, 27] 2 (fun x5 => P x5 z3)) ∧ (x4 = none → P none z3))) PX (some m) (some q.1) τ := by
    intro τ nx e hmt hBt hqt hlt
    refine lrem_end e.t ?_ hlen hDm hDa hXa (dl_keep (fun p _ b f w => hlt _ _ _ w) hd) hnda hnd (fun p hp => ⟨(hDe p hp).1, (hDe p hp).2.ev e (Wm_k D)⟩) hBt hqt fun υ e2 hL ⟨h, ka, nx2, ci, Y, hci, hq⟩ => ⟨fun _ => gR hq (n26 hci) rfl (hP υ ((e.tr e2).le' (by omega)) hL), fun w => nomatch w⟩
    obtain ⟨hci, k0, k1, k3, hm⟩ := hm
    exact ⟨hci, k0, k1, k3, by rw [hmt]; exact hm⟩
  have hnm : ∀ {p : Nat} {h ka : Nat} {v nx : Option Nat}, nq σ p h ka v nx → m ≠ p := by
    intro p h ka v nx ⟨cj, Y, hcj, hq⟩
    obtain ⟨-, k0, k1, k3, hm⟩ := hm
    rintro rfl
    rw [hm] at hq
    injection hq with w; injection w with w; injection w with w1 w2
    omega
  unfold wJ1_remove wJ1_removeb0
  refine hash_k hk ⟨hrc, ?_⟩
  have hx5 : hvk 5 q.2.1 % 16 = q.2.1 % 16 := by rw [hv5]
  refine rem_walk hm rfl hf pw16 hk (by rw [hx5]; exact hc0) hqm rfl (fun q' hq' e => nd_inj (hW _ hi).2 hq' hqm e) (fun ⟨d, hl⟩ => ?_) fun c p d hl => ?_
  · rw [hx5]
    have hun := split_un (a := []) (a' := lB l1 (q.2.1 % 16)) (b' := lB l2 (q.2.1 % 16)) (by rw [← hbin]; exact hl.symm) (by rw [List.nil_append, ← hl, hbin]; exact hbnd)
    obtain ⟨h1, rfl⟩ := hun
    rw [hl] at hc0
    obtain ⟨hfi, hqk, nx, hqn, hct⟩ := hc0
    have hqn' := hqn
    obtain ⟨cj, Y, hcj, hqc⟩ := hqn'
    unfold wJ1_removeNodeb171
    refine ⟨fun w => (nomatch w), fun _ => ⟨fun _ => ?_, fun w => absurd rfl w⟩⟩
    unfold wJ1_removeNodeb206
    refine iOn hqc (n26 hcj) ⟨fun _ => ⟨fun w => absurd rfl w, fun _ => gR hqc (n26 hcj) rfl ?_⟩, fun w => absurd rfl w⟩
    refine sR (L := [26, 27]) hS hf (by decide) hXa (by decide) hi (ce_hd hct) fun τ w e => ?_
    have eD := e.up hDa (by unfold mkd; omega)
    have hN : ∀ b h ka v nx, nq σ b h ka v nx → nq τ b h ka v nx := fun b h ka v nx w2 => w2.wr w (Ne.symm (BK_ta hB w2))
    have hmta : m ≠ ta := by
      obtain ⟨-, k0, k1, k3, hm⟩ := hm
      rintro rfl
      rw [hm] at hf; exact nomatch hf
    rw [hv5] at hqn
    refine fin τ nx eD (w.o hmta) ⟨_, w.1, fun i hi2 => ?_⟩ (hN _ _ _ _ _ hqn) fun a b f' ⟨q0, q1, q2, q3, h⟩ => ⟨q0, q1, q2, q3, ?_⟩
    · by_cases h3 : i = q.2.1 % 16
      · subst h3
        rw [if_pos rfl, lB_cat, ← h1, List.nil_append]
        exact ce_keep (fun ka x w => w.ev eD (Wm_k D)) (fun p _ h ka v nx w => hN _ _ _ _ _ w) hct
      · rw [if_neg h3, hbin2 i h3]
        exact ce_keep (fun ka x w => w.ev eD (Wm_k D)) (fun p _ h ka v nx w => hN _ _ _ _ _ w) (hc i hi2)
    · have : a ≠ ta := by
        rintro rfl
        rw [hf] at h; exact nomatch h
      rw [w.o this]; exact h
  · rw [hx5]
    have hl' : lB (l1 ++ q :: l2) (q.2.1 % 16) = (c ++ [p]) ++ q :: d := by rw [hl]; simp
    have hun := split_un (a := c ++ [p]) (a' := lB l1 (q.2.1 % 16)) (b' := lB l2 (q.2.1 % 16)) (by rw [← hbin]; exact hl'.symm) (by rw [← hl', hbin]; exact hbnd)
    obtain ⟨h1, rfl⟩ := hun
    have hc1 := hc0
    rw [hl'] at hc1
    obtain ⟨mm', hcp, rfl, hqk, nx, hqn, hct⟩ := ce_app.mp hc1
    have hqn' := hqn
    obtain ⟨cj, Y, hcj, hqc⟩ := hqn'
    have hpm : p ∈ lB (l1 ++ q :: l2) (q.2.1 % 16) := by rw [hl']; exact List.mem_append_left _ (List.mem_append_right _ List.mem_cons_self)
    have hpe := (List.mem_filter.mp hpm).1
    obtain ⟨-, pnx, hpn⟩ := ce_in hc0 hpm
    have hpq : p ≠ q := by
      rintro rfl
      rw [← hbin, hl', List.nodup_append] at hbnd
      exact hbnd.2.2 p (List.mem_append_right _ List.mem_cons_self) p List.mem_cons_self rfl
    have hqe : q ∈ l1 ++ q :: l2 := List.mem_append_right _ List.mem_cons_self
    have hpq1 : p.1 ≠ q.1 := fun e => hpq (hH.adr hpe hqe e)
    unfold wJ1_removeNodeb171
    refine ⟨fun w => (nomatch w), fun _ => ⟨fun _ => ?_, fun w => absurd rfl w⟩⟩
    unfold wJ1_removeNodeb206
    refine iOn hqc (n26 hcj) ⟨fun _ => ⟨fun _ => gR hqc (n26 hcj) rfl ?_, fun w => ?_⟩, fun w => absurd rfl w⟩
    · refine pN hS hpn fun τ ci hci e hp2 hk2 hk3 => ?_
      have eD := e.up (hDe p hpe).1 (by unfold mkd; omega)
      have hK : ∀ ka x, KY σ 5 ka x → KY τ 5 ka x := fun ka x w => w.ev eD (Wm_k D)
      have hN : ∀ b, b ≠ p.1 → ∀ h ka v nx, nq σ b h ka v nx → nq τ b h ka v nx := fun b hb h ka v nx ⟨cj, Y, h1, h2⟩ => ⟨cj, Y, h1, by rw [hk2 b hb]; exact h2⟩
      have hNe : ∀ q' ∈ l1 ++ q :: l2, q' ≠ p → ∀ h ka v nx, nq σ q'.1 h ka v nx → nq τ q'.1 h ka v nx := fun q' hq' hne => hN q'.1 fun e => hne (hH.adr hq' hpe e)
      rw [hv5] at hqn
      refine fin τ nx eD (hk2 _ (hnm hpn)) ⟨f, by rw [hk2 _ (BK_ta hB hpn)]; exact hf, fun i hi2 => ?_⟩ (hN _ (Ne.symm hpq1) _ _ _ _ hqn) fun a b f' ⟨q0, q1, q2, q3, h⟩ => ?_
      · by_cases h3 : i = q.2.1 % 16
        · subst h3
          rw [lB_cat, ← h1]
          have hcnd := hbnd
          rw [← h1, List.nodup_append] at hcnd
          refine ce_app.mpr ⟨nx, ce_end hcp hK (fun q' hq' => hNe q' ?_ ?_) hp2, ce_keep hK (fun q' hq' => hNe q' (List.mem_append_right _ (List.mem_cons_of_mem _ (List.mem_filter.mp hq').1)) ?_) hct⟩
          · exact (List.mem_filter.mp (by rw [hl']; exact List.mem_append_left _ (List.mem_append_left _ hq') : q' ∈ lB (l1 ++ q :: l2) (q.2.1 % 16))).1
          · rintro rfl
            have := hcnd.1
            rw [List.nodup_append] at this
            exact this.2.2 q' hq' q' List.mem_cons_self rfl
          · rintro rfl
            exact hcnd.2.2 q' (List.mem_append_right _ List.mem_cons_self) q' (List.mem_cons_of_mem _ hq') rfl
        · rw [hbin2 i h3]
          refine ce_keep hK (fun q' hq' => hNe q' (List.mem_filter.mp hq').1 ?_) (hc i hi2)
          rintro rfl
          have e1 := of_decide_eq_true (List.mem_filter.mp hq').2
          have e2 := of_decide_eq_true (List.mem_filter.mp hpm).2
          exact h3 (e1.symm.trans e2)
      · by_cases hap : a = p.1
        · subst hap
          obtain ⟨rfl, h9⟩ := hk3 _ q0 q1 q2 q3 _ h
          exact ⟨q0, q1, q2, _, h9⟩
        · exact ⟨q0, q1, q2, q3, by rw [hk2 _ hap]; exact h⟩
    · injection w with w
      exact absurd w.symm hpq1
end LREM2
