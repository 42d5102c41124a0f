/-! the linked map: a new entry, an entry gone -/
set_option maxRecDepth 100000
theorem LM.adr {G : gE} {σ : hSt} {D : Nat → Prop} {m : Nat} {md : Int32} {es : List eT} (h : LM G σ D m md es) {q q' : eT} (hq : q ∈ es) (hq' : q' ∈ es) (e : q.1 = q'.1) : q = q' := by
  obtain ⟨nx, b, f, h1⟩ := h.nd hq
  obtain ⟨nx', b', f', h2⟩ := h.nd hq'
  rw [e] at h1
  have e1 := h1.symm.trans h2
  simp only [Option.some.injEq, Sum.inr.injEq, Prod.mk.injEq, List.cons.injEq] at e1
  obtain ⟨-, -, e2, -⟩ := e1
  have e3 := va_rf_inj e2
  injection e3 with e3
  obtain ⟨t, th, -, -, -, h4, h5, -⟩ := h
  have k1 := (h5 q hq).2
  have k2 := (h5 q' hq').2
  rw [e3] at k1
  exact nd_inj h4 hq hq' (k1.inj k2)
theorem LM.nda {G : gE} {σ : hSt} {D : Nat → Prop} {m : Nat} {md : Int32} {es : List eT} (h : LM G σ D m md es) : (es.map fun q => q.1).Nodup := by
  have h4 := h
  obtain ⟨t, th, -, -, -, h4, h5, -⟩ := h4
  have h2 : (es.map (fun q => q.1)).Pairwise (· ≠ ·) := by
    rw [List.pairwise_map]
    have h3 : es.Pairwise (fun a b => a.2.1 ≠ b.2.1) := by
      unfold List.Nodup at h4
      rwa [List.pairwise_map] at h4
    refine List.Pairwise.imp_of_mem ?_ h3
    intro a b ha hb h9 e
    exact h9 (by rw [h.adr ha hb e])
  exact h2
theorem lB_app {es : List eT} {q : eT} : lB (es ++ [q]) = Bn (lB es) (q.2.1 % 16) q := by
  funext i
  unfold Bn lB
  rw [List.filter_append]
  by_cases h : i = q.2.1 % 16
  · subst h
    rw [if_pos rfl, List.filter_cons_of_pos (by simp), List.filter_nil]
  · rw [if_neg h, List.filter_cons_of_neg (by simp; exact fun e => h e.symm), List.filter_nil, List.append_nil]
section LPUT
variable {G : gE} {σ : hSt} {PX : Nat → Nat → hSt → Prop} {P : Option Nat → hSt → Prop} {m k x : Nat} {md : Int32} {D : Nat → Prop} {es : List eT} {v : Option Nat}
theorem lput_end {ta : Nat} (hS : SI G σ) (hes : es ≠ []) (hlen : es.length ≤ 12) (hm : mm σ m 13 (some ta) (Int32.ofNat (es.length - 1)) md 12 [va_rf (hd1 es none), va_rf (ls1 es none), .int 0, .int 0]) (hDm : D m) (hDa : D ta) (hXa : ¬ gX G ta) (hd : dl σ none es none) (hnd : (es.map fun q => q.2.1).Nodup) (hDe : ∀ q ∈ es, D q.1 ∧ KY σ 5 q.2.2.1 q.2.1) (hB : BK σ 5 ta 16 (lB es)) (hP : ∀ τ, ev G (Wm D) 0 σ τ → LM G τ D m (md + 1) es → P none τ) : wJ1_putValb259 G P PX (some m) 1 σ := by
  obtain ⟨hci, k0, k1, k3, hm⟩ := hm
  have hpos : 0 < es.length := Nat.pos_of_ne_zero fun w => hes (List.length_eq_zero_iff.mp w)
  unfold wJ1_putValb259
  refine gI hm (by decide) rfl (pM hS hm (by decide) (by simp) hci (by decide) (by decide) (by decide) fun τ1 w1 e1 => ?_)
  refine gI w1.1 (by decide) rfl (pM e1.t w1.1 (by decide) (by simp) hci (by decide) (by decide) (by decide) fun τ2 w2 e2 => ?_)
  refine gI w2.1 (by decide) rfl ?_
  rw [i_succ, show es.length - 1 + 1 = es.length by omega]
  have e12 : ev G (Wm D) 0 σ τ2 := ((e1.up hDm (by unfold mkd; omega)).tr (e2.up hDm (by unfold mkd; omega))).le' (by omega)
  have hm2 : mm τ2 m 13 (some ta) (Int32.ofNat es.length) (md + 1) 12 [va_rf (hd1 es none), va_rf (ls1 es none), .int 0, .int 0] := ⟨hci, k0, k1, k3, by rw [show Int32.ofNat es.length = Int32.ofNat (es.length - 1) + 1 by rw [i_succ]; congr 1; omega]; exact w2.1⟩
  have hta : ta ≠ m := by
    obtain ⟨f, hf, -⟩ := hB
    rintro rfl
    rw [hm] at hf; exact nomatch hf
  have hw1 : ∀ {a : Nat}, ¬ W1 m 13 a 27 := fun w => by have := w.2; omega
  have hw2 : ∀ {a : Nat}, ¬ W1 m 13 a 26 := fun w => by have := w.2; omega
  have hL : LM G τ2 D m (md + 1) es := ⟨_, _, hm2, hDm, dl_keep (fun q hq b f w => (w.ev e1 hw1).ev e2 hw1) hd, hnd, fun q hq => ⟨(hDe q hq).1, ((hDe q hq).2.ev e1 (W1_k (by omega))).ev e2 (W1_k (by omega))⟩, Or.inr ⟨ta, rfl, hDa, hXa, rfl, (hB.ev e1 (W1_k (by omega)) (fun w => hta w.1) fun i hi q hq => ⟨hw2, hw1⟩).ev e2 (W1_k (by omega)) (fun w => hta w.1) fun i hi q hq => ⟨hw2, hw1⟩⟩⟩
  refine ⟨fun _ => ?_, fun w => ?_⟩
  · unfold wJ1_putValb292 wJ1_putValb298
    refine Or.inr ⟨rco w2.1, ?_⟩
    unfold wJ2_afterNodeInsertion wJ2_afterNodeInsertionb0
    refine ⟨fun w => absurd w (by decide), fun _ => gR w2.1 (by decide) rfl ⟨fun _ => hP τ2 e12 hL, fun _ => ⟨rco w2.1, ?_⟩⟩⟩
    unfold wJ2_removeEldestEntry wJ2_removeEldestEntryb0
    exact ⟨ok_b0, fun _ => hP τ2 e12 hL, fun w => absurd rfl w⟩
  · rw [show (12 : Int32) = Int32.ofNat 12 from rfl, i_le (by omega) (by omega)] at w
    omega
theorem lput_tab {ta : Nat} (hS : SI G σ) (hH : LM G σ D m md es) (hk : KY σ 5 k x) (hx : ∀ q ∈ es, q.2.1 ≠ x) (hlen : es.length < 12) (hm : mm σ m 13 (some ta) (Int32.ofNat es.length) md 12 [va_rf (hd1 es none), va_rf (ls1 es none), .int 0, .int 0]) (hDa : D ta) (hXa : ¬ gX G ta) (hB : BK σ 5 ta 16 (lB es)) (hDf : ∀ a, σ.2.1 ≤ a → D a) (hb : bd G σ 7) (hP : ∀ τ a, ev G (Wm D) 7 σ τ → LM G τ D m (md + 1) (es ++ [(a, x, k, v)]) → P none τ) : wJ1_putValb29 G P PX (some m) (Int32.ofNat x) (some k) v 0 1 (some ta) (Int32.ofNat 16) σ := by
  have hnda := hH.nda
  obtain ⟨t, th, -, hDm, hd, hnd, hDe, -⟩ := id hH
  obtain ⟨f, hf, hc⟩ := id hB
  have hlt : hvk 5 x % 16 < 16 := Nat.mod_lt _ (by decide)
  have hno : ∀ q ∈ lB es (hvk 5 x % 16), q.2.1 ≠ x := fun q hq => hx q (List.mem_filter.mp hq).1
  have hrc := hH.rc
  have hnd' : ∀ a : Nat, ((es ++ [((a, x, k, v) : eT)]).map fun q : eT => q.2.1).Nodup := by
    intro a
    rw [List.map_append, List.nodup_append]
    refine ⟨hnd, by simp, fun b hb c hc' => ?_⟩
    obtain ⟨q, hq, rfl⟩ := List.mem_map.mp hb
    rw [List.map_singleton, List.mem_singleton] at hc'
    rw [hc']; exact hx q hq
  have hne : ∀ a : Nat, es ++ [((a, x, k, v) : eT)] ≠ [] := fun a w => by simp at w
  have hl1 : ∀ a : Nat, (es ++ [((a, x, k, v) : eT)]).length - 1 = es.length := fun a => by simp
  have hw : wJ1_putValb29 G P PX (some m) (Int32.ofNat (hvk 5 x)) (some k) v 0 1 (some ta) (Int32.ofNat 16) σ := by
    refine put_walk hf pw16 hk (hc _ hlt) (fun q hq e => absurd e (hno q hq)) (fun hl => Or.inr ⟨hrc, ?_⟩) fun l1 p n1 hl hln hne2 => Or.inr ⟨hrc, ?_⟩
    · refine lnode_k hS hm hDm hd (fun q hq => (hDe q hq).1) hnda hb hDf fun τ a ha hfr e1 hall harr => ?_
      obtain ⟨hna, hnk, hm1, hd1'⟩ := hall (x, k, v)
      have hf1 := harr _ _ _ hf
      have hna' := hna
      obtain ⟨cj, Y, hcj, hna⟩ := hna
      unfold wJ1_putValb59
      refine sR (L := [26, 27]) e1.t hf1 (by decide) hXa (by decide) hlt (Or.inr ⟨a, cj, _, rfl, hna, n26 hcj⟩) fun υ w2 e2 => ?_
      have hc1 : ∀ i, i < 16 → ch τ 5 (lB es i) (f i) := fun i hi2 => ce_keep (fun ka x w => w.ev e1 (Wm_k D)) (fun q _ h ka v nx w => hnk _ _ _ _ _ w) (hc i hi2)
      have hBn := BK_one hf1 hc1 hl w2 e2 hna' (hk.ev e1 (Wm_k D))
      have e12 : ev G (Wm D) 7 σ υ := (e1.tr (e2.up hDa (by unfold mkd; omega))).le' (by omega)
      have hbt : ∀ b e, τ.1 b = some e → kd e ≠ 106 → b ≠ ta := by
        rintro b e hb hke rfl
        rw [hf1] at hb
        cases hb
        exact hke rfl
      refine lput_end (es := es ++ [(a, x, k, v)]) e2.t (hne a) (by simp; omega) (by rw [hl1]; exact hm1.ev e2 fun w => by have := w.2; omega) hDm hDa hXa (dl_keep (fun q hq b f w => w.ev e2 fun w => by have := w.2; omega) hd1') (hnd' a) (fun q hq => ?_) (by rw [lB_app]; rw [hv5] at hBn; exact hBn) fun υ2 e3 hL => hP υ2 a ((e12.tr e3).le' (by omega)) hL
      rcases List.mem_append.mp hq with h | h
      · exact ⟨(hDe q h).1, ((hDe q h).2.ev e1 (Wm_k D)).ev e2 (W1_k (by omega))⟩
      · rw [List.mem_singleton.mp h]
        exact ⟨hDf a (by rw [ha]; exact Nat.le_refl _), (hk.ev e1 (Wm_k D)).ev e2 (W1_k (by omega))⟩
    · refine lnode_k hS hm hDm hd (fun q hq => (hDe q hq).1) hnda hb hDf fun τ a ha hfr e1 hall harr => ?_
      obtain ⟨hna, hnk, hm1, hd1'⟩ := hall (x, k, v)
      have hf1 := harr _ _ _ hf
      have hpm : p ∈ lB es (hvk 5 x % 16) := by rw [hl]; exact List.mem_append_right _ List.mem_cons_self
      have hpe := (List.mem_filter.mp hpm).1
      obtain ⟨-, nx, hpn⟩ := ce_in (hc _ hlt) hpm
      have hap : a ≠ p.1 := by
        obtain ⟨cj, Y, -, hq⟩ := hpn
        rintro rfl
        rw [hfr] at hq; exact nomatch hq
      have hBK : BK τ 5 ta 16 (lB es) := ⟨f, hf1, fun i hi2 => ce_keep (fun ka x w => w.ev e1 (Wm_k D)) (fun q _ h ka v nx w => hnk _ _ _ _ _ w) (hc i hi2)⟩
      unfold wJ1_putValb155
      refine pN e1.t (hnk _ _ _ _ _ hpn) fun υ ci hci e2 hp2 hk2 hk3 => ?_
      have hBn := BK_app hBK (lB_W hnd) hlt hl hci e2 hp2 hk2 hna hap (hk.ev e1 (Wm_k D))
      have e12 : ev G (Wm D) 7 σ υ := (e1.tr (e2.up (hDe p hpe).1 (by unfold mkd; omega))).le' (by omega)
      have hn7 : n1 < 7 := by
        have h3 : (lB es (hvk 5 x % 16)).length ≤ 3 := by
          have hl9 : (lB es (hvk 5 x % 16)).length = ((lB es (hvk 5 x % 16)).map fun q => q.2.1).length := by simp
          rw [hl9]
          refine Nat.le_trans (nd_le (lB_W hnd _ hlt).2 (s := (List.range 40).filter fun y => decide (y % 16 = hvk 5 x % 16)) fun y hy => ?_) (few16 _ hlt)
          obtain ⟨q, hq, rfl⟩ := List.mem_map.mp hy
          have h5 := (hDe q (List.mem_filter.mp hq).1).2
          have h40 : q.2.1 < 40 := by
            rcases h5 with ⟨-, h, -⟩ | ⟨h, -⟩ | ⟨h, -⟩
            · exact h
            · exact absurd h (by decide)
            · exact absurd h (by decide)
          exact List.mem_filter.mpr ⟨List.mem_range.mpr h40, (List.mem_filter.mp hq).2⟩
        rw [hl, List.length_append, List.length_singleton] at h3
        omega
      refine ⟨fun _ => ?_, fun w => absurd ((i_lt (by omega) (by omega) : Int32.ofNat n1 < Int32.ofNat 7 ↔ _).mpr hn7) w⟩
      unfold wJ1_putValb222
      refine ⟨fun _ => ?_, fun w => absurd rfl w⟩
      have hpm2 : m ≠ p.1 := by
        obtain ⟨-, k0, k1, k3, hm⟩ := hm
        obtain ⟨cj, Y, hcj, hq⟩ := hpn
        rintro rfl
        rw [hm] at hq
        injection hq with w; injection w with w; injection w with w1 w2
        omega
      refine lput_end (es := es ++ [(a, x, k, v)]) e2.t (hne a) (by simp; omega) (by rw [hl1]; exact hm1.ev e2 fun w => hpm2 w.1) hDm hDa hXa (dl_keep (fun q hq b f w => ?_) hd1') (hnd' a) (fun q hq => ?_) (by rw [lB_app]; rw [hv5] at hBn; exact hBn) fun υ2 e3 hL => hP υ2 a ((e12.tr e3).le' (by omega)) hL
      · obtain ⟨q0, q1, q2, q3, w⟩ := w
        by_cases hqp : q.1 = p.1
        · rw [hqp] at w ⊢
          obtain ⟨rfl, h9⟩ := hk3 _ q0 q1 q2 q3 _ w
          exact ⟨q0, q1, q2, _, h9⟩
        · exact ⟨q0, q1, q2, q3, by rw [hk2 _ hqp]; exact w⟩
      · rcases List.mem_append.mp hq with h | h
        · exact ⟨(hDe q h).1, ((hDe q h).2.ev e1 (Wm_k D)).ev e2 (W1_k (by omega))⟩
        · rw [List.mem_singleton.mp h]
          exact ⟨hDf a (by rw [ha]; exact Nat.le_refl _), (hk.ev e1 (Wm_k D)).ev e2 (W1_k (by omega))⟩
  rw [hv5] at hw
  exact hw
end LPUT
section LPUT2
variable {G : gE} {σ : hSt} {PX : Nat → Nat → hSt → Prop} {P : Option Nat → hSt → Prop} {m k x : Nat} {md : Int32} {D : Nat → Prop} {es : List eT} {v : Option Nat}
/-- a new entry -/
theorem lput_k (hS : SI G σ) (hH : LM G σ D m md es) (hk : KY σ 5 k x) (hx : ∀ q ∈ es, q.2.1 ≠ x) (hlen : es.length < 12) (hDf : ∀ a, σ.2.1 ≤ a → D a) (hb : bd G σ 24) (hP : ∀ τ a, ev G (Wm D) 24 σ τ → LM G τ D m (md + 1) (es ++ [(a, x, k, v)]) → P none τ) : wJ1_put G P PX (some m) (some k) v σ := by
  have hrc := hH.rc
  unfold wJ1_put wJ1_putb0
  refine hash_k hk (Or.inr ⟨hrc, ?_⟩)
  rw [hv5]
  obtain ⟨t, th, hm, hDm, hd, hnd, hDe, ⟨rfl, rfl, rfl⟩ | ⟨ta, rfl, hDa, hXa, rfl, hB⟩⟩ := id hH
  · have hm' := hm
    obtain ⟨hci, k0, k1, k3, hm⟩ := hm
    unfold wJ1_putVal wJ1_putValb0
    refine gR hm (by decide) rfl ⟨fun _ => ?_, fun w => absurd rfl w⟩
    unfold wJ1_putValb19
    refine Or.inr ⟨hrc, resize_0 hS hm' (N := 16) (Or.inl ⟨rfl, rfl⟩) (hb.mono (by omega)) fun τ ta e1 hm1 hta hXa hf hkp => ?_⟩
    unfold wJ1_putValb23
    refine aL hf ?_
    have hDa := hDf _ hta
    have hBK : BK τ 5 ta 16 (lB []) := ⟨_, hf, fun i hi => rfl⟩
    have e1D := e1.up hDm (Or.inr (Or.inl rfl))
    refine lput_tab e1.t ⟨_, _, hm1, hDm, trivial, List.nodup_nil, fun q hq => (nomatch hq), Or.inr ⟨ta, rfl, hDa, hXa, rfl, hBK⟩⟩ (hk.ev e1 (W1_k (by omega))) hx hlen hm1 hDa hXa hBK (fun a ha => hDf a (Nat.le_trans e1.le ha)) (e1.rm hb (by omega)) fun τ2 a e2 hL => hP τ2 a ((e1D.tr e2).le' (by omega)) hL
  · have hm' := hm
    obtain ⟨hci, k0, k1, k3, hm⟩ := hm
    obtain ⟨f, hf, hc⟩ := id hB
    unfold wJ1_putVal wJ1_putValb0
    refine gR hm (by decide) rfl ⟨fun w => (nomatch w), fun _ => aL hf ⟨fun _ => ?_, fun w => absurd w (by decide)⟩⟩
    exact lput_tab hS hH hk hx hlen hm' hDa hXa hB hDf (hb.mono (by omega)) fun τ2 a e2 hL => hP τ2 a (e2.le' (by omega)) hL
end LPUT2
