/-! the changes of a ledger: an excuse entered, struck out -/
set_option maxRecDepth 100000
/-- what is not there is nothing -/
def zOK (g : Nat → Int32) : Prop := ∀ b e, b % 12 = 6 → 6 ≤ b → b ≤ 102 → cnt g ≤ e → e < 12 → g (b + e) = 0
theorem str_f {g : Nat → Int32} {e b i : Nat} (h1 : b % 12 = 6) (h2 : 6 ≤ b) (h3 : b ≤ 102) (hi : i < 11) : strG g e (b + i) = g (b + if e ≤ i then i + 1 else i) := by
  have hm : (b + i - 6) % 12 = i := by omega
  unfold strG
  rw [if_neg (by omega), hm]
  by_cases h : e ≤ i
  · rw [if_pos ⟨by omega, by omega, h⟩, if_pos hi, if_pos h, Nat.add_assoc]
  · rw [if_neg (fun w => h w.2.2), if_neg h]
section CH3
variable {G : gE} {σ : hSt} {PX : Nat → Nat → hSt → Prop} {P : Int32 → hSt → Prop} {n0 : Nat} {o A : Nat → Nat} {md : Int32} {es : List eT} {g : Nat → Int32}
theorem mapL {c : Nat} {τ : hSt} {md' : Int32} {es' : List eT} {g' : Nat → Int32} (h : LG G σ n0 o A md es g) (e : ev G (Wm (oD o n0 0)) c σ τ) (hM : LM G τ (oD o n0 0) (A 1) md' es') (hlen : es'.length = cnt g') (hok : gOK g') (hnd : (es'.map fun q => q.2.2.2).Nodup) (hX : lgX τ n0 es' g') (hg : ∀ i, (1 ≤ i ∧ i < 6) ∨ 114 ≤ i → g' i = g i) : LG G τ n0 o A md' es' g' := by
  obtain ⟨h1, ⟨n1, n2, n3⟩, h3, h4, h5, h6, ⟨h7, h7'⟩, h8, h9, h10⟩ := h
  have nk : ∀ k, ¬ mkd k → ∀ b, ¬ Wm (oD o n0 0) b k := fun k hk b w => hk w.2
  refine ⟨hok, ⟨n1, n2, hnd⟩, h3.ev e (nk _ (by unfold mkd; omega) _) fun i _ _ => hg i (by omega), h4.ev e (nk _ (by unfold mkd; omega) _) (nk _ (by unfold mkd; omega) _), h5.ev e (fun s _ => nk _ (by unfold mkd; omega) _) fun i _ _ => hg i (by omega), h6.ev e (fun s _ => nk _ (by unfold mkd; omega) _) fun i _ _ => hg i (by omega), ⟨hM, hlen⟩, hX, h9.ev e (Wm_k _) (fun a k ha _ w => absurd (own_d ha w.1) (by omega)) fun i _ _ => hg i (by omega), h10.ev e (Wm_k _) (fun s _ a k ha _ w => absurd (own_d ha w.1) (by omega)) (fun s _ => nk _ (by unfold mkd; omega) _) fun i _ _ => hg i (by omega)⟩
theorem strike_k {k t nm : Nat} (hS : SI G σ) (h : LG G σ n0 o A md es g) (hd : dOK g) (hb : bd G σ 20) (hk : k < 4) (ht : t < 10) (hn : KY σ 5 nm (10 * k + t))
    (hR : ∀ r d τ q, sStrike g (Int32.ofNat k) (Int32.ofNat t) (.inl (r, d)) → ev G W0 9 σ τ → RF τ q r d → PX 8 q τ)
    (hP : ∀ v g' τ md' es', sStrike g (Int32.ofNat k) (Int32.ofNat t) (.inr (v, g')) → ev G (Wn n0) 9 σ τ → LG G τ n0 o A md' es' g' → P v τ) : wX2_strike G P PX (some (A 0)) (some nm) σ := by
  unfold wX2_strike wX2_strikeb0
  refine ⟨h.rc, excuse_k hS h (hb.mono (by omega)) hk ht hn (fun e he hxE => ?_) fun hno τ q e hq => hR 3 _ τ q (Or.inl ⟨hno, rfl⟩) e hq⟩
  obtain ⟨q, hq, hx, hxc, hxn⟩ := xq_of h he.1
  have h12 := h.ok.1.1
  have hec := he.1
  have hlen := h.len
  have hb9 := hb.mono (m := 9) (by omega)
  refine ⟨rco hxc, isLent_k hxc (hd e he.1) (fun w1 => gI hxc (by decide) rfl (refuse_k hS hb9 (fun _ => ?_) fun w => absurd rfl w)) fun w1 => gI hxc (by decide) rfl (refuse_k hS hb9 (fun w => absurd w n10) fun _ τ q e1 hq => hR 7 _ τ q (Or.inr ⟨e, he, Or.inl ⟨w1, rfl⟩⟩) e1 hq)⟩
  obtain ⟨hel, hqe⟩ := List.getElem?_eq_some_iff.mp hq
  have hsp : es = es.take e ++ q :: es.drop (e + 1) := by
    rw [← hqe, ← List.drop_eq_getElem_cons hel, List.take_append_drop]
  have hkq : q.2.1 = 10 * k + t := by
    obtain ⟨q', hq', hx'⟩ := (h.isF hk ht).mp he
    rw [hq] at hq'
    cases hq'
    exact hx'
  have hM := h.M
  rw [hsp] at hM
  have hidx : ∀ i, (es.take e ++ es.drop (e + 1))[i]? = es[if e ≤ i then i + 1 else i]? := by
    intro i
    by_cases hie : e ≤ i
    · rw [if_pos hie, List.getElem?_append_right (by simp; omega), List.getElem?_drop]
      congr 1
      simp only [List.length_take]
      omega
    · rw [if_neg hie, List.getElem?_append_left (by simp; omega), List.getElem?_take, if_pos (by omega)]
  have hl' : (es.take e ++ es.drop (e + 1)).length = cnt g - 1 := by
    rw [List.length_append, List.length_take, List.length_drop]
    omega
  have hg0 : strG g e 0 = Int32.ofNat (cnt g - 1) := by
    show g 0 - 1 = _
    rw [h.ok.1.2, show (1 : Int32) = Int32.ofNat 1 from rfl, i_sub (by omega)]
  have hcn : cnt (strG g e) = cnt g - 1 := by
    show (strG g e 0).toNatClampNeg = _
    rw [hg0, i_nat (by omega)]
  have hok : gOK (strG g e) := by
    refine ⟨⟨by omega, by rw [hcn]; exact hg0⟩, fun i hi => ?_⟩
    rw [hcn] at hi
    unfold kOf tOf oOf dOf
    rw [str_f (b := 6) (by omega) (by omega) (by omega) (by omega), str_f (b := 18) (by omega) (by omega) (by omega) (by omega), str_f (b := 54) (by omega) (by omega) (by omega) (by omega), str_f (b := 66) (by omega) (by omega) (by omega) (by omega)]
    exact h.ok.2 _ (by split <;> omega)
  refine gR h.L (by decide) rfl ⟨h.M.rc, lrem_k hS hM (by rw [← hsp]; omega) (by rw [hkq]; exact hn) fun τ e1 hM1 => ?_⟩
  have hxc1 : ∀ {y : Nat} {fs : List Value}, σ.1 y = some (.inr (7, fs)) → τ.1 y = some (.inr (7, fs)) := fun hy => e1.o hy (fun w => by have := w.2; unfold mkd at this; omega) (by decide) (by decide)
  have h1 : LG G τ n0 o A (md + 1) (es.take e ++ es.drop (e + 1)) (strG g e) := by
    refine mapL h e1 hM1 (hl'.trans hcn.symm) hok ?_ (fun i q' hq' => ?_) fun i hi => ?_
    · have hnd := h.2.1.2.2
      rw [hsp] at hnd
      refine List.Nodup.sublist ?_ hnd
      rw [List.map_append, List.map_append]
      exact List.Sublist.append (List.Sublist.refl _) (List.sublist_cons_self _ _)
    · have hil := (List.getElem?_eq_some_iff.mp hq').1
      rw [hl'] at hil
      rw [hidx] at hq'
      obtain ⟨w1, x', w2, w3, w4⟩ := h.exc hq'
      refine ⟨?_, x', w2, w3, ?_⟩
      · unfold kOf tOf at *
        rw [str_f (b := 6) (by omega) (by omega) (by omega) (by omega), str_f (b := 18) (by omega) (by omega) (by omega) (by omega)]
        exact w1
      · unfold excF at *
        rw [str_f (b := 30) (by omega) (by omega) (by omega) (by omega), str_f (b := 54) (by omega) (by omega) (by omega) (by omega), str_f (b := 66) (by omega) (by omega) (by omega) (by omega), str_f (b := 42) (by omega) (by omega) (by omega) (by omega), str_f (b := 78) (by omega) (by omega) (by omega) (by omega), str_f (b := 90) (by omega) (by omega) (by omega) (by omega), str_f (b := 102) (by omega) (by omega) (by omega) (by omega)]
        exact hxc1 w4
    · unfold strG
      rw [if_neg (by omega), if_neg (by omega)]
  rw [hx]
  refine ⟨cO (hxc1 hxc) (by decide), gR h1.L (by decide) rfl ⟨h1.M.rc, lsz_k h1.M ?_⟩⟩
  have hv : Int32.ofNat (es.take e ++ es.drop (e + 1)).length = g 0 - 1 := by
    rw [hl']; exact hg0.symm
  rw [hv]
  exact hP _ _ τ _ _ (Or.inr ⟨e, he, Or.inr ⟨w1, rfl⟩⟩) (e1.wn (fun a k w => ⟨w.1.2, mkd_19 w.2⟩) (by omega)) h1
theorem enter_k {p k t nm : Nat} {qu : Int32} (hS : SI G σ) (h : LG G σ n0 o A md es g) (hz : zOK g) (hb : bd G σ 60) (hn0 : n0 ≤ σ.2.1) (hp : p < 6) (hk : k < 4) (ht : t < 10) (hn : KY σ 5 nm (10 * k + t))
    (hR : ∀ r d τ q, sEnter g (Int32.ofNat p) (Int32.ofNat k) (Int32.ofNat t) qu (.inl (r, d)) → ev G W0 9 σ τ → RF τ q r d → PX 8 q τ)
    (hP : ∀ v g' τ o' md' es', sEnter g (Int32.ofNat p) (Int32.ofNat k) (Int32.ofNat t) qu (.inr (v, g')) → ev G (Wn n0) 40 σ τ → LG G τ n0 o' A md' es' g' → P v τ) : wX2_enter G P PX (some (A 0)) (Int32.ofNat p) (some nm) qu σ := by
  have h12 := h.ok.1.1
  have hlen := h.len
  have hb9 := hb.mono (m := 9) (by omega)
  unfold wX2_enter wX2_enterb0 wX2_enterb17
  refine gR h.L (by decide) rfl ⟨h.M.rc, lsz_k h.M ?_⟩
  rw [show (12 : Int32) = Int32.ofNat 12 from rfl, i_eq (by omega) (by omega), hlen]
  refine ⟨fun w1 => refuse_k hS hb9 (fun _ => gR h.L (by decide) rfl ⟨h.M.rc, lk_k h hk ht hn (fun e he hxE => ?_) fun hno => ?_⟩) fun w => absurd rfl w, fun w1 => refuse_k hS hb9 (fun w => absurd w n10) fun _ τ q e1 hq => hR 1 _ τ q (Or.inl ⟨w1, rfl⟩) e1 hq⟩
  · obtain ⟨q, hq, hx, hxc, hxn⟩ := xq_of h he.1
    unfold wX2_enterb46 wX2_enterb61
    exact ⟨cO hxc (by decide), fun w => (nomatch w), fun _ => ⟨fun _ => gI hxc (by decide) rfl (refuse_k hS hb9 (fun w => absurd w n10) fun _ τ q e1 hq => hR 2 _ τ q (Or.inr (Or.inl ⟨w1, e, he, rfl⟩)) e1 hq), fun w => nomatch w⟩⟩
  · unfold wX2_enterb46 wX2_enterb61
    refine ⟨Or.inl rfl, fun _ => ⟨fun w => absurd rfl w, fun _ => refuse_k hS hb9 (fun _ => ?_) fun w => absurd rfl w⟩, fun w => absurd rfl w⟩
    have h' := own_k 0 hS h
    unfold wX8_init wX8_initb0
    refine gR h.L (by decide) rfl (nO hS (hb.mono (by omega)) (fun w => by omega) fun x τ n hX e1 => ⟨⟨x, rfl⟩, ⟨x, rfl⟩, pO e1.t n.2.1 (by decide) (by simp) (by decide) fun τ1 w1' f1 => pO f1.t w1'.1 (by decide) (by simp) (by decide) fun τ2 w2 f2 => pO f2.t w2.1 (by decide) (by simp) (by decide) fun τ3 w3 f3 => pO f3.t w3.1 (by decide) (by simp) (by decide) fun τ4 w4 f4 => pO f4.t w4.1 (by decide) (by simp) (by decide) fun τ5 w5 f5 => ?_⟩)
    have hxσ : σ.2.1 ≤ x := by rw [n.1]; exact Nat.le_refl _
    have e5 : ev G W0 9 σ τ5 := (e1.f1 (f1.tr (f2.tr (f3.tr (f4.tr f5)))) hxσ).le' (by omega)
    have h5 := h'.ev e5 W0_g
    have hno' : ∀ q ∈ es, q.2.1 ≠ 10 * k + t := fun q hq w => by
      obtain ⟨i, hil, hi⟩ := List.getElem_of_mem hq
      have he := (h.isF hk ht).mpr ⟨q, by rw [List.getElem?_eq_getElem hil, hi], w⟩
      exact hno i he.1 ⟨he.2.1, he.2.2.1⟩
    have h5le := e5.le
    refine ⟨h5.M.rc, lput_k e5.t h5.M (hn.ev e5 W0_k) hno' (by omega) (fun a ha => own_n hn0 (by omega)) (e5.rm hb (by omega)) fun τ6 a e6 hM6 => ?_⟩
    have hxc6 : ∀ {y : Nat} {fs : List Value}, τ5.1 y = some (.inr (7, fs)) → τ6.1 y = some (.inr (7, fs)) := fun hy => e6.o hy (fun w => by have := w.2; unfold mkd at this; omega) (by decide) (by decide)
    have hg0 : g 0 + 1 = Int32.ofNat (cnt g + 1) := by rw [h.ok.1.2, i_succ]
    obtain ⟨g', hg'⟩ : ∃ g', g' = gu (gu (gu (gu (gu (gu g (6 + cnt g) (Int32.ofNat k)) (18 + cnt g) (Int32.ofNat t)) (30 + cnt g) qu) (54 + cnt g) (Int32.ofNat p)) (66 + cnt g) (Int32.ofNat p)) 0 (g 0 + 1) := ⟨_, rfl⟩
    have r0 : g' 0 = Int32.ofNat (cnt g + 1) := by rw [hg', gu_s]; exact hg0
    have hcn : cnt g' = cnt g + 1 := by
      show (g' 0).toNatClampNeg = _
      rw [r0, i_nat (by omega)]
    have rn : ∀ i, i ≠ 0 → i ≠ 6 + cnt g → i ≠ 18 + cnt g → i ≠ 30 + cnt g → i ≠ 54 + cnt g → i ≠ 66 + cnt g → g' i = g i := fun i a1 a2 a3 a4 a5 a6 => by
      rw [hg', gu_n a1, gu_n a6, gu_n a5, gu_n a4, gu_n a3, gu_n a2]
    have r6 : g' (6 + cnt g) = Int32.ofNat k := by rw [hg']; simp (disch := omega) only [gu_s, gu_n]
    have r18 : g' (18 + cnt g) = Int32.ofNat t := by rw [hg']; simp (disch := omega) only [gu_s, gu_n]
    have r30 : g' (30 + cnt g) = qu := by rw [hg']; simp (disch := omega) only [gu_s, gu_n]
    have r54 : g' (54 + cnt g) = Int32.ofNat p := by rw [hg']; simp (disch := omega) only [gu_s, gu_n]
    have r66 : g' (66 + cnt g) = Int32.ofNat p := by rw [hg']; simp (disch := omega) only [gu_s, gu_n]
    have hok : gOK g' := by
      refine ⟨⟨by omega, by rw [hcn]; exact r0⟩, fun i hi => ?_⟩
      rw [hcn] at hi
      unfold kOf tOf oOf dOf
      by_cases hin : i = cnt g
      · subst hin
        rw [r6, r18, r54, r66, i_nat (by omega), i_nat (by omega), i_nat (by omega)]
        exact ⟨⟨hk, rfl⟩, ⟨ht, rfl⟩, ⟨hp, rfl⟩, ⟨hp, rfl⟩⟩
      · rw [rn (6 + i) (by omega) (by omega) (by omega) (by omega) (by omega) (by omega), rn (18 + i) (by omega) (by omega) (by omega) (by omega) (by omega) (by omega), rn (54 + i) (by omega) (by omega) (by omega) (by omega) (by omega) (by omega), rn (66 + i) (by omega) (by omega) (by omega) (by omega) (by omega) (by omega)]
        exact h.ok.2 i (by omega)
    have h6 : LG G τ6 n0 (oi σ o 0) A (md + 1) (es ++ [(a, 10 * k + t, nm, some x)]) g' := by
      refine mapL h5 e6 hM6 (by rw [List.length_append, hcn, hlen]; rfl) hok ?_ (fun i q' hq' => ?_) fun i hi => rn i (by omega) (by omega) (by omega) (by omega) (by omega) (by omega)
      · rw [List.map_append, List.nodup_append]
        refine ⟨h.2.1.2.2, by simp, fun y hy z hz1 => ?_⟩
        rw [List.mem_map] at hy
        obtain ⟨q', hq', rfl⟩ := hy
        obtain ⟨i, hil, hi⟩ := List.getElem_of_mem hq'
        obtain ⟨-, x', w2, -, w4⟩ := h.exc (e := i) (q := q') (by rw [List.getElem?_eq_getElem hil, hi])
        have hlt := hS.lt w4
        have : z = some x := by simpa using hz1
        rw [w2, this]
        intro w
        injection w with w
        omega
      · rcases Nat.lt_or_ge i es.length with w | w
        · rw [List.getElem?_append_left w] at hq'
          obtain ⟨y1, x', y2, y3, y4⟩ := h5.exc hq'
          refine ⟨?_, x', y2, y3, ?_⟩
          · unfold kOf tOf at *
            rw [rn (6 + i) (by omega) (by omega) (by omega) (by omega) (by omega) (by omega), rn (18 + i) (by omega) (by omega) (by omega) (by omega) (by omega) (by omega)]
            exact y1
          · unfold excF at *
            rw [rn (30 + i) (by omega) (by omega) (by omega) (by omega) (by omega) (by omega), rn (54 + i) (by omega) (by omega) (by omega) (by omega) (by omega) (by omega), rn (66 + i) (by omega) (by omega) (by omega) (by omega) (by omega) (by omega), rn (42 + i) (by omega) (by omega) (by omega) (by omega) (by omega) (by omega), rn (78 + i) (by omega) (by omega) (by omega) (by omega) (by omega) (by omega), rn (90 + i) (by omega) (by omega) (by omega) (by omega) (by omega) (by omega), rn (102 + i) (by omega) (by omega) (by omega) (by omega) (by omega) (by omega)]
            exact hxc6 y4
        · rw [List.getElem?_append_right w] at hq'
          have hi0 : i - es.length = 0 := by
            rcases Nat.eq_zero_or_pos (i - es.length) with w2 | w2
            · exact w2
            · rw [List.getElem?_eq_none (by simp; omega)] at hq'
              exact nomatch hq'
          rw [hi0] at hq'
          have hie : i = cnt g := by omega
          subst hie
          injection hq' with hq'
          subst hq'
          refine ⟨?_, x, rfl, by omega, ?_⟩
          · unfold kOf tOf
            rw [r6, r18, i_nat (by omega), i_nat (by omega)]
          · have z42 := hz 42 (cnt g) (by omega) (by omega) (by omega) (by omega) (by omega)
            have z78 := hz 78 (cnt g) (by omega) (by omega) (by omega) (by omega) (by omega)
            have z90 := hz 90 (cnt g) (by omega) (by omega) (by omega) (by omega) (by omega)
            have z102 := hz 102 (cnt g) (by omega) (by omega) (by omega) (by omega) (by omega)
            unfold excF
            rw [r30, r54, r66, rn (42 + cnt g) (by omega) (by omega) (by omega) (by omega) (by omega) (by omega), rn (78 + cnt g) (by omega) (by omega) (by omega) (by omega) (by omega) (by omega), rn (90 + cnt g) (by omega) (by omega) (by omega) (by omega) (by omega) (by omega), rn (102 + cnt g) (by omega) (by omega) (by omega) (by omega) (by omega) (by omega), z42, z78, z90, z102]
            exact hxc6 w5.1
    have hfin : ev G (Wn n0) 40 σ τ6 := (e5.up0.tr (e6.wn (n0 := n0) (fun a k w => ⟨w.1.2, mkd_19 w.2⟩) (Nat.le_refl _))).le' (by omega)
    refine gR h6.L (by decide) rfl ⟨h6.M.rc, lsz_k h6.M ?_⟩
    have hv : Int32.ofNat (es ++ [(a, 10 * k + t, nm, some x)]).length = g 0 + 1 := by
      rw [List.length_append, hlen]; exact hg0.symm
    rw [hv]
    exact hP _ g' τ6 _ _ _ (Or.inr (Or.inr ⟨w1, hno, by rw [hg']⟩)) hfin h6
end CH3
