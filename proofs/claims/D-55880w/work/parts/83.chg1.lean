/-! the changes of a ledger -/
set_option maxRecDepth 100000
/-- what lies from n0 on may change -/
abbrev Wn (n0 : Nat) : Nat → Nat → Prop := fun a k => n0 ≤ a ∧ k ≠ 19
theorem mkd_19 {k : Nat} (h : mkd k) : k ≠ 19 := by
  unfold mkd at h
  omega
/-- the loans' days -/
def dOK (g : Nat → Int32) : Prop := ∀ e, e < cnt g → ∃ n, n ≤ 3 ∧ g (102 + e) = Int32.ofNat n
section CH1
variable {G : gE} {σ : hSt} {PX : Nat → Nat → hSt → Prop} {P : Int32 → hSt → Prop} {n0 : Nat} {o A : Nat → Nat} {md : Int32} {es : List eT} {g : Nat → Int32}
theorem ev.wn {W : Nat → Nat → Prop} {c c' : Nat} {τ : hSt} (e : ev G W c σ τ) (h : ∀ a k, W a k → n0 ≤ a ∧ k ≠ 19) (hc : c ≤ c') : ev G (Wn n0) c' σ τ := e.mono (fun a k _ w => h a k w) hc
theorem ev.w1n {a k : Nat} {c c' : Nat} {τ : hSt} (e : ev G (W1 a k) c σ τ) (h : n0 ≤ a) (hc : c ≤ c') (hk : k ≠ 19 := by decide) : ev G (Wn n0) c' σ τ := e.mono (fun b k' _ w => ⟨by rw [w.1]; exact h, by rw [w.2]; exact hk⟩) hc
theorem LG.An (h : LG G σ n0 o A md es g) {i : Nat} (hi : i < 20) : n0 ≤ A i := h.2.1.2.1 i hi
theorem isLent_k {x nm e : Nat} (hx : σ.1 x = some (.inr (7, excF nm g e))) (hd : ∃ n, n ≤ 3 ∧ g (102 + e) = Int32.ofNat n) (h0 : g (102 + e) ≤ 0 → P 0 σ) (h1 : ¬ g (102 + e) ≤ 0 → P 1 σ) : wX8_isLent G P PX (some x) σ := by
  obtain ⟨n, hn, hd⟩ := hd
  unfold wX8_isLent wX8_isLentb0
  have hz : ∀ m, m ≤ 3 → ((Int32.ofNat m - 1 = -1) ↔ Int32.ofNat m ≤ 0) := by
    intro m hm
    have : m = 0 ∨ m = 1 ∨ m = 2 ∨ m = 3 := by omega
    rcases this with rfl | rfl | rfl | rfl <;> decide
  refine gI hx (by decide) rfl ?_
  rw [hd] at h0 h1 ⊢
  rw [hz n hn]
  exact ⟨fun w => ⟨ok_b0, h0 w⟩, fun w => ⟨ok_b1, h1 w⟩⟩
theorem strict_k {s : Nat} {x : Int32} (hS : SI G σ) (h : LG G σ n0 o A md es g) (hb : bd G σ 9) (hs : s < 3)
    (hR : ∀ r d τ q, sStrict g s x (.inl (r, d)) → ev G W0 9 σ τ → RF τ q r d → PX 8 q τ)
    (hP : ∀ v g' τ, sStrict g s x (.inr (v, g')) → ev G (Wn n0) 9 σ τ → LG G τ n0 o A md es g' → P v τ) : wX2_strict G P PX (some (A 0)) (Int32.ofNat s) x σ := by
  unfold wX2_strict wX2_strictb0 wX2_strictb20
  refine h.aS hs (gI (h.sch hs) (by decide) rfl ⟨fun w => refuse_k hS hb (fun _ => h.aS hs (pO hS (h.sch hs) (by decide) (by simp) (by decide) fun τ w1 e1 => ?_)) fun w => absurd rfl w, fun w => refuse_k hS hb (fun w => absurd w n10) fun _ τ q e hq => hR 11 x τ q (Or.inl ⟨w, rfl⟩) e hq⟩)
  refine hP _ (gu g (132 + s) x) τ (Or.inr ⟨w, rfl⟩) (e1.w1n (h.An (by omega)) (by omega)) (setS_ hs h e1 ?_ fun i h1 _ _ => gu_n h1)
  rw [w1.1, gu_s, gu_n (by omega), gu_n (by omega)]
  rfl
theorem weather_k {t : Int32} (hS : SI G σ) (h : LG G σ n0 o A md es g) (hb : bd G σ 9)
    (hR : ∀ r d τ q, sWeather g t (.inl (r, d)) → ev G W0 9 σ τ → RF τ q r d → PX 8 q τ)
    (hP : ∀ v g' τ, sWeather g t (.inr (v, g')) → ev G (Wn n0) 9 σ τ → LG G τ n0 o A md es g' → P v τ) : wX2_weather G P PX (some (A 0)) t σ := by
  unfold wX2_weather wX2_weatherb0 wX2_weatherb15
  refine gI h.L (by decide) rfl ⟨fun w => refuse_k hS hb (fun _ => pO hS h.L (by decide) (by simp) (by decide) fun τ w1 e1 => ?_) fun w => absurd rfl w, fun w => refuse_k hS hb (fun w => absurd w n10) fun _ τ q e hq => hR 11 t τ q (Or.inl ⟨w, rfl⟩) e hq⟩
  have hg : ∀ i, i = 0 ∨ 6 ≤ i → gu g 2 (t + 1) i = g i := fun i hi => gu_n (by omega)
  refine hP _ (gu g 2 (t + 1)) τ (Or.inr ⟨w, rfl⟩) (e1.w1n (h.An (by omega)) (by omega)) (setL_ h e1 ?_ hg (ok_L h.ok hg))
  rw [w1.1, gu_s, gu_n (by omega), gu_n (by omega), gu_n (by omega), gu_n (by omega), Int32.add_sub_cancel]
  rfl
/-- an excuse's holder, its days -/
theorem ok_D {g g' : Nat → Int32} {e w : Nat} (h : gOK g) (hw : w < 6) (he : g' (66 + e) = Int32.ofNat w) (hg : ∀ i, (i < 30 ∨ (54 ≤ i ∧ i < 78)) → i ≠ 66 + e → g' i = g i) (he12 : e < 12) : gOK g' := by
  obtain ⟨⟨h1, h2⟩, h3⟩ := h
  have hc : cnt g' = cnt g := by
    unfold cnt
    rw [hg 0 (by omega) (by omega)]
  refine ⟨⟨by rw [hc]; exact h1, by rw [hc, hg 0 (by omega) (by omega)]; exact h2⟩, fun i hi => ?_⟩
  rw [hc] at hi
  unfold kOf tOf oOf dOf
  rw [hg (6 + i) (by omega) (by omega), hg (18 + i) (by omega) (by omega), hg (54 + i) (by omega) (by omega)]
  obtain ⟨q1, q2, q3, q4⟩ := h3 i hi
  refine ⟨q1, q2, q3, ?_⟩
  by_cases hie : i = e
  · subst hie
    rw [he, i_nat (by omega)]
    exact ⟨hw, rfl⟩
  · rw [hg (66 + i) (by omega) (by omega)]
    exact q4
/-- an excuse goes back -/
theorem goes_k {K : hSt → Prop} {ei x : Nat} {q : eT} (hS : SI G σ) (h : LG G σ n0 o A md es g) (hq : es[ei]? = some q) (hx : q.2.2.2 = some x) (hK : ∀ τ, ev G (Wn n0) 0 σ τ → ev G (W1 x 7) 0 σ τ → LG G τ n0 o A md es (bakG g ei) → K τ) : rcv σ (some x) 7 ∧ wX8_goesBack G K PX (some x) σ := by
  obtain ⟨-, x', hx', hn, hxc⟩ := h.exc hq
  rw [hx] at hx'
  cases hx'
  have hei := h.lt hq
  have h12 := h.ok.1.1
  obtain ⟨-, -, ⟨ho, ho'⟩, -⟩ := h.ok.2 ei hei
  unfold wX8_goesBack wX8_goesBackb0
  refine ⟨rco hxc, gI hxc (by decide) rfl (pO hS hxc (by decide) (by simp) (by decide) fun τ w1 e1 => pO e1.t w1.1 (by decide) (by simp) (by decide) fun τ2 w2 e2 => ?_)⟩
  have e12 : ev G (W1 x 7) 0 σ τ2 := (e1.tr e2).le' (by omega)
  refine hK τ2 (e12.w1n hn (by omega)) e12 (setX_ h hq hx e12 ?_ (fun i hi => ?_) (ok_D (e := ei) h.ok ho ?_ (fun i hi hne => ?_) (by omega)))
  · rw [w2.1]
    unfold excF bakG
    simp (disch := omega) only [gu_s, gu_n]
    rfl
  · unfold bakG
    rw [gu_n (by omega), gu_n (by omega)]
  · unfold bakG
    rw [gu_n (by omega), gu_s]
    exact ho'
  · unfold bakG
    rw [gu_n (by omega), gu_n (by omega)]
/-- the excuse that is meant -/
theorem xq_of {e : Nat} (h : LG G σ n0 o A md es g) (he : e < cnt g) : ∃ q, es[e]? = some q ∧ q.2.2.2 = some (xa es e) ∧ σ.1 (xa es e) = some (.inr (7, excF q.2.2.1 g e)) ∧ n0 ≤ xa es e := by
  obtain ⟨q, h1, h2, h3⟩ := h.xae he
  obtain ⟨-, x', h4, h5, -⟩ := h.exc h1
  rw [h2] at h4
  cases h4
  exact ⟨q, h1, h2, h3, h5⟩
theorem back_k {k t nm : Nat} (hS : SI G σ) (h : LG G σ n0 o A md es g) (hd : dOK g) (hb : bd G σ 20) (hk : k < 4) (ht : t < 10) (hn : KY σ 5 nm (10 * k + t))
    (hR : ∀ r d τ q, sBack g (Int32.ofNat k) (Int32.ofNat t) (.inl (r, d)) → ev G W0 9 σ τ → RF τ q r d → PX 8 q τ)
    (hP : ∀ v g' τ, sBack g (Int32.ofNat k) (Int32.ofNat t) (.inr (v, g')) → ev G (Wn n0) 9 σ τ → LG G τ n0 o A md es g' → P v τ) : wX2_back G P PX (some (A 0)) (some nm) σ := by
  unfold wX2_back wX2_backb0
  refine ⟨h.rc, excuse_k hS h (hb.mono (by omega)) hk ht hn (fun e he hxE => ?_) fun hno τ q e hq => hR 3 _ τ q (Or.inl ⟨hno, rfl⟩) e hq⟩
  obtain ⟨q, hq, hx, hxc, hxn⟩ := xq_of h he.1
  obtain ⟨n, hn3, hdn⟩ := hd e he.1
  have hz : ∀ m, m ≤ 3 → (Int32.ofNat m ≤ 0 ↔ ¬ 0 ≤ Int32.ofNat m - 1) := by
    intro m hm
    have : m = 0 ∨ m = 1 ∨ m = 2 ∨ m = 3 := by omega
    rcases this with rfl | rfl | rfl | rfl <;> decide
  have hz' := hz n hn3
  rw [← hdn] at hz'
  unfold wX2_backb18
  refine ⟨rco hxc, isLent_k hxc ⟨n, hn3, hdn⟩ (fun w => ⟨fun w => absurd rfl w, fun _ => gI hxc (by decide) rfl (refuse_k hS (hb.mono (by omega)) (fun w => absurd w n10) fun _ τ q e1 hq => hR 9 _ τ q (Or.inr ⟨e, he, Or.inl ⟨hz'.mp w, rfl⟩⟩) e1 hq)⟩) fun w => ⟨fun _ => gI hxc (by decide) rfl (refuse_k hS (hb.mono (by omega)) (fun _ => gI hxc (by decide) rfl (goes_k hS h hq hx fun τ e1 _ h1 => hP _ _ τ (Or.inr ⟨e, he, Or.inr ⟨?_, rfl⟩⟩) (e1.le' (by omega)) h1)) fun w => absurd rfl w), fun w => absurd w n10⟩⟩
  exact Classical.byContradiction fun u => w (hz'.mpr u)
theorem mend_k {k t nm : Nat} {x : Int32} (hS : SI G σ) (h : LG G σ n0 o A md es g) (hb : bd G σ 20) (hk : k < 4) (ht : t < 10) (hn : KY σ 5 nm (10 * k + t))
    (hR : ∀ r d τ q, sMend g (Int32.ofNat k) (Int32.ofNat t) x (.inl (r, d)) → ev G W0 9 σ τ → RF τ q r d → PX 8 q τ)
    (hP : ∀ v g' τ, sMend g (Int32.ofNat k) (Int32.ofNat t) x (.inr (v, g')) → ev G (Wn n0) 9 σ τ → LG G τ n0 o A md es g' → P v τ) : wX2_mend G P PX (some (A 0)) (some nm) x σ := by
  unfold wX2_mend wX2_mendb0
  refine ⟨h.rc, excuse_k hS h (hb.mono (by omega)) hk ht hn (fun e he hxE => ?_) fun hno τ q e hq => hR 3 _ τ q (Or.inl ⟨hno, rfl⟩) e hq⟩
  obtain ⟨q, hq, hx, hxc, hxn⟩ := xq_of h he.1
  have h12 := h.ok.1.1
  have hec := he.1
  obtain ⟨-, -, -, hd, hd'⟩ := h.ok.2 e he.1
  obtain ⟨f, hh, q1, q2, q3, q4⟩ := h.2.2.2.1
  refine gR h.L (by decide) rfl (gI hxc (by decide) rfl ?_)
  rw [hd']
  refine aR q3 (by decide) (by omega) hd ?_
  rw [q4 _ hd]
  have hp := h.pup hd
  refine gI hxc (by decide) rfl ⟨fun w1 => ?_, fun w1 => ?_⟩
  · unfold wX2_mendb30
    refine gI hxc (by decide) rfl (refuse_k hS (hb.mono (by omega)) (fun _ => gI hp (by decide) rfl ⟨fun w2 => ?_, fun w2 => ?_⟩) fun w => absurd rfl w)
    · unfold wX2_mendb53
      refine gI hp (by decide) rfl (refuse_k hS (hb.mono (by omega)) (fun _ => gI hp (by decide) rfl (pO hS hp (by decide) (by simp) (by decide) fun τ1 u1 e1 => ?_)) fun w => absurd rfl w)
      have hA0 : A 0 ≠ A (14 + dOf g e) := fun w => by have := h.Ai (by omega) (by omega) w; omega
      have hxp : xa es e ≠ A (14 + dOf g e) := fun w => by rw [w, hp] at hxc; injection hxc with v; injection v with v; injection v with v1 v2; omega
      have hx0 : xa es e ≠ A 0 := fun w => by rw [w, h.L] at hxc; injection hxc with v; injection v with v; injection v with v1 v2; omega
      have s1 := setP_ (g' := gu g (114 + dOf g e) (g (114 + dOf g e) - x)) hd h e1 (by rw [u1.1, gu_s, gu_n (by omega), gu_n (by omega)]; rfl) fun i i1 _ _ => gu_n i1
      refine gI s1.L (by decide) (by rfl) (pO e1.t s1.L (by decide) (by simp) (by decide) fun τ2 u2 e2 => ?_)
      have s2g : ∀ i, i = 0 ∨ 6 ≤ i → gu (gu g (114 + dOf g e) (g (114 + dOf g e) - x)) 3 (g 3 + x) i = gu g (114 + dOf g e) (g (114 + dOf g e) - x) i := fun i hi => gu_n (by omega)
      have s2 := setL_ (g' := gu (gu g (114 + dOf g e) (g (114 + dOf g e) - x)) 3 (g 3 + x)) s1 e2 (by
        rw [u2.1, gu_s]
        simp (disch := omega) only [gu_n]
        rfl) s2g (ok_L s1.ok s2g)
      have hxc2 := e2.o (e1.o hxc (fun w => hxp w.1) (by decide) (by decide)) (fun w => hx0 w.1) (by decide) (by decide)
      refine gI hxc2 (by decide) rfl (pO e2.t hxc2 (by decide) (by simp) (by decide) fun τ3 u3 e3 => ?_)
      have s3g : ∀ i, i < 30 ∨ 114 ≤ i ∨ (i - 6) % 12 ≠ e → menG g e (dOf g e) x i = gu (gu g (114 + dOf g e) (g (114 + dOf g e) - x)) 3 (g 3 + x) i := fun i hi => gu_n (by omega)
      have s3 := setX_ (g' := menG g e (dOf g e) x) s2 hq hx e3 (by
        rw [u3.1]
        unfold excF menG
        simp (disch := omega) only [gu_s, gu_n]
        rfl) s3g (ok_congr s2.ok fun i hi => gu_n (by omega))
      refine gI u3.1 (by decide) rfl (hP _ _ τ3 (Or.inr ⟨e, he, Or.inr ⟨w1, Or.inr ⟨w2, rfl⟩⟩⟩) ?_ s3)
      exact (((e1.w1n (h.An (by omega)) (Nat.le_refl _)).tr (e2.w1n (h.An (by omega)) (Nat.le_refl _))).tr (e3.w1n hxn (Nat.le_refl _))).le' (by omega)
    · unfold wX2_mendb53
      exact gI hp (by decide) rfl (refuse_k hS (hb.mono (by omega)) (fun w => absurd w n10) fun _ τ q e1 hq => hR 6 _ τ q (Or.inr ⟨e, he, Or.inr ⟨w1, Or.inl ⟨w2, rfl⟩⟩⟩) e1 hq)
  · unfold wX2_mendb30
    exact gI hxc (by decide) rfl (refuse_k hS (hb.mono (by omega)) (fun w => absurd w n10) fun _ τ q e1 hq => hR 10 _ τ q (Or.inr ⟨e, he, Or.inl ⟨w1, rfl⟩⟩) e1 hq)
end CH1
