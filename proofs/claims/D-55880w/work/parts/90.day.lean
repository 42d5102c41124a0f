/-! the changes of a ledger: a day ends -/
set_option maxRecDepth 100000
abbrev sD (i : Nat) : Prop := i = 1 ∨ i = 2 ∨ (141 ≤ i ∧ i < 151)
/-- old there, new elsewhere -/
def mixG (g D : Nat → Int32) : Nat → Int32 := fun i => if sD i then g i else D i
theorem mix_n {g D : Nat → Int32} {i : Nat} (h : ¬ sD i) : mixG g D i = D i := if_neg h
theorem mix_y {g D : Nat → Int32} {i : Nat} (h : sD i) : mixG g D i = g i := if_pos h
theorem mix_gu {g D : Nat → Int32} {i : Nat} {v : Int32} (h : ¬ sD i) : gu (mixG g D) i v = mixG g (gu D i v) := by
  funext j
  by_cases hj : j = i
  · subst hj
    rw [gu_s, mix_n h, gu_s]
  · rw [gu_n hj]
    unfold mixG
    rw [gu_n hj]
theorem day0_o {g : Nat → Int32} {i : Nat} (h : ¬ sD i) : day0 g i = g i := by
  unfold day0
  rw [gu_n (by omega), gu_n (by omega)]
  unfold dogG
  rw [if_neg (by omega)]
theorem mix_0 {g : Nat → Int32} : mixG g (day0 g) = g := by
  funext i
  by_cases h : sD i
  · exact mix_y h
  · rw [mix_n h, day0_o h]
theorem dayE_o {p : (Nat → Int32) × Int32} {e i : Nat} (h6 : dOf p.1 e < 6) (h1 : i ≠ 102 + e) (h2 : i ≠ 66 + e) (h3 : i ≠ 3) (h4 : i < 114 ∨ 120 ≤ i) : (dayE p e).1 i = p.1 i := by
  have hd : dOf (agG p.1 e) e = dOf p.1 e := by
    unfold dOf agG
    rw [gu_n (by omega)]
  unfold dayE
  by_cases w : agG p.1 e (102 + e) = 4
  · rw [if_pos w, hd]
    show bakG (payG (agG p.1 e) (dOf p.1 e)) e i = _
    unfold bakG payG agG
    rw [gu_n h1, gu_n h2]
    rw [gu_n h3, gu_n (by omega), gu_n h1]
  · rw [if_neg w]
    exact gu_n h1
theorem dayN_o {g : Nat → Int32} (hg : gOK g) {i : Nat} (hi : i < 66 ∨ (78 ≤ i ∧ i < 102) ∨ 120 ≤ i) (h3 : i ≠ 3) : ∀ n, n ≤ cnt g → (dayN g n).1 i = day0 g i := by
  intro n
  induction n with
  | zero => intro _; rfl
  | succ n ih =>
    intro hn
    have h12 := hg.1.1
    rw [← ih (by omega)]
    exact dayE_o ((dayN_K hg n (by omega)).2 n (by omega)).1 (by omega) (by omega) h3 (by omega)
theorem dayN_d {g : Nat → Int32} (hg : gOK g) : ∀ n, n ≤ cnt g → ∀ j, n ≤ j → j < 12 → (dayN g n).1 (102 + j) = g (102 + j) := by
  intro n
  induction n with
  | zero => intro _ j _ hj; exact day0_o (by omega)
  | succ n ih =>
    intro hn j h1 h2
    have h12 := hg.1.1
    rw [← ih (by omega) j (by omega) h2]
    exact dayE_o ((dayN_K hg n (by omega)).2 n (by omega)).1 (by omega) (by omega) (by omega) (by omega)
theorem age4 {v : Int32} (h : ∃ n, n ≤ 3 ∧ v = Int32.ofNat n) : v + (if v ≤ 0 then 0 else 1) = 4 ↔ v = 3 := by
  obtain ⟨n, hn, rfl⟩ := h
  have : n = 0 ∨ n = 1 ∨ n = 2 ∨ n = 3 := by omega
  rcases this with rfl | rfl | rfl | rfl <;> decide
theorem dayN_2 {g : Nat → Int32} (hg : gOK g) (hd : dOK g) : ∀ n, n ≤ cnt g → (dayN g n).2 = sN (fun e => tw (g (102 + e) = 3)) n := by
  intro n
  induction n with
  | zero => intro _; rfl
  | succ n ih =>
    intro hn
    have h12 := hg.1.1
    have h102 := dayN_d hg n (by omega) n (Nat.le_refl _) (by omega)
    rw [← sN_s, ← ih (by omega)]
    have ha : agG (dayN g n).1 n (102 + n) = g (102 + n) + (if g (102 + n) ≤ 0 then 0 else 1) := by
      unfold agG
      rw [gu_s, h102]
    show (dayE (dayN g n) n).2 = _
    unfold dayE
    rw [ha]
    by_cases w : g (102 + n) = 3
    · rw [if_pos ((age4 (hd n (by omega))).mpr w), tw_1 w]
    · rw [if_neg (fun u => w ((age4 (hd n (by omega))).mp u)), tw_0 w, Int32.add_zero]
theorem min2 {x : Int32} : (if x < 2 then x else 2) = if 2 ≤ x then 2 else x := by
  by_cases h : x < 2
  · rw [if_pos h, if_neg (by rw [Int32.lt_iff_toInt_lt] at h; rw [Int32.le_iff_toInt_le]; omega)]
  · rw [if_neg h, if_pos (by rw [Int32.lt_iff_toInt_lt] at h; rw [Int32.le_iff_toInt_le]; omega)]
theorem i_sac {a b : Int32} : a - 1 + b = a + b - 1 := by
  rw [Int32.sub_eq_add_neg, Int32.sub_eq_add_neg, Int32.add_assoc, Int32.add_comm (-1), ← Int32.add_assoc]
section DAY
variable {G : gE} {σ : hSt} {PX : Nat → Nat → hSt → Prop} {P : Int32 → hSt → Prop} {n0 : Nat} {o A : Nat → Nat} {md : Int32} {es : List eT} {g : Nat → Int32}
theorem day_k (hS : SI G σ) (h : LG G σ n0 o A md es g) (hd : dOK g) (hn0 : n0 ≤ σ.2.1) (hb : bd G σ 60) (hP : ∀ v g' τ, sDay g (.inr (v, g')) → ev G (Wn n0) 40 σ τ → LG G τ n0 o A md es g' → P v τ) : wX2_day G P PX (some (A 0)) σ := by
  have h12 := h.ok.1.1
  have hlen := h.len
  have hg := h.ok
  unfold wX2_day wX2_dayb0
  refine ⟨h.rc, due_k hS h (hb.mono (by omega)) fun τ e1 => ?_⟩
  have h1 := h.ev e1 W0_g
  refine gR h1.L (by decide) rfl (iter_k e1.t h1.M (e1.rm hb (by omega)) fun z0 it e2 hit hi => ?_)
  have e02 := e1.tr e2
  have hz0 := h.ev e02 W0_g
  have hitn : n0 ≤ it := Nat.le_trans hn0 (Nat.le_trans e1.le hit)
  refine lp_n (fun n y => ∃ e z, e ≤ es.length ∧ n = es.length - e ∧ y = (some (A 0), nDue g, some it, z) ∧ ev G (Wn n0) 18 σ z ∧ IT z it (A 1) md (es.drop e) ∧ LG G z n0 o A md es (mixG g (dayN g e).1)) es.length ⟨0, z0, by omega, rfl, rfl, e02.up0.le' (by omega), hi, by rw [show (dayN g 0).1 = day0 g from rfl, mix_0]; exact hz0⟩ ?_
  rintro n y ⟨e, z, he, rfl, rfl, ez, hi, hz⟩ K hK
  unfold wX2_dayb18
  refine step_k (d := es.take e) ez.t hi (by rw [List.take_append_drop]; exact hz.M) (fun hr => ?_) fun q r' hr υ eυ hi' => ?_
  · have : e = es.length := by
      have := congrArg List.length hr
      simp at this
      omega
    subst this
    rw [hlen] at hz
    obtain ⟨D, hD⟩ : ∃ D, D = (dayN g (cnt g)).1 := ⟨_, rfl⟩
    rw [← hD] at hz
    have hDS : ∀ i, sD i → D i = day0 g i := fun i hi => by
      rw [hD]; exact dayN_o hg (by omega) (by omega) _ (Nat.le_refl _)
    refine gR hz.L (by decide) rfl ⟨?_, clear_k ez.t hz.2.2.2.2.2.2.2.2.1 fun τ1 f1 hd1 => ?_⟩
    · obtain ⟨pr, N, E, hH, -⟩ := hz.2.2.2.2.2.2.2.2.1
      exact hH.rc
    have s1 := mapD (g' := dogG (mixG g D) 10) hz f1 hd1 fun i hi => by
      unfold dogG
      rw [if_neg (by omega)]
    refine pO f1.t s1.L (by decide) (by simp) (by decide) fun τ2 w2 f2 => ?_
    have g2e : ∀ i, i = 0 ∨ 6 ≤ i → gu (dogG (mixG g D) 10) 2 0 i = dogG (mixG g D) 10 i := fun i hi => gu_n (by omega)
    have s2 := setL_ (g' := gu (dogG (mixG g D) 10) 2 0) s1 f2 (by
      rw [w2.1]
      simp (disch := omega) only [gu_s, gu_n]
      rfl) g2e (ok_L s1.ok g2e)
    refine gI s2.L (by decide) (by rfl) (pO f2.t s2.L (by decide) (by simp) (by decide) fun τ3 w3 f3 => ?_)
    obtain ⟨g3, hg3⟩ : ∃ g3, g3 = gu (gu (dogG (mixG g D) 10) 2 0) 1 (gu (dogG (mixG g D) 10) 2 0 1 + 1) := ⟨_, rfl⟩
    have g3e : ∀ i, i = 0 ∨ 6 ≤ i → g3 i = gu (dogG (mixG g D) 10) 2 0 i := fun i hi => by rw [hg3]; exact gu_n (by omega)
    have s3 := setL_ (g' := g3) s2 f3 (by
      rw [w3.1, hg3]
      simp (disch := omega) only [gu_s, gu_n]
      rfl) g3e (ok_L s2.ok g3e)
    refine gI s3.L (by decide) (by rfl) (pO f3.t s3.L (by decide) (by simp) (by decide) fun τ4 w4 f4 => ?_)
    obtain ⟨g4, hg4⟩ : ∃ g4, g4 = gu g3 5 (g3 5 + nDue g) := ⟨_, rfl⟩
    have g4e : ∀ i, i = 0 ∨ 6 ≤ i → g4 i = g3 i := fun i hi => by rw [hg4]; exact gu_n (by omega)
    have s4 := setL_ (g' := g4) s3 f4 (by
      rw [w4.1, hg4]
      simp (disch := omega) only [gu_s, gu_n]
      rfl) g4e (ok_L s3.ok g4e)
    have hfin : g4 = gu D 5 (D 5 + nDue g) := by
      have q5 : g3 5 = D 5 := by
        rw [hg3, gu_n (by omega), gu_n (by omega)]
        unfold dogG
        rw [if_neg (by omega), mix_n (by omega)]
      funext i
      by_cases c5 : i = 5
      · subst c5
        rw [hg4, gu_s, gu_s, q5]
      rw [hg4, gu_n c5, gu_n c5, hg3]
      by_cases c1 : i = 1
      · subst c1
        rw [gu_s, gu_n (by omega), hDS 1 (by omega)]
        unfold day0 dogG
        rw [gu_s, if_neg (by omega), if_neg (by omega), mix_y (by omega)]
      rw [gu_n c1]
      by_cases c2 : i = 2
      · subst c2
        rw [gu_s, hDS 2 (by omega)]
        unfold day0
        rw [gu_n (by omega), gu_s]
      rw [gu_n c2]
      unfold dogG
      by_cases c3 : 141 ≤ i ∧ i < 141 + 10
      · rw [if_pos c3, hDS i (by omega)]
        unfold day0
        rw [gu_n c1, gu_n c2]
        unfold dogG
        rw [if_pos c3]
      · rw [if_neg c3, mix_n (by omega)]
    have hv : nDue g = (dayN g (cnt g)).2 := (dayN_2 hg hd _ (Nat.le_refl _)).symm
    rw [hfin] at s4
    refine hP _ _ τ4 ?_ ?_ s4
    · unfold sDay
      rw [hD, hv]
    · exact (((ez.tr (f1.wn (n0 := n0) (fun a k w => ⟨w.1.2, mkd_19 w.2⟩) (Nat.le_refl _))).tr (f2.w1n (h.An (by omega)) (Nat.le_refl _))).tr ((f3.w1n (h.An (by omega)) (Nat.le_refl _)).tr (f4.w1n (h.An (by omega)) (Nat.le_refl _)))).le' (by omega)
  · have hlt : e < es.length := by
      have := congrArg List.length hr
      simp at this
      omega
    have hq : es[e]? = some q := by
      rw [List.getElem?_eq_getElem hlt]
      rw [List.drop_eq_getElem_cons hlt] at hr
      injection hr with h1 h2
      rw [h1]
    have hr2 : r' = es.drop (e + 1) := by
      rw [List.drop_eq_getElem_cons hlt] at hr
      injection hr with h1 h2
      exact h2.symm
    subst hr2
    obtain ⟨D, hD⟩ : ∃ D, D = (dayN g e).1 := ⟨_, rfl⟩
    rw [← hD] at hz
    have hυ := hz.ev eυ (W1_g (by decide))
    have ezυ : ev G (Wn n0) 18 σ υ := (ez.tr (eυ.w1n hitn (Nat.le_refl _))).le' (by omega)
    obtain ⟨-, x, hx, hxn, hxc⟩ := hυ.exc hq
    have hec : e < cnt g := by omega
    have h102 : D (102 + e) = g (102 + e) := by rw [hD]; exact dayN_d hg e (by omega) e (Nat.le_refl _) (by omega)
    obtain ⟨hK1, hK2⟩ := dayN_K hg e (by omega)
    rw [← hD] at hK1 hK2
    obtain ⟨hh6, hh'⟩ := hK2 e hec
    have m102 : mixG g D (102 + e) = g (102 + e) := by rw [mix_n (by omega), h102]
    obtain ⟨dn, hdn3, hdn⟩ := hd e hec
    have ha1 : agG (mixG g D) e = mixG g (agG D e) := by
      unfold agG
      rw [mix_n (by omega), mix_gu (by omega)]
    have hag : agG (mixG g D) e (102 + e) = g (102 + e) + (if g (102 + e) ≤ 0 then 0 else 1) := by
      unfold agG
      rw [gu_s, m102]
    rw [hx]
    -- one day more
    have step : ∀ u, u = (if g (102 + e) ≤ 0 then 0 else 1) → ptV G υ (some x) [7] 7 (.int (mixG g D (102 + e) - 1 + u)) (fun z24 => gtI z24 (some x) [7] 7 (fun x25 => ((¬ x25 = 3 → wX2_dayb113 G P PX K (some (A 0)) (nDue g) (some it) z24) ∧ (x25 = 3 → gtR z24 (some (A 0)) [1] 3 (fun x26 => gtI z24 (some x) [7] 3 (fun x27 => alR z24 x26 arL x27 (fun x28 => gtI z24 x28 [3] 0 (fun x29 => gtR z24 (some (A 0)) [1] 3 (fun x30 => gtI z24 (some x) [7] 3 (fun x31 => alR z24 x30 arL x31 (fun x32 => gtI z24 x32 [3] 0 (fun x33 => ptV G z24 x32 [3] 0 (.int (x33 - (if x29 < 2 then x29 else 2))) (fun z34 => gtI z34 (some (A 0)) [1] 6 (fun x35 => ptV G z34 (some (A 0)) [1] 6 (.int (x35 + (if x29 < 2 then x29 else 2))) (fun z36 => (rcv z36 (some x) 7 ∧ wX8_goesBack G (fun z37 => wX2_dayb113 G P PX K (some (A 0)) (nDue g) (some it) z37) PX (some x) z36)))))))))))))))) := by
      intro u hu
      refine pO ezυ.t hxc (by decide) (by simp) (by decide) fun τ1 w1 f1 => ?_
      obtain ⟨γ1, hγ1⟩ : ∃ γ1, γ1 = agG (mixG g D) e := ⟨_, rfl⟩
      have g1n : ∀ i, i ≠ 102 + e → γ1 i = mixG g D i := fun i hi => by rw [hγ1]; exact gu_n hi
      have s1 := setX_ (g' := γ1) hυ hq hx f1 (by
        rw [w1.1]
        unfold excF
        rw [g1n (30 + e) (by omega), g1n (54 + e) (by omega), g1n (66 + e) (by omega), g1n (42 + e) (by omega), g1n (78 + e) (by omega), g1n (90 + e) (by omega), hγ1, hag, m102, i_sac, hu]
        rfl) (fun i hi => g1n i (by omega)) (ok_congr hυ.ok fun i hi => g1n i (by omega))
      obtain ⟨-, x1, hx1, -, hxc1⟩ := s1.exc hq
      rw [hx] at hx1
      cases hx1
      have hi1 := hi'.ev f1 fun w => by have := w.2; omega
      have ez1 : ev G (Wn n0) 18 σ τ1 := (ezυ.tr (f1.w1n hxn (Nat.le_refl _))).le' (by omega)
      have cmp : (3 = γ1 (102 + e) - 1) ↔ agG D e (102 + e) = 4 := by
        rw [i_sub1, hγ1, ha1, mix_n (by omega)]
        rfl
      refine gI hxc1 (by decide) rfl ⟨fun wn => ?_, fun wy => ?_⟩
      · have hno : ¬ agG D e (102 + e) = 4 := fun w => wn (cmp.mpr w).symm
        unfold wX2_dayb113
        refine hK (es.length - (e + 1)) _ (by omega) ⟨e + 1, τ1, by omega, rfl, rfl, ez1, hi1, ?_⟩
        have : (dayN g (e + 1)).1 = agG D e := by
          show (dayE (dayN g e) e).1 = _
          unfold dayE
          rw [← hD, if_neg hno]
        rw [this, ← ha1, ← hγ1]
        exact s1
      · have hyes : agG D e (102 + e) = 4 := cmp.mp wy.symm
        have hhold : γ1 (66 + e) = Int32.ofNat (dOf D e) := by rw [g1n _ (by omega), mix_n (by omega)]; exact hh'
        obtain ⟨f, hf, r1, r2, r3, r4⟩ := s1.2.2.2.1
        have hp1 := s1.pup hh6
        refine gR s1.L (by decide) rfl (gI hxc1 (by decide) rfl ?_)
        rw [hhold]
        refine aR r3 (by decide) (by omega) hh6 ?_
        rw [r4 _ hh6]
        refine gI hp1 (by decide) rfl (gR s1.L (by decide) rfl (gI hxc1 (by decide) rfl ?_))
        rw [hhold]
        refine aR r3 (by decide) (by omega) hh6 ?_
        rw [r4 _ hh6]
        refine gI hp1 (by decide) rfl (pO f1.t hp1 (by decide) (by simp) (by decide) fun τ2 w2 f2 => ?_)
        rw [min2]
        obtain ⟨c, hc⟩ : ∃ c, c = (if 2 ≤ γ1 (114 + dOf D e) then 2 else γ1 (114 + dOf D e)) := ⟨_, rfl⟩
        rw [min2, ← hc] at w2
        rw [← hc]
        have s2 := setP_ (g' := gu γ1 (114 + dOf D e) (γ1 (114 + dOf D e) - c)) hh6 s1 f2 (by rw [w2.1, gu_s, gu_n (by omega), gu_n (by omega)]; rfl) fun i i1 _ _ => gu_n i1
        refine gI s2.L (by decide) (by rfl) (pO f2.t s2.L (by decide) (by simp) (by decide) fun τ3 w3 f3 => ?_)
        obtain ⟨γ3, hγ3⟩ : ∃ γ3, γ3 = payG γ1 (dOf D e) := ⟨_, rfl⟩
        have g3' : γ3 = gu (gu γ1 (114 + dOf D e) (γ1 (114 + dOf D e) - c)) 3 (γ1 3 + c) := by rw [hγ3, hc]; rfl
        have g3e : ∀ i, i = 0 ∨ 6 ≤ i → γ3 i = gu γ1 (114 + dOf D e) (γ1 (114 + dOf D e) - c) i := fun i hi => by rw [g3']; exact gu_n (by omega)
        have s3 := setL_ (g' := γ3) s2 f3 (by
          rw [w3.1, g3']
          simp (disch := omega) only [gu_s, gu_n]
          rfl) g3e (ok_L s2.ok g3e)
        refine goes_k f3.t s3 hq hx fun τ4 f4 f4' s4 => ?_
        unfold wX2_dayb113
        have f14 : ev G (fun b k => n0 ≤ b ∧ (k ≠ 23 ∧ k ≠ 19)) 0 τ1 τ4 := by
          have a1 : ∀ {z z' : hSt} {y kk : Nat}, n0 ≤ y → (kk ≠ 23 ∧ kk ≠ 19) → ev G (W1 y kk) 0 z z' → ev G (fun b kk => n0 ≤ b ∧ (kk ≠ 23 ∧ kk ≠ 19)) 0 z z' := fun hy hkk ee => ee.mono (fun b k2 _ w => ⟨by rw [w.1]; exact hy, by rw [w.2]; exact hkk⟩) (Nat.le_refl _)
          exact (a1 (h.An (by omega)) (by omega) f2).tr ((a1 (h.An (by omega)) (by omega) f3).tr (a1 hxn (by omega) f4'))
        refine hK (es.length - (e + 1)) _ (by omega) ⟨e + 1, τ4, by omega, rfl, rfl, (ez1.tr (f14.wn (n0 := n0) (fun a k w => ⟨w.1, w.2.2⟩) (Nat.le_refl _))).le' (by omega), hi1.ev f14 (fun w => w.2.1 rfl), ?_⟩
        have hdo : dOf (agG D e) e = dOf D e := by
          unfold dOf agG
          rw [gu_n (by omega)]
        have e1 : (dayN g (e + 1)).1 = bakG (payG (agG D e) (dOf D e)) e := by
          show (dayE (dayN g e) e).1 = _
          unfold dayE
          rw [← hD, if_pos hyes, hdo]
        have e2 : bakG (payG γ1 (dOf D e)) e = mixG g (bakG (payG (agG D e) (dOf D e)) e) := by
          rw [hγ1, ha1]
          unfold bakG payG
          dsimp only
          rw [mix_n (i := 114 + dOf D e) (by omega), mix_n (i := 3) (by omega), mix_gu (by omega), mix_gu (by omega), mix_n (by omega), mix_gu (by omega), mix_gu (by omega)]
        rw [e1, ← e2, ← hγ3]
        exact s4
    refine ⟨cO hxc (by decide), gI hxc (by decide) rfl ⟨rco hxc, isLent_k hxc ⟨dn, hdn3, m102.trans hdn⟩ (fun w => told_k (fun w2 => absurd rfl w2) fun _ => step 0 ?_) fun w => told_k (fun _ => step 1 ?_) fun w2 => absurd w2 n10⟩⟩
    · rw [m102] at w; rw [if_pos w]
    · rw [m102] at w; rw [if_neg w]
end DAY
