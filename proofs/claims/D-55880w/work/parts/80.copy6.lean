/-! the ledger's copy -/
set_option maxRecDepth 100000
section CP6
variable {G : gE} {σ : hSt} {PX : Nat → Nat → hSt → Prop} {P : Option Nat → hSt → Prop} {n0 : Nat} {o A : Nat → Nat} {md : Int32} {es : List eT} {g : Nat → Int32} {a m d as ap c0 : Nat} {z0 : hSt}
theorem keys_nd (h : LG G σ n0 o A md es g) {i j : Nat} {q q' : eT} (hi : es[i]? = some q) (hj : es[j]? = some q') (e : q.2.1 = q'.2.1) : i = j := by
  have hnd : (es.map fun q => q.2.1).Nodup := by
    obtain ⟨t, th, -, -, -, h4, -⟩ := h.M
    exact h4
  have hl := (List.getElem?_eq_some_iff.mp hi).1
  exact (List.getElem?_inj (by simp; omega) hnd).mp (by rw [List.getElem?_map, List.getElem?_map, hi, hj]; simp [e])
/-- the excuses' copies -/
theorem cpX_k {it c1 : Nat} {z1 : hSt} {v4 v5 v6 v7 v8 : Value} (h : LG G σ n0 o A md es g) (e0 : ev G W0 c0 σ z0) (hM : LM G z0 (fun x => x = m ∨ z0.2.1 ≤ x) m 0 []) (hmσ : σ.2.1 ≤ m) (hL : z0.1 a = some (.inr (1, [va_rf (some m), va_rf (some d), va_rf (some as), va_rf (some ap), v4, v5, v6, v7, v8]))) (e1 : ev G W0 c1 z0 z1) (hit : z0.2.1 ≤ it) (hi : IT z1 it (A 1) md es) (hb : bd G σ (c0 + c1 + 600))
    (hK : ∀ z md' es', ev G W0 (c0 + c1 + 33 * 12) σ z → ev G (Wm fun x => x = m ∨ z0.2.1 ≤ x) (c1 + 33 * 12) z0 z → LM G z (fun x => x = m ∨ z0.2.1 ≤ x) m md' es' → es'.length = cnt g → lgX z σ.2.1 es' g → (es'.map fun q => q.2.2.2).Nodup → gtR z (some a) [1] 1 (fun x11 => gtR z (some (A 0)) [1] 1 (fun x12 => (rcv z x11 12 ∧ wJ1_putAll G (fun z13 => lpI (fun (K72 : (Option Nat × Option Nat × Int32 × hSt) → Prop) (y : (Option Nat × Option Nat × Int32 × hSt)) => wX2_copyb72 G P PX K72 (y.1) (y.2.1) (y.2.2.1) (y.2.2.2)) (some (A 0), some a, 0, z13)) PX x11 x12 z)))) : lpI (fun (K21 : (Option Nat × Option Nat × Option Nat × hSt) → Prop) (y : (Option Nat × Option Nat × Option Nat × hSt)) => wX2_copyb21 G P PX K21 (y.1) (y.2.1) (y.2.2.1) (y.2.2.2)) (some (A 0), some a, some it, z1) := by
  have h12 := h.le12
  have hlen := h.len
  have e01 : ev G W0 (c0 + c1) σ z1 := e0.tr e1
  have hz0 := e0.le
  refine each_k (fun (_ : Unit) it z => (some (A 0), some a, it, z)) (b0 := ()) (fun K b it z h => by dsimp only; unfold wX2_copyb21; exact h) (fun e _ z => ev G (Wm fun x => x = m ∨ z0.2.1 ≤ x) (c1 + 33 * e) z0 z ∧ ∃ md' es', LM G z (fun x => x = m ∨ z0.2.1 ≤ x) m md' es' ∧ es'.length = e ∧ lgX z σ.2.1 es' g ∧ (es'.map fun q => q.2.2.2).Nodup ∧ ∀ q' ∈ es', ∃ i q, i < e ∧ es[i]? = some q ∧ q'.2.1 = q.2.1) 33 h e01 (Nat.le_trans hz0 hit) hi ⟨e1.up0, 0, [], hM.ev e1 W0_k (fun _ _ _ _ w => w), rfl, fun e q w => by simp at w, List.nodup_nil, fun q w => nomatch w⟩ (fun e b z z' hJ hw => ?_) (fun e q x b z hq hx hJ ez hz _ K hK' => ?_) fun b z hJ ez hz => ?_
  · obtain ⟨f1, md', es', f2, f3, f4, f5, f6⟩ := hJ
    have hle : es'.length ≤ 12 ∨ True := Or.inr trivial
    refine ⟨(f1.fr hw fun b k w => by rw [w.1]; exact hit), md', es', f2.ev hw (W1_k (by omega)) (fun a k _ hk w => by have := w.2; unfold mkd at hk; omega), f3, ?_, f5, f6⟩
    intro i q hq
    obtain ⟨w1, x, w2, w3, w4⟩ := f4 i q hq
    exact ⟨w1, x, w2, w3, hw.o w4 (fun w => by have := w.2; omega) (by decide) (by decide)⟩
  · obtain ⟨f1, md', es', f2, f3, f4, f5, f6⟩ := hJ
    have hel := (List.getElem?_eq_some_iff.mp hq).1
    obtain ⟨q', hq', -, hxc⟩ := hz.xcell hq hx
    rw [hq] at hq'
    cases hq'
    have hLz := f1.o hL (fun w => by have := w.2; unfold mkd at this; omega) (by decide) (by decide)
    refine ⟨cO hxc (by decide), gR hLz (by decide) rfl (gR hxc (by decide) rfl ⟨rco hxc, xcopy_k ez.t (ez.rm hb (by omega)) hxc fun τ b e2 hb1 hbc => ?_⟩)⟩
    have hkey : KY z 5 q.2.2.1 q.2.1 := by
      obtain ⟨t, th, -, -, -, -, h5, -⟩ := hz.M
      exact (h5 q (List.mem_of_getElem? hq)).2
    have f2' := f2.ev e2 W0_k fun _ _ _ _ w => w
    have hz0z := f1.le
    refine ⟨f2'.rc, lput_k e2.t f2' (hkey.ev e2 W0_k) (fun q' hq' w => ?_) (by omega) (fun x hx1 => Or.inr (by have := e2.le; omega)) ((ez.tr e2).rm hb (by omega)) fun τ2 a2 e3 hM3 => hK' () τ2 _ ((e2.up0.tr e3).le' (by omega)) (fun x k w => ⟨?_, ?_⟩) ⟨(f1.tr (e2.up0.tr e3)).le' (by omega), md' + 1, _, hM3, ?_, ?_, ?_, ?_⟩⟩
    · obtain ⟨i, q2, w1, w2, w3⟩ := f6 q' hq'
      have := keys_nd h w2 hq (w3.symm.trans w)
      omega
    · rcases w.1 with rfl | w2
      · exact hmσ
      · exact Nat.le_trans hz0 w2
    · have := w.2; unfold mkd at this; omega
    · rw [List.length_append, f3]; rfl
    · have he23 : ev G (Wm fun x => x = m ∨ z0.2.1 ≤ x) 33 z τ2 := (e2.up0.tr e3).le' (by omega)
      intro i q' hq'
      rcases Nat.lt_or_ge i es'.length with w | w
      · rw [List.getElem?_append_left w] at hq'
        obtain ⟨w1, x', w2, w3, w4⟩ := f4 i q' hq'
        exact ⟨w1, x', w2, w3, he23.o w4 (fun w => by have := w.2; unfold mkd at this; omega) (by decide) (by decide)⟩
      · rw [List.getElem?_append_right w] at hq'
        have hi0 : i - es'.length = 0 := by
          rcases Nat.eq_zero_or_pos (i - es'.length) with w2 | w2
          · exact w2
          · rw [List.getElem?_eq_none (by simp; omega)] at hq'
            exact nomatch hq'
        rw [hi0] at hq'
        have hie : i = e := by omega
        subst hie
        injection hq' with hq'
        subst hq'
        exact ⟨(h.exc hq).1, b, rfl, by have := ez.le; omega, e3.o hbc (fun w => by have := w.2; unfold mkd at this; omega) (by decide) (by decide)⟩
    · rw [List.map_append, List.nodup_append]
      refine ⟨f5, by simp, fun x hx1 y hy1 => ?_⟩
      rw [List.mem_map] at hx1
      obtain ⟨q', hq', rfl⟩ := hx1
      obtain ⟨i, hil, hi⟩ := List.getElem_of_mem hq'
      obtain ⟨-, x', w2, -, w4⟩ := f4 i q' (by rw [List.getElem?_eq_getElem hil, hi])
      have hlt := ez.t.lt w4
      have : y = some b := by simpa using hy1
      rw [w2, this]
      intro w
      injection w with w
      omega
    · intro q' hq'
      rw [List.mem_append, List.mem_singleton] at hq'
      rcases hq' with hq' | rfl
      · obtain ⟨i, q2, w1, w2, w3⟩ := f6 q' hq'
        exact ⟨i, q2, by omega, w2, w3⟩
      · exact ⟨e, q, by omega, hq, rfl⟩
  · obtain ⟨f1, md', es', f2, f3, f4, f5, f6⟩ := hJ
    exact hK z md' es' (ez.le' (by omega)) (f1.le' (by omega)) f2 (by omega) f4 f5
theorem lgD.res {D : Nat → Prop} {m : Nat} (hS : SI G σ) (h : lgD G σ D m g) : lgD G σ (fun a => D a ∧ a < σ.2.1) m g := by
  obtain ⟨pr, N, E, h1, h2⟩ := h
  exact ⟨pr, N, E, h1.res hS, h2⟩
theorem copy_k (hS : SI G σ) (h : LG G σ n0 o A md es g) (hb : bd G σ 20000) (hP : ∀ τ o' A' md' es', ev G W0 10700 σ τ → LG G τ σ.2.1 o' A' md' es' g → P (some (A' 0)) τ) : wX2_copy G P PX (some (A 0)) σ := by
  unfold wX2_copy wX2_copyb0
  refine nO hS (hb.mono (by omega)) (fun w => by omega) fun a τ n hX e1 => ⟨⟨a, rfl⟩, linit_k e1.t n.2.1 (e1.rm hb (by omega)) fun z0 m d as ap e2 hm hd has hap hL hmm hdd hasc hapc hXs hXp => ?_⟩
  have ha : σ.2.1 ≤ a := by rw [n.1]; exact Nat.le_refl _
  have e0 : ev G W0 50 σ z0 := (e1.f1 e2 ha).le' (by omega)
  have hz0 := h.ev e0 W0_g
  have hmlt : m < z0.2.1 := by
    obtain ⟨-, k0, k1, k3, h1⟩ := hmm
    exact e2.t.lt h1
  have hdlt : d < z0.2.1 := by
    obtain ⟨-, k0, k1, k3, h1⟩ := hdd
    exact e2.t.lt h1
  have hmd : m ≠ d := by
    obtain ⟨-, k0, k1, k3, h1⟩ := hmm
    obtain ⟨-, j0, j1, j3, h2⟩ := hdd
    rintro rfl
    rw [h1] at h2
    injection h2 with w; injection w with w; injection w with w1 w2
    omega
  have hσ1 := e1.le
  refine gR hz0.L (by decide) rfl (iter_k e2.t hz0.M (e0.rm hb (by omega)) fun z1 it e3 hit hi => ?_)
  refine cpX_k h e0 (hmm.LM (Or.inl rfl)) (by omega) hL e3 hit hi (hb.mono (by omega)) fun z md' es' f1 f2 hM' hlen' hX' hnd' => ?_
  have hz := h.ev f1 W0_g
  have hLz := f2.o hL (fun w => by have := w.2; unfold mkd at this; omega) (by decide) (by decide)
  have hdz : mm z d 12 none 0 0 0 [] := hdd.ev f2 fun w => by
    rcases w.1 with w | w
    · exact hmd w.symm
    · omega
  have hz0z := f2.le
  have hσz := f1.le
  have hdog := ((h.2.2.2.2.2.2.2.2.1.res hS).ev f1 W0_k (fun _ _ _ _ w => w) fun _ _ _ => rfl)
  obtain ⟨-, j0, j1, j3, hdc⟩ := id hdz
  refine gR hLz (by decide) rfl (gR hz.L (by decide) rfl ⟨rco hdc, dogs_k (Dn := fun x => x = d ∨ z.2.1 ≤ x) f1.t hdog hdz (Or.inl rfl) (fun x hx => Or.inr hx) (fun x hx _ w => ?_) (f1.rm hb (by omega)) fun z2 f3 hdog2 => ?_⟩)
  · rcases w with rfl | w
    · have := hx.2; omega
    · have := hx.2; omega
  have f3' : ev G W0 1700 σ z2 ∨ True := Or.inr trivial
  have g2 : ev G W0 (50 + 9 + 33 * 12 + 1700) σ z2 := f1.trans f3 fun x k hx w => by
    rcases w.1 with rfl | w <;> omega
  have hz2 := f3.le
  have hL2 := f3.o hLz (fun w => by have := w.2; unfold mkd at this; omega) (by decide) (by decide)
  have nw2 : ∀ x, x ≠ d → x < z.2.1 → ∀ k, ¬ Wm (fun x => x = d ∨ z.2.1 ≤ x) x k := fun x h1 h2 k w => by
    rcases w.1 with w | w
    · exact h1 w
    · omega
  have hM2 := (hM'.res f1.t).ev f3 (Wm_k _) fun x k hx _ => nw2 x (by
    rcases hx.1 with rfl | w
    · exact hmd
    · omega) hx.2 k
  have hX2 : lgX z2 σ.2.1 es' g := fun i q hq => by
    obtain ⟨w1, x', w2, w3, w4⟩ := hX' i q hq
    exact ⟨w1, x', w2, w3, f3.o w4 (fun w => by have := w.2; unfold mkd at this; omega) (by decide) (by decide)⟩
  have hasz := (f2.a hasc fun w => by have := w.2; unfold mkd at this; omega)
  have has2 := f3.a hasz fun w => by have := w.2; unfold mkd at this; omega
  have hapz := (f2.a hapc fun w => by have := w.2; unfold mkd at this; omega)
  have hap2 := f3.a hapz fun w => by have := w.2; unfold mkd at this; omega
  refine cpS_k g2 h hL2 has2 (by omega) hXs (hb.mono (by omega)) fun z3 sa ha' ma bs f g3 g23 hf3 hsc hb0 hb3 => ?_
  have hL3 := g23.o hL2 (fun w => by have := w.2; omega) (by decide) (by decide)
  have hap3 := g23.a hap2 fun w => by have := w.2; omega
  refine cpP_k g3 h hL3 hap3 (by omega) hXp (hb.mono (by omega)) fun z4 pa fp g4 g34 hf4 hpc hpm => ?_
  have h4 := h.ev g4 W0_g
  have hL4 := g34.o hL3 (fun w => by have := w.2; omega) (by decide) (by decide)
  have hne : A 0 ≠ a := fun w => by
    have := hS.lt h.L
    omega
  refine gI h4.L (by decide) rfl (pO g4.t hL4 (by decide) (by simp) (by decide) fun z5 w5 e5 => ?_)
  have hA5 := e5.o h4.L (fun w => hne w.1) (by decide) (by decide)
  refine gI hA5 (by decide) rfl (pO e5.t w5.1 (by decide) (by simp) (by decide) fun z6 w6 e6 => ?_)
  have hA6 := e6.o hA5 (fun w => hne w.1) (by decide) (by decide)
  refine gI hA6 (by decide) rfl (pO e6.t w6.1 (by decide) (by simp) (by decide) fun z7 w7 e7 => ?_)
  have hA7 := e7.o hA6 (fun w => hne w.1) (by decide) (by decide)
  refine gI hA7 (by decide) rfl (pO e7.t w7.1 (by decide) (by simp) (by decide) fun z8 w8 e8 => ?_)
  have hA8 := e8.o hA7 (fun w => hne w.1) (by decide) (by decide)
  refine gI hA8 (by decide) rfl (pO e8.t w8.1 (by decide) (by simp) (by decide) fun z9 w9 e9 => ?_)
  have e59 := e5.tr (e6.tr (e7.tr (e8.tr e9)))
  have g9 : ev G W0 10700 σ z9 := (g4.f1 e59 ha).le' (by omega)
  -- from z2 on only the arrays and the ledger's own cell change
  have k29 : ev G (fun b k => k = 107 ∨ k = 108 ∨ k = 1) 8500 z2 z9 := by
    have s1 : ev G (fun b k => k = 107 ∨ k = 108 ∨ k = 1) 8400 z2 z3 := g23.mono (fun b k _ w => Or.inl w.2) (Nat.le_refl _)
    have s2 : ev G (fun b k => k = 107 ∨ k = 108 ∨ k = 1) 24 z3 z4 := g34.mono (fun b k _ w => Or.inr (Or.inl w.2)) (Nat.le_refl _)
    have s3 : ev G (fun b k => k = 107 ∨ k = 108 ∨ k = 1) 0 z4 z9 := e59.mono (fun b k _ w => Or.inr (Or.inr w.2)) (by omega)
    exact ((s1.tr s2).tr s3).le' (by omega)
  have hkk : Wk (fun b k => k = 107 ∨ k = 108 ∨ k = 1) := fun b => ⟨by omega, by omega, by omega⟩
  have hmk : ∀ k, mkd k → ¬ (k = 107 ∨ k = 108 ∨ k = 1) := fun k hk => by unfold mkd at hk; omega
  have k39 : ev G (fun b k => k = 108 ∨ k = 1) 24 z3 z9 := by
    have s2 : ev G (fun b k => k = 108 ∨ k = 1) 24 z3 z4 := g34.mono (fun b k _ w => Or.inl w.2) (Nat.le_refl _)
    have s3 : ev G (fun b k => k = 108 ∨ k = 1) 0 z4 z9 := e59.mono (fun b k _ w => Or.inr w.2) (by omega)
    exact (s2.tr s3).le' (by omega)
  have hz23 := g23.le
  have hz34 := g34.le
  obtain ⟨o', A', hA', hLG⟩ := mkLG (G := G) (τ := z9) (n0 := σ.2.1) (a := a) (m := m) (d := d) (as := as) (ap := ap) (lx := z0.2.1) (hx := z.2.1) (hd := z2.2.1) (sa := sa) (ha := ha') (ma := ma) (bs := bs) (pa := pa) (f := f) (fp := fp) (md := md') (es := es') (g := g) h.ok w9.1 (hM2.ev k29 hkk fun x k _ hk => hmk k hk) hlen' (fun i q hq => by
      obtain ⟨w1, x', w2, w3, w4⟩ := hX2 i q hq
      exact ⟨w1, x', w2, w3, k29.o w4 (by omega) (by decide) (by decide)⟩) hnd' ((hdog2.res f3.t).ev k29 hkk (fun x k _ hk => hmk k hk) fun _ _ _ => rfl) (k39.a hf3 (by omega)) (e59.a hf4 fun w => by have := w.2; omega) (fun s hs => (hsc s hs).ev k39 (fun b => ⟨by omega, by omega, by omega⟩) fun b _ _ => ⟨by omega, by omega, fun k hk w => by unfold mkd at hk; omega⟩) hb0 (fun p hp => (hpc p hp).ev e59 fun w => by have := w.2; omega) hpm ⟨ha, by omega, by omega, by omega, by omega⟩ ⟨hmlt, hdlt, hz0z, hz2⟩
  rw [← hA']
  exact hP z9 o' A' md' es' g9 hLG
end CP6
