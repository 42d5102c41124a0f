/-! the law: the model's other fields behind each call; a change on both sides -/
set_option maxRecDepth 100000
theorem hPush_add {hg : List (Nat → Int32)} {H H' : Nat → Int32} {g : Nat → Int32} (hl : hg.length ≤ 6) (h : ∀ j gg, hg[j]? = some gg → ∀ i, i < 223 → gg i = H (j * 223 + i)) (hp : hPush H H' hg.length g) : ∀ j gg, (hAdd hg g)[j]? = some gg → ∀ i, i < 223 → gg i = H' (j * 223 + i) := by
  intro j gg hj i hi
  unfold hAdd at hj
  by_cases e : hg.length = 6
  · rw [if_pos e] at hj
    have h5 : hg.tail.length = 5 := by rw [List.length_tail, e]
    by_cases hj5 : j < 5
    · rw [List.getElem?_append_left (by omega), List.getElem?_tail] at hj
      rw [(hp.2 e).1 j hj5 i hi]
      exact h (j + 1) gg hj i hi
    · have hlt := (List.getElem?_eq_some_iff.mp hj).1
      rw [List.length_append, List.length_singleton, h5] at hlt
      have : j = 5 := by omega
      subst this
      rw [List.getElem?_append_right (by omega), h5] at hj
      cases hj
      exact ((hp.2 e).2 i hi).symm
  · rw [if_neg e] at hj
    by_cases hjc : j < hg.length
    · rw [List.getElem?_append_left hjc] at hj
      rw [(hp.1 (by omega)).1 j hjc i hi]
      exact h j gg hj i hi
    · have hlt := (List.getElem?_eq_some_iff.mp hj).1
      rw [List.length_append, List.length_singleton] at hlt
      have : j = hg.length := by omega
      subst this
      rw [List.getElem?_append_right (Nat.le_refl _), Nat.sub_self] at hj
      cases hj
      exact ((hp.1 (by omega)).2 i hi).symm
section MSX
variable {M M' : mSt} {g' : Nat → Int32} {hg : List (Nat → Int32)} {sg : Option (Nat → Int32)} {T U : List Nat} {er wy dt : Int32}
theorem MS_fl (h : MS M hg sg T U er wy dt) {n : Int32} (hb : mBack M M' (mF M n).2) : MS M' hg sg T U er wy dt ∧ M'.2 14 = n ∧ ∀ i, i < 223 → M'.1 0 i = M.1 0 i := by
  obtain ⟨a1, a2, a3⟩ := hb
  exact ⟨MS_q h (fun k q1 q2 _ => a2 k q1 q2) fun k q1 q2 => by rw [a3]; simp [mF, upS, q1, q2], by rw [a3]; simp [mF, upS], a1⟩
theorem MS_rf (h : MS M hg sg T U er wy dt) {r d n : Int32} (hb : mBack M M' (mR M r d n).2) : MS M' hg sg T U er r d ∧ M'.2 14 = n ∧ ∀ i, i < 223 → M'.1 0 i = M.1 0 i := by
  obtain ⟨a1, a2, a3⟩ := hb
  obtain ⟨⟨b1, b2, b3⟩, b, ⟨c1, c2, c3⟩, ⟨d1, d2⟩, e1, e2, e3⟩ := h
  have k2 : ∀ k, k ≠ 14 → k ≠ 11 → k ≠ 9 → k ≠ 10 → M'.2 k = M.2 k := fun k q1 q2 q3 q4 => by rw [a3]; simp [mR, upS, q1, q2, q3, q4]
  refine ⟨⟨⟨(k2 3 (by decide) (by decide) (by decide) (by decide)).trans b1, b2, fun j gg hj i hi => by rw [a2 2 (by decide) (by decide)]; exact b3 j gg hj i hi⟩, ?_, ⟨(k2 7 (by decide) (by decide) (by decide) (by decide)).trans c1, c2, fun i c hc => by rw [a2 6 (by decide) (by decide)]; exact c3 i c hc⟩, ⟨(k2 13 (by decide) (by decide) (by decide) (by decide)).trans d1, fun i c hc => by rw [a2 12 (by decide) (by decide)]; exact d2 i c hc⟩, (k2 8 (by decide) (by decide) (by decide) (by decide)).trans e1, by rw [a3]; simp [mR, upS], by rw [a3]; simp [mR, upS]⟩, by rw [a3]; simp [mR, upS], a1⟩
  rw [k2 5 (by decide) (by decide) (by decide) (by decide), a2 4 (by decide) (by decide)]
  exact b
theorem MS_push (h : MS M hg sg T U er wy dt) (hp : mPush M M' g' hg.length) : MS M' (hAdd hg (M.1 0)) sg T U er wy dt ∧ M'.2 14 = 0 ∧ ∀ i, i < 223 → M'.1 0 i = g' i := by
  obtain ⟨a1, a2, a3, a4⟩ := hp
  obtain ⟨⟨b1, b2, b3⟩, b, ⟨c1, c2, c3⟩, ⟨d1, d2⟩, e1, e2, e3⟩ := h
  have k2 : ∀ k, k ≠ 14 → k ≠ 3 → M'.2 k = M.2 k := fun k q1 q2 => by rw [a4]; simp [upS, q1, q2]
  have hl := hAdd_len (g := M.1 0) b2
  refine ⟨⟨⟨by rw [a4, hl]; simp [upS], by rw [hl]; unfold hLen; by_cases e : hg.length = 6; (rw [if_pos e]; omega); (rw [if_neg e]; omega), hPush_add b2 b3 a3⟩, ?_, ⟨(k2 7 (by decide) (by decide)).trans c1, c2, fun i c hc => by rw [a2 6 (by decide) (by decide) (by decide)]; exact c3 i c hc⟩, ⟨(k2 13 (by decide) (by decide)).trans d1, fun i c hc => by rw [a2 12 (by decide) (by decide) (by decide)]; exact d2 i c hc⟩, (k2 8 (by decide) (by decide)).trans e1, (k2 9 (by decide) (by decide)).trans e2, (k2 10 (by decide) (by decide)).trans e3⟩, by rw [a4]; simp [upS], a1⟩
  rw [k2 5 (by decide) (by decide), a2 4 (by decide) (by decide) (by decide)]
  exact b
theorem MS_text (h : MS M hg sg T U er wy dt) {V : List Nat} : MS (upS (txM M V) 14 0) hg sg T V er wy dt := by
  obtain ⟨⟨b1, b2, b3⟩, b, ⟨c1, c2, c3⟩, ⟨d1, d2⟩, e1, e2, e3⟩ := h
  have k1 : ∀ k, k ≠ 12 → (upS (txM M V) 14 0).1 k = M.1 k := fun k q => by rw [upS_1]; exact txM_o q
  have k2 : ∀ k, k ≠ 14 → k ≠ 13 → (upS (txM M V) 14 0).2 k = M.2 k := fun k q1 q2 => by simp [upS, txM, q1, q2]
  refine ⟨⟨(k2 3 (by decide) (by decide)).trans b1, b2, fun j gg hj i hi => by rw [k1 2 (by decide)]; exact b3 j gg hj i hi⟩, ?_, ⟨(k2 7 (by decide) (by decide)).trans c1, c2, fun i c hc => by rw [k1 6 (by decide)]; exact c3 i c hc⟩, ⟨by simp [upS, txM], fun i c hc => ?_⟩, (k2 8 (by decide) (by decide)).trans e1, (k2 9 (by decide) (by decide)).trans e2, (k2 10 (by decide) (by decide)).trans e3⟩
  · rw [k2 5 (by decide) (by decide), k1 4 (by decide)]
    exact b
  · rw [upS_1, txM_12, hc]
    rfl
theorem MS_app (h : MS M hg sg T U er wy dt) {c : Nat} (hc : c ≤ 126) (hT : T.length < 60) : MS (upS (upS (upA M 6 T.length (vp_nar .char (Int32.ofNat c))) 7 (Int32.ofNat (T.length + 1))) 14 0) hg sg (T ++ [c]) U er wy dt := by
  obtain ⟨⟨b1, b2, b3⟩, b, ⟨c1, c2, c3⟩, ⟨d1, d2⟩, e1, e2, e3⟩ := h
  rw [nar_c (by omega)]
  have k1 : ∀ k, k ≠ 6 → (upS (upS (upA M 6 T.length (Int32.ofNat c)) 7 (Int32.ofNat (T.length + 1))) 14 0).1 k = M.1 k := fun k q => by funext i; simp [upS, upA, q]
  have k2 : ∀ k, k ≠ 14 → k ≠ 7 → (upS (upS (upA M 6 T.length (Int32.ofNat c)) 7 (Int32.ofNat (T.length + 1))) 14 0).2 k = M.2 k := fun k q1 q2 => by simp [upS, upA, q1, q2]
  refine ⟨⟨(k2 3 (by decide) (by decide)).trans b1, b2, fun j gg hj i hi => by rw [k1 2 (by decide)]; exact b3 j gg hj i hi⟩, ?_, ⟨by simp [upS, upA], by rw [List.length_append, List.length_singleton]; omega, fun i d hd => ?_⟩, ⟨(k2 13 (by decide) (by decide)).trans d1, fun i c hc => by rw [k1 12 (by decide)]; exact d2 i c hc⟩, (k2 8 (by decide) (by decide)).trans e1, (k2 9 (by decide) (by decide)).trans e2, (k2 10 (by decide) (by decide)).trans e3⟩
  · rw [k2 5 (by decide) (by decide), k1 4 (by decide)]
    exact b
  · by_cases hi : i < T.length
    · rw [List.getElem?_append_left hi] at hd
      have e : (upS (upS (upA M 6 T.length (Int32.ofNat c)) 7 (Int32.ofNat (T.length + 1))) 14 0).1 6 i = M.1 6 i := by
        have : i ≠ T.length := by omega
        simp [upS, upA, this]
      rw [e]
      exact c3 i d hd
    · have hlt := (List.getElem?_eq_some_iff.mp hd).1
      rw [List.length_append, List.length_singleton] at hlt
      have : i = T.length := by omega
      subst this
      rw [List.getElem?_append_right (Nat.le_refl _), Nat.sub_self] at hd
      cases hd
      exact ⟨by simp [upS, upA], by omega⟩
theorem MS_undo {g0 : Nat → Int32} (h : MS M (hg ++ [g0]) sg T U er wy dt) (hm : mSame M M' (fun i => M.1 2 (((hg ++ [g0]).length - 1) * 223 + i)) (upS (upS M 3 (Int32.ofNat ((hg ++ [g0]).length - 1))) 14 0).2) : MS M' hg sg T U er wy dt ∧ M'.2 14 = 0 ∧ ∀ i, i < 223 → M'.1 0 i = g0 i := by
  obtain ⟨a1, a2, a3⟩ := hm
  obtain ⟨⟨b1, b2, b3⟩, b, ⟨c1, c2, c3⟩, ⟨d1, d2⟩, e1, e2, e3⟩ := h
  have hl : (hg ++ [g0]).length - 1 = hg.length := by rw [List.length_append, List.length_singleton]; omega
  have hl2 : (hg ++ [g0]).length = hg.length + 1 := by rw [List.length_append, List.length_singleton]
  rw [hl] at a1 a3
  have k2 : ∀ k, k ≠ 14 → k ≠ 3 → M'.2 k = M.2 k := fun k q1 q2 => by rw [a3]; simp [upS, q1, q2]
  refine ⟨⟨⟨by rw [a3]; simp [upS], by omega, fun j gg hj i hi => ?_⟩, ?_, ⟨(k2 7 (by decide) (by decide)).trans c1, c2, fun i c hc => by rw [a2 6 (by decide)]; exact c3 i c hc⟩, ⟨(k2 13 (by decide) (by decide)).trans d1, fun i c hc => by rw [a2 12 (by decide)]; exact d2 i c hc⟩, (k2 8 (by decide) (by decide)).trans e1, (k2 9 (by decide) (by decide)).trans e2, (k2 10 (by decide) (by decide)).trans e3⟩, by rw [a3]; simp [upS], fun i hi => ?_⟩
  · rw [a2 2 (by decide)]
    have hlt := (List.getElem?_eq_some_iff.mp hj).1
    exact b3 j gg (by rw [List.getElem?_append_left hlt]; exact hj) i hi
  · rw [k2 5 (by decide) (by decide), a2 4 (by decide)]
    exact b
  · rw [a1 i hi]
    exact (b3 hg.length g0 (by rw [List.getElem?_append_right (Nat.le_refl _), Nat.sub_self]; rfl) i hi).symm
theorem MS_save (h : MS M hg sg T U er wy dt) (a1 : ∀ k, k ≠ 4 → M'.1 k = M.1 k) (a2 : ∀ i, i < 223 → M'.1 4 i = M.1 0 i) (a3 : M'.2 = (upS (upS M 5 1) 14 0).2) : MS M' hg (some (M.1 0)) T U er wy dt := by
  obtain ⟨⟨b1, b2, b3⟩, b, ⟨c1, c2, c3⟩, ⟨d1, d2⟩, e1, e2, e3⟩ := h
  have k2 : ∀ k, k ≠ 14 → k ≠ 5 → M'.2 k = M.2 k := fun k q1 q2 => by rw [a3]; simp [upS, q1, q2]
  exact ⟨⟨(k2 3 (by decide) (by decide)).trans b1, b2, fun j gg hj i hi => by rw [a1 2 (by decide)]; exact b3 j gg hj i hi⟩, Or.inr ⟨_, rfl, by rw [a3]; simp [upS], fun i hi => (a2 i hi).symm⟩, ⟨(k2 7 (by decide) (by decide)).trans c1, c2, fun i c hc => by rw [a1 6 (by decide)]; exact c3 i c hc⟩, ⟨(k2 13 (by decide) (by decide)).trans d1, fun i c hc => by rw [a1 12 (by decide)]; exact d2 i c hc⟩, (k2 8 (by decide) (by decide)).trans e1, (k2 9 (by decide) (by decide)).trans e2, (k2 10 (by decide) (by decide)).trans e3⟩
theorem MS_restore {g1 : Nat → Int32} (h : MS M hg (some g1) T U er wy dt) (hm : mSame M M' (M.1 4) (upS (upS M 3 0) 14 0).2) : MS M' [] (some g1) T U er wy dt ∧ M'.2 14 = 0 ∧ ∀ i, i < 223 → M'.1 0 i = g1 i := by
  obtain ⟨a1, a2, a3⟩ := hm
  obtain ⟨⟨b1, b2, b3⟩, b, ⟨c1, c2, c3⟩, ⟨d1, d2⟩, e1, e2, e3⟩ := h
  have k2 : ∀ k, k ≠ 14 → k ≠ 3 → M'.2 k = M.2 k := fun k q1 q2 => by rw [a3]; simp [upS, q1, q2]
  rcases b with ⟨w, -⟩ | ⟨gg, w, b5, b4⟩
  · exact nomatch w
  · injection w with w
    subst w
    exact ⟨⟨⟨by rw [a3]; simp [upS], by simp, fun j gg hj => by simp at hj⟩, Or.inr ⟨_, rfl, by rw [k2 5 (by decide) (by decide)]; exact b5, fun i hi => by rw [a2 4 (by decide)]; exact b4 i hi⟩, ⟨(k2 7 (by decide) (by decide)).trans c1, c2, fun i c hc => by rw [a2 6 (by decide)]; exact c3 i c hc⟩, ⟨(k2 13 (by decide) (by decide)).trans d1, fun i c hc => by rw [a2 12 (by decide)]; exact d2 i c hc⟩, (k2 8 (by decide) (by decide)).trans e1, (k2 9 (by decide) (by decide)).trans e2, (k2 10 (by decide) (by decide)).trans e3⟩, by rw [a3]; simp [upS], fun i hi => (a1 i hi).trans (b4 i hi).symm⟩
/-- behind a reading -/
theorem MS_rd (h : MS M hg sg T U er wy dt) (hr : rdM M M') {er' wy' dt' : Int32} (h2 : M'.1 2 = M.1 2) (h3 : M'.2 3 = M.2 3) (h8 : M'.2 8 = er') (h9 : M'.2 9 = wy') (h10 : M'.2 10 = dt') : MS M' hg sg [] U er' wy' dt' := by
  obtain ⟨a1, a7, a5, a13⟩ := hr
  obtain ⟨⟨b1, b2, b3⟩, b, -, ⟨d1, d2⟩, -⟩ := h
  refine ⟨⟨h3.trans b1, b2, fun j gg hj i hi => by rw [h2]; exact b3 j gg hj i hi⟩, ?_, ⟨a7, by simp, fun i c hc => by simp at hc⟩, ⟨a13.trans d1, fun i c hc => by rw [a1 12 (by decide) (by decide) (by decide) (by decide)]; exact d2 i c hc⟩, h8, h9, h10⟩
  rw [a5, a1 4 (by decide) (by decide) (by decide) (by decide)]
  exact b
theorem MS_rdP (h : MS M hg sg T U er wy dt) (hr : rdM M M') (hp : hPush (M.1 2) (M'.1 2) hg.length (M.1 0)) (h3 : M'.2 3 = Int32.ofNat (hLen hg.length)) (h8 : M'.2 8 = M.2 8) (h9 : M'.2 9 = M.2 9) (h10 : M'.2 10 = M.2 10) : MS M' (hAdd hg (M.1 0)) sg [] U er wy dt := by
  obtain ⟨a1, a7, a5, a13⟩ := hr
  obtain ⟨⟨b1, b2, b3⟩, b, -, ⟨d1, d2⟩, e1, e2, e3⟩ := h
  have hl := hAdd_len (g := M.1 0) b2
  refine ⟨⟨by rw [h3, hl], by rw [hl]; unfold hLen; by_cases e : hg.length = 6; (rw [if_pos e]; omega); (rw [if_neg e]; omega), hPush_add b2 b3 hp⟩, ?_, ⟨a7, by simp, fun i c hc => by simp at hc⟩, ⟨a13.trans d1, fun i c hc => by rw [a1 12 (by decide) (by decide) (by decide) (by decide)]; exact d2 i c hc⟩, h8.trans e1, h9.trans e2, h10.trans e3⟩
  rw [a5, a1 4 (by decide) (by decide) (by decide) (by decide)]
  exact b
end MSX
/-- the answer compared with the model's -/
abbrev QI (G : gE) (PX : Nat → Nat → hSt → Prop) (P : Int32 → hSt → Prop) (NX : hSt → Prop) (a oL : Nat) (k : Int32) : Int32 → hSt → Prop := fun v z => rcv z (some a) 4 ∧ wX5_thrown G (fun x26 z25 => ((x26 = k → ((¬ k = 0 → NX z25) ∧ (k = 0 → alL z25 (some oL) 0 (fun x27 => (((lg_cmp x27 ((v : Int32).toInt64)) = 0 → NX z25) ∧ (¬ (lg_cmp x27 ((v : Int32).toInt64)) = 0 → P 0 z25)))))) ∧ (¬ x26 = k → P 0 z25))) PX (some a) z
abbrev QB (G : gE) (PX : Nat → Nat → hSt → Prop) (P : Int32 → hSt → Prop) (NX : hSt → Prop) (a oL : Nat) (k : Int32) : Int32 → hSt → Prop := fun v z => rcv z (some a) 4 ∧ wX5_thrown G (fun x91 z90 => ((x91 = k → ((¬ k = 0 → NX z90) ∧ (k = 0 → alL z90 (some oL) 0 (fun x92 => ((v = 0 → (((lg_cmp x92 0) = 0 → NX z90) ∧ (¬ (lg_cmp x92 0) = 0 → P 0 z90))) ∧ (¬ v = 0 → (((lg_cmp x92 1) = 0 → NX z90) ∧ (¬ (lg_cmp x92 1) = 0 → P 0 z90)))))))) ∧ (¬ x91 = k → P 0 z90))) PX (some a) z
section MCH
variable {G : gE} {τ : hSt} {x a oL oD sc L r N : Nat} {A : Nat → Nat} {xs : Nat → Int32} {M : mSt} {hg : List (Nat → Int32)} {sg : Option (Nat → Int32)} {T U : List Nat} {er wy dt : Int32} {PX : Nat → Nat → hSt → Prop} {P : Int32 → hSt → Prop} {NX : hSt → Prop}
theorem mch_f {n : Int32} (hM : MD G τ x a oL oD sc L A xs r N M (M.1 0) hg sg T U er wy dt) (hMS : MS M hg sg T U er wy dt) (hn : n ≠ 0) (hNX : ∀ z, RS G z x a oL oD sc L A xs (r + 1) → NX z) : mFl (QI G PX P NX a oL n) τ a A M n := fun M' hb => by
  obtain ⟨h1, h2, h3⟩ := MS_fl hMS hb
  exact tail_i hM (fun w => absurd w hn) h2 (hNX _ (md_end hM h3 h1))
theorem mch_fb {n : Int32} (hM : MD G τ x a oL oD sc L A xs r N M (M.1 0) hg sg T U er wy dt) (hMS : MS M hg sg T U er wy dt) (hn : n ≠ 0) (hNX : ∀ z, RS G z x a oL oD sc L A xs (r + 1) → NX z) : mFl (QB G PX P NX a oL n) τ a A M n := fun M' hb => by
  obtain ⟨h1, h2, h3⟩ := MS_fl hMS hb
  exact tail_b (Or.inl rfl) hM (fun w => absurd w hn) h2 (hNX _ (md_end hM h3 h1))
theorem mch_r {n rs d one ot : Int32} {w k t : Nat} (hM : MD G τ x a oL oD sc L A xs r N M (M.1 0) hg sg T U er rs d) (hMS : MS M hg sg T U er wy dt) (hn : n ≠ 0) (hNX : ∀ z, RS G z x a oL oD sc L A xs (r + 1) → NX z) (ho : cDo (M.1 0) w one k t ot (.inl (rs, d))) {o : oR} (ho' : cDo (M.1 0) w one k t ot o) : mA (QI G PX P NX a oL n) τ a A M hg.length n o := by
  have e := cDo_un ho ho'
  subst e
  intro M' hb
  obtain ⟨h1, h2, h3⟩ := MS_rf hMS hb
  exact tail_i hM (fun w => absurd w hn) h2 (hNX _ (md_end hM h3 h1))
theorem mch_rb {n rs d one ot : Int32} {w k t : Nat} (hM : MD G τ x a oL oD sc L A xs r N M (M.1 0) hg sg T U er rs d) (hMS : MS M hg sg T U er wy dt) (hn : n ≠ 0) (hNX : ∀ z, RS G z x a oL oD sc L A xs (r + 1) → NX z) (ho : cDo (M.1 0) w one k t ot (.inl (rs, d))) {o : oR} (ho' : cDo (M.1 0) w one k t ot o) : mA (QB G PX P NX a oL n) τ a A M hg.length n o := by
  have e := cDo_un ho ho'
  subst e
  intro M' hb
  obtain ⟨h1, h2, h3⟩ := MS_rf hMS hb
  exact tail_b (Or.inl rfl) hM (fun w => absurd w hn) h2 (hNX _ (md_end hM h3 h1))
theorem mch_d {n v one ot : Int32} {w k t : Nat} {g' : Nat → Int32} {f : Nat → Int64} (hM : MD G τ x a oL oD sc L A xs r N M g' (hAdd hg (M.1 0)) sg T U er wy dt) (hMS : MS M hg sg T U er wy dt) (hf : τ.1 oL = some (.inl (1, 1, .inr (.inl f)))) (hv : f 0 = (v : Int32).toInt64) (hNX : ∀ z, RS G z x a oL oD sc L A xs (r + 1) → NX z) (ho : cDo (M.1 0) w one k t ot (.inr (v, g'))) {o : oR} (ho' : cDo (M.1 0) w one k t ot o) : mA (QI G PX P NX a oL 0) τ a A M hg.length n o := by
  have e := cDo_un ho ho'
  subst e
  intro M' hb
  obtain ⟨h1, h2, h3⟩ := MS_push hMS hb
  exact tail_i hM (fun _ => ⟨f, hf, hv⟩) h2 (hNX _ (md_end hM h3 h1))
theorem mch_db {n v one ot : Int32} {w k t : Nat} {g' : Nat → Int32} {f : Nat → Int64} (hv01 : v = 0 ∨ v = 1) (hM : MD G τ x a oL oD sc L A xs r N M g' (hAdd hg (M.1 0)) sg T U er wy dt) (hMS : MS M hg sg T U er wy dt) (hf : τ.1 oL = some (.inl (1, 1, .inr (.inl f)))) (hv : f 0 = (v : Int32).toInt64) (hNX : ∀ z, RS G z x a oL oD sc L A xs (r + 1) → NX z) (ho : cDo (M.1 0) w one k t ot (.inr (v, g'))) {o : oR} (ho' : cDo (M.1 0) w one k t ot o) : mA (QB G PX P NX a oL 0) τ a A M hg.length n o := by
  have e := cDo_un ho ho'
  subst e
  intro M' hb
  obtain ⟨h1, h2, h3⟩ := MS_push hMS hb
  exact tail_b hv01 hM (fun _ => ⟨f, hf, hv⟩) h2 (hNX _ (md_end hM h3 h1))
end MCH
