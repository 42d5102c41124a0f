/-! the law: what stands between two calls; both sides agree on every change -/
set_option maxRecDepth 100000
-- ===== one answer for one order =====
theorem no_F {g : Nat → Int32} {k t : Int32} {e : Nat} (h : noF g k t) (h' : isF g k t e) : False := h e h'.1 ⟨h'.2.1, h'.2.2.1⟩
section UN
variable {g : Nat → Int32} {k t : Int32} {o1 o2 : oR}
theorem sEnter_un {p q : Int32} (h1 : sEnter g p k t q o1) (h2 : sEnter g p k t q o2) : o1 = o2 := by
  rcases h1 with ⟨a, rfl⟩ | ⟨a, e, f1, rfl⟩ | ⟨a, n1, rfl⟩ <;> rcases h2 with ⟨b, rfl⟩ | ⟨b, e', f2, rfl⟩ | ⟨b, n2, rfl⟩
  · rfl
  · exact absurd a b
  · exact absurd a b
  · exact absurd b a
  · rw [f_un f1 f2]
  · exact (no_F n2 f1).elim
  · exact absurd b a
  · exact (no_F n1 f2).elim
  · rfl
theorem sStrike_un (h1 : sStrike g k t o1) (h2 : sStrike g k t o2) : o1 = o2 := by
  rcases h1 with ⟨n1, rfl⟩ | ⟨e, f1, h1⟩ <;> rcases h2 with ⟨n2, rfl⟩ | ⟨e', f2, h2⟩
  · rfl
  · exact (no_F n1 f2).elim
  · exact (no_F n2 f1).elim
  · cases f_un f1 f2
    rcases h1 with ⟨a, rfl⟩ | ⟨a, rfl⟩ <;> rcases h2 with ⟨b, rfl⟩ | ⟨b, rfl⟩ <;> first | rfl | exact absurd a b | exact absurd b a
theorem sBack_un (h1 : sBack g k t o1) (h2 : sBack g k t o2) : o1 = o2 := by
  rcases h1 with ⟨n1, rfl⟩ | ⟨e, f1, h1⟩ <;> rcases h2 with ⟨n2, rfl⟩ | ⟨e', f2, h2⟩
  · rfl
  · exact (no_F n1 f2).elim
  · exact (no_F n2 f1).elim
  · cases f_un f1 f2
    rcases h1 with ⟨a, rfl⟩ | ⟨a, rfl⟩ <;> rcases h2 with ⟨b, rfl⟩ | ⟨b, rfl⟩ <;> first | rfl | exact absurd a b | exact absurd b a
theorem sLend_un {to : Nat} {fee : Int32} (h1 : sLend g k t to fee o1) (h2 : sLend g k t to fee o2) : o1 = o2 := by
  rcases h1 with ⟨n1, rfl⟩ | ⟨e, f1, h1⟩ <;> rcases h2 with ⟨n2, rfl⟩ | ⟨e', f2, h2⟩
  · rfl
  · exact (no_F n1 f2).elim
  · exact (no_F n2 f1).elim
  · cases f_un f1 f2
    rcases h1 with ⟨a, rfl⟩ | ⟨a, ⟨a2, rfl⟩ | ⟨a2, ⟨a3, rfl⟩ | ⟨a3, rfl⟩⟩⟩ <;> rcases h2 with ⟨b, rfl⟩ | ⟨b, ⟨b2, rfl⟩ | ⟨b2, ⟨b3, rfl⟩ | ⟨b3, rfl⟩⟩⟩ <;> first | rfl | exact absurd a b | exact absurd b a | exact absurd a2 b2 | exact absurd b2 a2 | exact absurd a3 b3 | exact absurd b3 a3
theorem sMend_un {q : Int32} (h1 : sMend g k t q o1) (h2 : sMend g k t q o2) : o1 = o2 := by
  rcases h1 with ⟨n1, rfl⟩ | ⟨e, f1, h1⟩ <;> rcases h2 with ⟨n2, rfl⟩ | ⟨e', f2, h2⟩
  · rfl
  · exact (no_F n1 f2).elim
  · exact (no_F n2 f1).elim
  · cases f_un f1 f2
    rcases h1 with ⟨a, rfl⟩ | ⟨a, ⟨a2, rfl⟩ | ⟨a2, rfl⟩⟩ <;> rcases h2 with ⟨b, rfl⟩ | ⟨b, ⟨b2, rfl⟩ | ⟨b2, rfl⟩⟩ <;> first | rfl | exact absurd a b | exact absurd b a | exact absurd a2 b2 | exact absurd b2 a2
theorem sUse_un {p k t s : Nat} (h1 : sUse g p k t s o1) (h2 : sUse g p k t s o2) : o1 = o2 := by
  rcases h1 with ⟨n1, rfl⟩ | ⟨e, f1, h1⟩ <;> rcases h2 with ⟨n2, rfl⟩ | ⟨e', f2, h2⟩
  · rfl
  · exact (no_F n1 f2).elim
  · exact (no_F n2 f1).elim
  · cases f_un f1 f2
    rcases h1 with ⟨a, rfl⟩ | ⟨a, ⟨a2, rfl⟩ | ⟨a2, d, is, hd, hi, rfl⟩⟩ <;> rcases h2 with ⟨b, rfl⟩ | ⟨b, ⟨b2, rfl⟩ | ⟨b2, d', is', hd', hi', rfl⟩⟩ <;> first | rfl | exact absurd b a | exact absurd a b | exact absurd a2 b2 | exact absurd b2 a2 | skip
    have e1 : d = d' := by
      rcases hd with ⟨c1, rfl⟩ | ⟨c1, rfl⟩ <;> rcases hd' with ⟨c2, rfl⟩ | ⟨c2, rfl⟩ <;> first | rfl | exact absurd c1 c2 | exact absurd c2 c1
    have e2 : is = is' := by
      rcases hi with ⟨c1, rfl⟩ | ⟨c1, rfl⟩ <;> rcases hi' with ⟨c2, rfl⟩ | ⟨c2, rfl⟩ <;> first | rfl | exact absurd c1 c2 | exact absurd c2 c1
    rw [e1, e2]
theorem sStrict_un {s : Nat} {x : Int32} (h1 : sStrict g s x o1) (h2 : sStrict g s x o2) : o1 = o2 := by
  rcases h1 with ⟨a, rfl⟩ | ⟨a, rfl⟩ <;> rcases h2 with ⟨b, rfl⟩ | ⟨b, rfl⟩ <;> first | rfl | exact absurd a b | exact absurd b a
theorem sWeather_un (h1 : sWeather g t o1) (h2 : sWeather g t o2) : o1 = o2 := by
  rcases h1 with ⟨a, rfl⟩ | ⟨a, rfl⟩ <;> rcases h2 with ⟨b, rfl⟩ | ⟨b, rfl⟩ <;> first | rfl | exact absurd a b | exact absurd b a
theorem cDo_un {w k t : Nat} {one ot : Int32} (h1 : cDo g w one k t ot o1) (h2 : cDo g w one k t ot o2) : o1 = o2 := by
  rcases h1 with ⟨rfl, h1⟩ | ⟨rfl, h1⟩ | ⟨rfl, to, e1, l1, h1⟩ | ⟨rfl, h1⟩ | ⟨rfl, h1⟩ | ⟨rfl, p, s, e1, l1, e2, l2, h1⟩ | ⟨rfl, s, e1, l1, h1⟩ | ⟨rfl, h1⟩ | ⟨rfl, h1⟩ <;> rcases h2 with ⟨w2, h2⟩ | ⟨w2, h2⟩ | ⟨w2, to', e1', l1', h2⟩ | ⟨w2, h2⟩ | ⟨w2, h2⟩ | ⟨w2, p', s', e1', l1', e2', l2', h2⟩ | ⟨w2, s', e1', l1', h2⟩ | ⟨w2, h2⟩ | ⟨w2, h2⟩ <;> first | exact absurd w2 (by decide) | skip
  · exact sEnter_un h1 h2
  · exact sStrike_un h1 h2
  · have : to = to' := (i_eq (by omega) (by omega)).mp (e1.symm.trans e1')
    subst this
    exact sLend_un h1 h2
  · exact sBack_un h1 h2
  · exact sMend_un h1 h2
  · have q1 : p = p' := (i_eq (by omega) (by omega)).mp (e1.symm.trans e1')
    have q2 : s = s' := (i_eq (by omega) (by omega)).mp (e2.symm.trans e2')
    subst q1
    subst q2
    exact sUse_un h1 h2
  · have q1 : s = s' := (i_eq (by omega) (by omega)).mp (e1.symm.trans e1')
    subst q1
    exact sStrict_un h1 h2
  · exact sWeather_un h1 h2
  · exact (show o1 = _ from h1).trans (show o2 = _ from h2).symm
theorem rnR_un : ∀ (qs : List cT) (g : Nat → Int32) (r1 r2 : rR), rnR qs g r1 → rnR qs g r2 → r1 = r2 := by
  intro qs
  induction qs with
  | nil => intro g r1 r2 h1 h2; exact (show r1 = _ from h1).trans (show r2 = _ from h2).symm
  | cons q qs ih =>
    intro g r1 r2 h1 h2
    rcases h1 with ⟨a, rfl⟩ | ⟨a, r, d, c, rfl⟩ | ⟨a, v, g', c, h1⟩ <;> rcases h2 with ⟨b, rfl⟩ | ⟨b, r', d', c', rfl⟩ | ⟨b, v', g'', c', h2⟩ <;> first | rfl | exact absurd b a | exact absurd a b | skip
    · have := cDo_un c c'
      injection this with this
      rw [this]
    · exact nomatch cDo_un c c'
    · exact nomatch cDo_un c c'
    · have := cDo_un c c'
      injection this with this
      injection this with h3 h4
      subst h4
      exact ih _ _ _ h1 h2
end UN
-- ===== the same numbers, as far as they are looked at =====
section CGR
variable {G : gE} {σ : hSt} {n0 N l x : Nat} {o A : Nat → Nat} {md : Int32} {es : List eT} {g g' : Nat → Int32} {hg : List (Nat → Int32)} {sg : Option (Nat → Int32)} {T U : List Nat} {er wy dt : Int32}
theorem lg_congr (hS : SI G σ) (h : LG G σ n0 o A md es g) (hg : ∀ i, i < 223 → g' i = g i) : LG G σ n0 o A md es g' := by
  have e := ev.refl (W := W0) hS
  have hl := h.le12
  obtain ⟨h1, h2, h3, h4, h5, h6, ⟨h7, h7'⟩, h8, h9, h10⟩ := h
  have hok : gOK g' := ok_c2 h1 fun i hi => hg i (by omega)
  have hc : cnt g' = cnt g := by unfold cnt; rw [hg 0 (by omega)]
  exact ⟨hok, h2, h3.ev e (fun w => w) fun i _ _ => hg i (by omega), h4, h5.ev e (fun _ _ w => w) fun i _ _ => hg i (by omega), h6.ev e (fun _ _ w => w) fun i _ _ => hg i (by omega), ⟨h7, by rw [hc]; exact h7'⟩, h8.ev hl e (fun _ _ _ _ w => w) fun i _ _ => hg i (by omega), h9.ev e W0_k (fun _ _ _ _ w => w) fun i _ _ => hg i (by omega), h10.ev e W0_k (fun _ _ _ _ _ _ w => w) (fun _ _ w => w) fun i _ _ => hg i (by omega)⟩
theorem gj_congr (h : GJ N g) (hg : ∀ i, i < 223 → g' i = g i) : GJ N g' := by
  obtain ⟨⟨h1, h2, h3, h4, h5, h6, h7⟩, h8⟩ := h
  exact ⟨⟨ok_c2 h1 fun i hi => hg i (by omega), z_congr h2 (hg 0 (by omega)) fun i _ _ => hg i (by omega), E_congr h3 fun i _ => hg i (by omega), D_congr h4 fun i _ _ => hg i (by omega), C_congr h5 (hg 3 (by omega)) fun i _ _ => hg i (by omega), S_congr h6 fun i _ _ => hg i (by omega), U_congr h7 fun i _ => hg i (by omega)⟩, h8.congr fun i _ _ => hg i (by omega)⟩
theorem cs_congr (hS : SI G σ) (h : CS G σ x N g hg sg T U er wy dt) (hgg : ∀ i, i < 223 → g' i = g i) : CS G σ x N g' hg sg T U er wy dt := by
  obtain ⟨l, sv, H, arr, mdh, hs, ib, arb, ln, bt, rf, h1, ⟨⟨n0, o, A, md, es, hL, hA⟩, hJ⟩, h3⟩ := h
  exact ⟨l, sv, H, arr, mdh, hs, ib, arb, ln, bt, rf, h1, ⟨⟨n0, o, A, md, es, lg_congr hS hL hgg, hA⟩, gj_congr hJ hgg⟩, h3⟩
theorem cs_lg (h : CS G σ x N g hg sg T U er wy dt) : GJ N g ∧ ∃ n0 o A md es, LG G σ n0 o A md es g ∧ OB σ x (A 0) := by
  obtain ⟨l, sv, H, arr, mdh, hs, ib, arb, ln, bt, rf, h1, ⟨⟨n0, o, A, md, es, hL, hA⟩, hJ⟩, h3⟩ := h
  subst hA
  exact ⟨hJ, n0, o, A, md, es, hL, _, h1, rfl, rfl⟩
end CGR
-- ===== the model's cells written =====
/-- what the model's steps may touch -/
def Wmo (a : Nat) (A : Nat → Nat) : Nat → Nat → Prop := fun b k => (b = a ∧ k = 4) ∨ ((k = 100 ∨ k = 103) ∧ ∃ q ∈ mArr, b = A q.1)
section MZE
variable {G : gE} {z σ τ : hSt} {a c : Nat} {A : Nat → Nat} {M M' : mSt} {W : Nat → Nat → Prop}
theorem mArr_t {q : Nat × Nat × Nat} (hq : q ∈ mArr) : q.2.1 = 0 ∨ q.2.1 = 3 := by
  simp only [mArr, List.mem_cons, List.not_mem_nil, or_false] at hq
  rcases hq with rfl | rfl | rfl | rfl | rfl | rfl | rfl <;> decide
theorem mz_n {b : Nat} (ha : b ≠ a) (hA : ∀ q ∈ mArr, b ≠ A q.1) : (mz z a A M).1 b = z.1 b := by
  have h0 := hA (0, 0, 223) (by decide)
  have h1 := hA (1, 0, 223) (by decide)
  have h2 := hA (2, 0, 1338) (by decide)
  have h4 := hA (4, 0, 223) (by decide)
  have h6 := hA (6, 3, 60) (by decide)
  have h12 := hA (12, 3, 60) (by decide)
  have h17 := hA (17, 0, 300) (by decide)
  dsimp only at h0 h1 h2 h4 h6 h12 h17
  simp [mz, ha, h0, h1, h2, h4, h6, h12, h17]
theorem mz_or (h : mOK G a A) (b : Nat) : ((mz z a A M).1 b = z.1 b ∧ (mz z a A M').1 b = z.1 b ∧ b ≠ a ∧ ∀ q ∈ mArr, b ≠ A q.1) ∨ (b = a ∧ (mz z a A M).1 b = some (.inr (4, mFs A M)) ∧ (mz z a A M').1 b = some (.inr (4, mFs A M'))) ∨ ∃ q ∈ mArr, b = A q.1 ∧ (mz z a A M).1 b = some (.inl (q.2.1, q.2.2, .inl (M.1 q.1))) ∧ (mz z a A M').1 b = some (.inl (q.2.1, q.2.2, .inl (M'.1 q.1))) := by
  by_cases ha : b = a
  · exact Or.inr (Or.inl ⟨ha, by rw [ha]; exact mz_a, by rw [ha]; exact mz_a⟩)
  · by_cases hA : ∃ q ∈ mArr, b = A q.1
    · obtain ⟨q, hq, e⟩ := hA
      exact Or.inr (Or.inr ⟨q, hq, e, by rw [e]; exact mz_k h hq, by rw [e]; exact mz_k h hq⟩)
    · have hA' : ∀ q ∈ mArr, b ≠ A q.1 := fun q hq e => hA ⟨q, hq, e⟩
      exact Or.inl ⟨mz_n ha hA', mz_n ha hA', ha, hA'⟩
theorem mz_ev (hS : SI G (mz z a A M)) (h : mOK G a A) : ev G (Wmo a A) 0 (mz z a A M) (mz z a A M') := by
  have keep : ∀ b ci fs, ci ≠ 4 → (mz z a A M).1 b = some (.inr (ci, fs)) → (mz z a A M').1 b = some (.inr (ci, fs)) := by
    intro b ci fs hc hb
    rcases mz_or (z := z) (M := M) (M' := M') h b with ⟨h1, h2, -⟩ | ⟨-, h1, -⟩ | ⟨q, -, -, h1, -⟩
    · rw [h2, ← h1]; exact hb
    · rw [h1] at hb
      injection hb with hb; injection hb with hb; injection hb with hb
      exact absurd hb.symm hc
    · rw [h1] at hb; exact nomatch hb
  have keepv : ∀ b fs, vwC (mz z a A M).1 b fs → vwC (mz z a A M').1 b fs := by
    rintro b fs ⟨q1, q2, q3⟩
    refine ⟨q1.imp id ?_, q2.imp id ?_, q3.imp id ?_⟩
    · rintro ⟨v, w1, w2⟩; exact ⟨v, w1, keep _ _ _ (by decide) w2⟩
    · rintro ⟨v, w1, w2⟩; exact ⟨v, w1, keep _ _ _ (by decide) w2⟩
    · rintro ⟨v, w1, w2⟩; exact ⟨v, w1, keep _ _ _ (by decide) w2⟩
  refine ⟨hS, ⟨fun b e hb => ?_, fun b ci fs hb hc => ?_, ?_⟩, Nat.le_refl _, fun b e hb => ?_, fun n hn => hn⟩
  · rcases mz_or (z := z) (M := M) (M' := M') h b with ⟨h1, h2, -⟩ | ⟨-, h1, -⟩ | ⟨q, -, -, h1, -⟩
    · rw [h2, ← h1] at hb; exact hS.lt hb
    · exact hS.lt h1
    · exact hS.lt h1
  · rcases mz_or (z := z) (M := M) (M' := M') h b with ⟨h1, h2, -⟩ | ⟨-, -, h1⟩ | ⟨q, -, -, -, h1⟩
    · rw [h2, ← h1] at hb; exact keepv _ _ (hS.2.1 b ci fs hb hc)
    · rw [h1] at hb
      injection hb with hb; injection hb with hb; injection hb with hb
      omega
    · rw [h1] at hb; exact nomatch hb
  · refine cst_keep hS.2.2 fun b e hX hb _ => ?_
    rcases mz_or (z := z) (M := M) (M' := M') h b with ⟨h1, h2, -⟩ | ⟨w, -⟩ | ⟨q, hq, w, -⟩
    · rw [h2, ← h1]; exact hb
    · exact absurd hX (h.2 b (by rw [w]; exact List.mem_cons_self))
    · refine absurd hX (h.2 b ?_)
      rw [w]
      simp only [mArr, List.mem_cons, List.not_mem_nil, or_false] at hq
      rcases hq with rfl | rfl | rfl | rfl | rfl | rfl | rfl <;> simp
  · rcases mz_or (z := z) (M := M) (M' := M') h b with ⟨h1, h2, -⟩ | ⟨w, h1, h2⟩ | ⟨q, hq, w, h1, h2⟩
    · exact ⟨e, by rw [h2, ← h1]; exact hb, rfl, fun _ => simE_refl _⟩
    · rw [h1] at hb
      injection hb with hb
      subst hb
      exact ⟨_, h2, rfl, fun hn => absurd (Or.inl ⟨w, rfl⟩) hn⟩
    · rw [h1] at hb
      injection hb with hb
      subst hb
      refine ⟨_, h2, rfl, fun hn => absurd (Or.inr ⟨?_, q, hq, w⟩) hn⟩
      show 100 + q.2.1 = 100 ∨ 100 + q.2.1 = 103
      rcases mArr_t hq with e | e <;> omega
theorem Wmo_u : Wu (Wmo a A) := fun b k w => by
  rcases w with w | w
  · exact Or.inl w.2
  · rcases w.1 with w | w
    · exact Or.inr (Or.inl w)
    · exact Or.inr (Or.inr (Or.inr (Or.inl w)))
theorem mz_self (h : mOK G a A) : mz (mz z a A M) a A M = mz z a A M := mz_of mz_a fun q hq => mz_k h hq
theorem mz_keep (hz : mz σ a A M = σ) (h : mOK G a A) (e : ev G W c σ τ) (hW : ∀ b k, W b k → k ≠ 4 ∧ k ≠ 100 ∧ k ≠ 103) : mz τ a A M = τ := by
  have h0 : σ.1 a = some (.inr (4, mFs A M)) := by rw [← hz]; exact mz_a
  refine mz_of (e.o h0 (fun w => (hW _ _ w).1 rfl) (by decide) (by decide)) fun q hq => ?_
  have h1 : σ.1 (A q.1) = some (.inl (q.2.1, q.2.2, .inl (M.1 q.1))) := by rw [← hz]; exact mz_k h hq
  refine e.a h1 fun w => ?_
  have := hW _ _ w
  rcases mArr_t hq with e | e <;> rw [e] at this <;> omega
end MZE
