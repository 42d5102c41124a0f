/-! the law: what its cases share -/
set_option maxRecDepth 100000
section LW0
variable {G : gE} {σ τ : hSt} {x a oL oD sc L r N : Nat} {A : Nat → Nat} {xs : Nat → Int32} {M M' : mSt} {g g' : Nat → Int32} {hg : List (Nat → Int32)} {sg : Option (Nat → Int32)} {T U : List Nat} {er wy dt : Int32} {PX : Nat → Nat → hSt → Prop} {P : Int32 → hSt → Prop} {NX : hSt → Prop}
theorem md_LB {v : Int32} (hv : v = 0 ∨ v = 1) (h : MD G τ x a oL oD sc L A xs r N M g hg sg T U er wy dt) {K : hSt → Prop} (hK : ∀ υ f, MD G υ x a oL oD sc L A xs r N M g hg sg T U er wy dt → υ.1 oL = some (.inl (1, 1, .inr (.inl f))) → f 0 = (v : Int32).toInt64 → K υ) : (v = 0 → asL G τ (some oL) 0 0 K) ∧ (¬ v = 0 → asL G τ (some oL) 0 1 K) := by
  rcases hv with rfl | rfl
  · exact ⟨fun _ => md_L h fun υ f h1 h2 h3 => hK υ f h1 h2 h3, fun w => absurd rfl w⟩
  · exact ⟨fun w => absurd w (by decide), fun _ => md_L h fun υ f h1 h2 h3 => hK υ f h1 h2 h3⟩
theorem mch_e {n v one ot : Int32} {w k t : Nat} {o : oR} (hM : MD G τ x a oL oD sc L A xs r N M g' (hAdd hg (M.1 0)) sg T U er wy dt) (hMS : MS M hg sg T U er wy dt) (hNX : ∀ z, RS G z x a oL oD sc L A xs (r + 1) → NX z) (ho : cDo (M.1 0) w one k t ot (.inr (v, g'))) (ho' : cDo (M.1 0) w one k t ot o) : mA (fun x116 z115 => ((v = x116 → NX z115) ∧ (¬ v = x116 → P 0 z115))) τ a A M hg.length n o := by
  have e := cDo_un ho ho'
  subst e
  intro M' hb
  obtain ⟨h1, h2, h3⟩ := MS_push hMS hb
  exact ⟨fun _ => hNX _ (md_end hM h3 h1), fun w => absurd rfl w⟩
theorem no_day {k t : Nat} {one ot rs d : Int32} (h : cDo g 9 one k t ot (.inl (rs, d))) : False := by
  rcases h with ⟨w, -⟩ | ⟨w, -⟩ | ⟨w, -⟩ | ⟨w, -⟩ | ⟨w, -⟩ | ⟨w, -⟩ | ⟨w, -⟩ | ⟨w, -⟩ | ⟨-, h⟩
  · exact absurd w (by decide)
  · exact absurd w (by decide)
  · exact absurd w (by decide)
  · exact absurd w (by decide)
  · exact absurd w (by decide)
  · exact absurd w (by decide)
  · exact absurd w (by decide)
  · exact absurd w (by decide)
  · exact nomatch (show (Sum.inl (rs, d) : oR) = _ from h)
theorem acc_q (hM : MS M hg sg T U er wy dt) {w v : Int32} (h : acc M w v) : acq (M.1 0) (Int32.ofNat T.length) (Int32.ofNat hg.length) w v := by
  unfold acc at h
  rw [hM.2.2.1.1, hM.1.1] at h
  exact h
theorem cs_c (hC : CS G σ x N g hg sg T U er wy dt) {i c : Nat} (h : U[i]? = some c) : c < 65536 := by
  obtain ⟨l, sv, H, arr, mdh, hs, ib, arb, ln, bt, rf, h1, h2, h3, h4, h5, ⟨h6, h6'⟩, h7, h8⟩ := hC
  have := (h6.st.c128 h).1
  omega
theorem MS_5 (h : MS M hg sg T U er wy dt) (w : sg = none) : M.2 5 = 0 := by
  rcases h.2.1 with ⟨-, q⟩ | ⟨gg, q, -⟩
  · exact q
  · rw [w] at q; exact nomatch q
theorem MS_5s {g1 : Nat → Int32} (h : MS M hg (some g1) T U er wy dt) : M.2 5 ≠ 0 := by
  rcases h.2.1 with ⟨q, -⟩ | ⟨gg, q, h5, -⟩
  · exact nomatch q
  · exact h5
theorem chr_in {c : Nat} (h1 : 32 ≤ c) (h2 : c ≤ 126) : ¬ Int32.ofNat c < 32 ∧ ¬ 126 < Int32.ofNat c := by
  rw [show (32 : Int32) = Int32.ofNat 32 from rfl, show (126 : Int32) = Int32.ofNat 126 from rfl, i_lt (by omega) (by omega), i_lt (by omega) (by omega)]
  omega
theorem oC_pos {qs : List cT} (h : oC T qs T.length) : 1 ≤ T.length ∧ 1 ≤ qs.length := by
  have h1 : 1 ≤ qs.length := by
    cases qs with
    | nil => exact (oC_ne h).elim
    | cons q qs => simp
  have := oC_len h
  omega
end LW0
