/-! the model reads an order: what the parser reads -/
set_option maxRecDepth 100000
theorem kCo_15 {c k : Nat} (h : kCo c = some k) : k < 4 ∧ (txt 15)[k]? = some c ∧ ∀ j, j < k → (txt 15)[j]? ≠ some c := by
  unfold kCo at h
  by_cases c1 : c = 100
  · rw [if_pos c1] at h; cases h; subst c1; exact ⟨by decide, by decide, by decide⟩
  rw [if_neg c1] at h
  by_cases c2 : c = 119
  · rw [if_pos c2] at h; cases h; subst c2; exact ⟨by decide, by decide, by decide⟩
  rw [if_neg c2] at h
  by_cases c3 : c = 105
  · rw [if_pos c3] at h; cases h; subst c3; exact ⟨by decide, by decide, by decide⟩
  rw [if_neg c3] at h
  by_cases c4 : c = 116
  · rw [if_pos c4] at h; cases h; subst c4; exact ⟨by decide, by decide, by decide⟩
  rw [if_neg c4] at h
  exact nomatch h
theorem kCo_n {c : Nat} (h : kCo c = none) : ∀ j : Nat, (txt 15)[j]? ≠ some c := by
  intro j hj
  have h4 : j < 4 := (List.getElem?_eq_some_iff.mp hj).1
  have : j = 0 ∨ j = 1 ∨ j = 2 ∨ j = 3 := by omega
  rcases this with rfl | rfl | rfl | rfl
  · have : (100 : Nat) = c := Option.some.inj hj
    subst this; exact absurd h (by decide)
  · have : (119 : Nat) = c := Option.some.inj hj
    subst this; exact absurd h (by decide)
  · have : (105 : Nat) = c := Option.some.inj hj
    subst this; exact absurd h (by decide)
  · have : (116 : Nat) = c := Option.some.inj hj
    subst this; exact absurd h (by decide)
section RR
variable {T : List Nat} {i i1 i' c : Nat} {v v2 w1 w' : Int32}
theorem n01 : ¬ (1 : Int32) = 0 := by decide
theorem figR_0 (h : figR T i 0 v i' w') : (∃ d, fgA T i d ∧ v = Int32.ofNat d ∧ i' = i + 1 ∧ w' = 0) ∨ (fgN T i ∧ i' = i ∧ w' = 1) := by
  rcases h with ⟨h, -⟩ | ⟨-, c, h1, h2, h3, h4, h5, h6⟩ | ⟨-, h1, -, h3, h4⟩
  · exact absurd rfl h
  · exact Or.inl ⟨c - 48, ⟨by rw [h1]; congr 1; omega, by omega⟩, h4, h5, h6⟩
  · exact Or.inr ⟨fun d hd => h1 _ hd.1 ⟨by omega, by have := hd.2; omega⟩, h3, h4⟩
theorem figR_1 (h : figR T i 1 v i' w') : i' = i ∧ w' = 1 := by
  rcases h with ⟨-, -, h3, h4⟩ | ⟨h, -⟩ | ⟨h, -⟩
  · exact ⟨h3, h4⟩
  · exact absurd h n01
  · exact absurd h n01
theorem exc_0 (h1 : kndR T i 0 v i1 w1) (h2 : figR T i1 w1 v2 i' w') : (∃ k t, nmA T i k t ∧ k < 4 ∧ v = Int32.ofNat k ∧ v2 = Int32.ofNat t ∧ i' = i + 2 ∧ w' = 0) ∨ (∃ j, nmB T i j ∧ i' = j ∧ w' = 1) := by
  rcases h1 with ⟨h, -⟩ | ⟨-, c, k, h3, h4, h5, h6, h7⟩ | ⟨-, h3, h6, h7⟩
  · exact absurd rfl h
  · subst h6
    subst h7
    obtain ⟨k4, k5, k6⟩ := kCo_15 h4
    rcases figR_0 h2 with ⟨d, a1, a2, a3, a4⟩ | ⟨a1, a3, a4⟩
    · exact Or.inl ⟨k, d, ⟨⟨c, h3, k5, k6⟩, a1⟩, k4, h5, a2, a3, a4⟩
    · exact Or.inr ⟨_, Or.inr ⟨⟨k, c, h3, k5, k6⟩, a1, rfl⟩, a3, a4⟩
  · subst h6
    subst h7
    obtain ⟨a3, a4⟩ := figR_1 h2
    exact Or.inr ⟨_, Or.inl ⟨fun c hc j hj => kCo_n (h3 c hc) j hj, rfl⟩, a3, a4⟩
theorem exc_1 (h1 : kndR T i 1 v i1 w1) (h2 : figR T i1 w1 v2 i' w') : i' = i ∧ w' = 1 := by
  rcases h1 with ⟨-, h6, h7⟩ | ⟨h, -⟩ | ⟨h, -⟩
  · subst h6
    subst h7
    exact figR_1 h2
  · exact absurd h n01
  · exact absurd h n01
theorem bh_0 (h1 : neeR T c i 0 i1 w1) (h2 : figR T i1 w1 v i' w') : (∃ d, bhA T c i d ∧ v = Int32.ofNat d ∧ i' = i + 2 ∧ w' = 0) ∨ (∃ j, bhB T c i j ∧ i' = j ∧ w' = 1) := by
  rcases h1 with ⟨h, -⟩ | ⟨-, h3, h6, h7⟩ | ⟨-, h3, h6, h7⟩
  · exact absurd rfl h
  · subst h6
    subst h7
    rcases figR_0 h2 with ⟨d, a1, a2, a3, a4⟩ | ⟨a1, a3, a4⟩
    · exact Or.inl ⟨d, ⟨h3, a1⟩, a2, a3, a4⟩
    · exact Or.inr ⟨_, Or.inr ⟨h3, a1, rfl⟩, a3, a4⟩
  · subst h6
    subst h7
    obtain ⟨a3, a4⟩ := figR_1 h2
    exact Or.inr ⟨_, Or.inl ⟨h3, rfl⟩, a3, a4⟩
theorem bh_1 (h1 : neeR T c i 1 i1 w1) (h2 : figR T i1 w1 v i' w') : i' = i ∧ w' = 1 := by
  rcases h1 with ⟨-, h6, h7⟩ | ⟨h, -⟩ | ⟨h, -⟩
  · subst h6
    subst h7
    exact figR_1 h2
  · exact absurd h n01
  · exact absurd h n01
theorem nmB_le {j : Nat} (h : nmB T i j) : j ≤ i + 1 := by
  rcases h with ⟨-, h⟩ | ⟨-, -, h⟩ <;> omega
theorem bhB_le {j : Nat} (h : bhB T c i j) : j ≤ i + 1 := by
  rcases h with ⟨-, h⟩ | ⟨-, -, h⟩ <;> omega
end RR
theorem ud_s {f : Nat → Int32} {i : Nat} {x : Int32} : upd f i x i = x := by simp [upd]
theorem ud_n {f : Nat → Int32} {i j : Nat} {x : Int32} (h : j ≠ i) : upd f i x j = f j := by simp [upd, h]
/-- what an order's numbers are told as, from the place k on -/
def tld (D : Nat → Int32) (k : Nat) (q : cT) : Prop :=
  (q.1 = 1 ∧ D k = 110 ∧ D (k + 1) = q.2.1 ∧ D (k + 2) = Int32.ofNat q.2.2.1 ∧ D (k + 3) = Int32.ofNat q.2.2.2.1 ∧ D (k + 4) = q.2.2.2.2) ∨
  (q.1 = 2 ∧ D k = 107 ∧ D (k + 1) = Int32.ofNat q.2.2.1 ∧ D (k + 2) = Int32.ofNat q.2.2.2.1) ∨
  (q.1 = 3 ∧ D k = 108 ∧ D (k + 1) = Int32.ofNat q.2.2.1 ∧ D (k + 2) = Int32.ofNat q.2.2.2.1 ∧ D (k + 3) = q.2.1 ∧ D (k + 4) = q.2.2.2.2) ∨
  (q.1 = 4 ∧ D k = 98 ∧ D (k + 1) = Int32.ofNat q.2.2.1 ∧ D (k + 2) = Int32.ofNat q.2.2.2.1) ∨
  (q.1 = 5 ∧ D k = 109 ∧ D (k + 1) = Int32.ofNat q.2.2.1 ∧ D (k + 2) = Int32.ofNat q.2.2.2.1 ∧ D (k + 3) = q.2.2.2.2) ∨
  (q.1 = 6 ∧ D k = 117 ∧ D (k + 1) = q.2.1 ∧ D (k + 2) = Int32.ofNat q.2.2.1 ∧ D (k + 3) = Int32.ofNat q.2.2.2.1 ∧ D (k + 4) = q.2.2.2.2) ∨
  (q.1 = 7 ∧ D k = 115 ∧ D (k + 1) = q.2.1 ∧ D (k + 2) = q.2.2.2.2) ∨
  (q.1 = 8 ∧ D k = 119 ∧ D (k + 1) = q.2.2.2.2) ∨
  (q.1 = 9 ∧ D k = 101)
section MR4
variable {G : gE} {z : hSt} {a : Nat} {A : Nat → Nat} {M : mSt} {PX : Nat → Nat → hSt → Prop} {T : List Nat} {i : Nat} {D : Nat → Int32}
theorem hv_c {c : Nat} (hT : inp M T) (hc : c < 65536) (h : hv T i = Int32.ofNat c) : T[i]? = some c := by
  cases hs : T[i]? with
  | none =>
    rw [hv_n hs] at h
    exact absurd h.symm (ofNat_ne_neg (by omega))
  | some d =>
    rw [hv_s hs] at h
    have := (hT.2.2 i d hs).2
    rw [(i_eq (by omega) (by omega)).mp h]
theorem y_st {w x : Int32} {K : hSt → Prop} (h : mOK G a A) {k c : Nat} (hk : k + c < 300) (hK : K (mz z a A (prM M i w (upd D (k + c) x)))) : asI G (mz z a A (prM M i w D)) (some (A 17)) 0 .int (Int32.ofNat k + Int32.ofNat c) x K := by
  simp (disch := omega) only [m_s17 h, i_add, i_nat, iv, true_and, nar_i, prM_a17]
  exact hK
theorem y_fig {P : Int32 → hSt → Prop} (h : mOK G a A) (hT : inp M T) (hi : i < 1000) (g1 : ∀ d, fgA T i d → P (Int32.ofNat d) (mz z a A (prM M (i + 1) 0 D))) (g2 : ∀ v, fgN T i → P v (mz z a A (prM M i 1 D))) : wX5_figure G P PX (some a) (mz z a A (prM M i 0 D)) :=
  x_figure h hT hi fun v i' w' hr => by
    rcases figR_0 hr with ⟨d, a1, a2, a3, a4⟩ | ⟨a1, a3, a4⟩
    · subst a2; subst a3; subst a4; exact g1 d a1
    · subst a3; subst a4; exact g2 v a1
theorem y_fig1 {P : Int32 → hSt → Prop} (h : mOK G a A) (hT : inp M T) (hi : i < 1000) (g : ∀ v, P v (mz z a A (prM M i 1 D))) : wX5_figure G P PX (some a) (mz z a A (prM M i 1 D)) :=
  x_figure h hT hi fun v i' w' hr => by
    obtain ⟨a3, a4⟩ := figR_1 hr
    subst a3; subst a4; exact g v
theorem y_exc {P : hSt → Prop} (h : mOK G a A) (hT : inp M T) (hi : i < 999) {k : Nat} (hk : k + 1 < 300) (g1 : ∀ kk t, nmA T i kk t → kk < 4 → P (mz z a A (prM M (i + 2) 0 (upd (upd D k (Int32.ofNat kk)) (k + 1) (Int32.ofNat t))))) (g2 : ∀ j v v2, nmB T i j → P (mz z a A (prM M j 1 (upd (upd D k v) (k + 1) v2)))) : wX5_readsExcuse G P PX (some a) (Int32.ofNat k) (mz z a A (prM M i 0 D)) :=
  x_readsExcuse h hT hi hk fun v i1 w1 v2 i' w' h1 h2 => by
    rcases exc_0 h1 h2 with ⟨kk, t, a1, a2, a3, a4, a5, a6⟩ | ⟨j, a1, a2, a3⟩
    · subst a3; subst a4; subst a5; subst a6; exact g1 kk t a1 a2
    · subst a2; subst a3; exact g2 _ v v2 a1
theorem y_exc1 {P : hSt → Prop} (h : mOK G a A) (hT : inp M T) (hi : i < 999) {k : Nat} (hk : k + 1 < 300) (g : ∀ v v2, P (mz z a A (prM M i 1 (upd (upd D k v) (k + 1) v2)))) : wX5_readsExcuse G P PX (some a) (Int32.ofNat k) (mz z a A (prM M i 1 D)) :=
  x_readsExcuse h hT hi hk fun v i1 w1 v2 i' w' h1 h2 => by
    obtain ⟨a3, a4⟩ := exc_1 h1 h2
    subst a3; subst a4; exact g v v2
theorem y_bh {P : Int32 → hSt → Prop} (h : mOK G a A) (hT : inp M T) (hi : i < 999) {c : Nat} (hc : c < 65536) (g1 : ∀ d, bhA T c i d → P (Int32.ofNat d) (mz z a A (prM M (i + 2) 0 D))) (g2 : ∀ j v, bhB T c i j → P v (mz z a A (prM M j 1 D))) : wX5_figureBehind G P PX (some a) (Int32.ofNat c) (mz z a A (prM M i 0 D)) :=
  x_figureBehind h hT hi hc fun i1 w1 v i' w' h1 h2 => by
    rcases bh_0 h1 h2 with ⟨d, a1, a2, a3, a4⟩ | ⟨j, a1, a2, a3⟩
    · subst a2; subst a3; subst a4; exact g1 d a1
    · subst a2; subst a3; exact g2 _ v a1
theorem y_bh1 {P : Int32 → hSt → Prop} (h : mOK G a A) (hT : inp M T) (hi : i < 999) {c : Nat} (hc : c < 65536) (g : ∀ v, P v (mz z a A (prM M i 1 D))) : wX5_figureBehind G P PX (some a) (Int32.ofNat c) (mz z a A (prM M i 1 D)) :=
  x_figureBehind h hT hi hc fun i1 w1 v i' w' h1 h2 => by
    obtain ⟨a3, a4⟩ := bh_1 h1 h2
    subst a3; subst a4; exact g v
theorem x_readsOrder {P : hSt → Prop} (h : mOK G a A) (hT : inp M T) (hi : i < 900) {k : Nat} (hk : k + 4 < 300) (g1 : ∀ q i' D', oA T i q i' → tld D' k q → (∀ j, j < k → D' j = D j) → P (mz z a A (prM M i' 0 D'))) (g2 : ∀ j D', oB T i j → P (mz z a A (prM M j 1 D'))) : wX5_readsOrder G P PX (some a) (Int32.ofNat k) (mz z a A (prM M i 0 D)) := by
  have lt : ∀ c l, hv T i = Int32.ofNat c → c < 65536 → (txt 16)[l]? = some c → (∀ j, j < l → (txt 16)[j]? ≠ some c) → ltA (txt 16) T i l := fun c l u hc h1 h2 => ⟨c, hv_c hT hc u, h1, h2⟩
  unfold wX5_readsOrder wX5_readsOrderb0
  refine ⟨m_rcv, x_here h hT (by omega) ?_⟩
  simp (disch := omega) only [m_i15, prM_15, m_p15 h, i_succ i, prM_s15, m_g17, m_s17 h, i_nat, iv, true_and, nar_i, prM_a17, m_rc]
  refine ⟨fun u => ?_, fun u => ?_, fun u => ?_, fun u => ?_, fun u => ?_, fun u => ?_, fun u => ?_, fun u => ?_, fun u => ?_, fun u => ?_⟩
  · have hl := lt 98 3 u (by omega) rfl (by decide)
    rw [u]
    unfold wX5_readsOrderb160
    rw [i_succ]
    exact ⟨m_rcv, y_exc h hT (by omega) (by omega) (fun kk t hn hk4 => g1 (4, -1, kk, t, -1) (i + 3) _ (Or.inr (Or.inr (Or.inr (Or.inl ⟨hl, kk, t, hn, hk4, rfl, rfl⟩)))) (Or.inr (Or.inr (Or.inr (Or.inl ⟨rfl, by simp [upd] <;> (intro w9; omega), by simp [upd] <;> (intro w9; omega), by simp [upd] <;> (intro w9; omega)⟩)))) fun j hj => by rw [ud_n (by omega), ud_n (by omega), ud_n (by omega)]) fun j v v2 hn => g2 j _ (Or.inr (Or.inr (Or.inr (Or.inl ⟨Or.inr (Or.inr (Or.inl hl)), hn⟩))))⟩
  · have hl := lt 101 8 u (by omega) rfl (by decide)
    rw [u]
    exact g1 (9, -1, 0, 0, -1) (i + 1) _ (Or.inr (Or.inr (Or.inr (Or.inr (Or.inr (Or.inr (Or.inr (Or.inr ⟨hl, rfl, rfl⟩)))))))) (Or.inr (Or.inr (Or.inr (Or.inr (Or.inr (Or.inr (Or.inr (Or.inr ⟨rfl, ud_s⟩)))))))) fun j hj => by rw [ud_n (by omega)]
  · have hl := lt 107 1 u (by omega) rfl (by decide)
    rw [u]
    unfold wX5_readsOrderb160
    rw [i_succ]
    exact ⟨m_rcv, y_exc h hT (by omega) (by omega) (fun kk t hn hk4 => g1 (2, -1, kk, t, -1) (i + 3) _ (Or.inr (Or.inl ⟨hl, kk, t, hn, hk4, rfl, rfl⟩)) (Or.inr (Or.inl ⟨rfl, by simp [upd] <;> (intro w9; omega), by simp [upd] <;> (intro w9; omega), by simp [upd] <;> (intro w9; omega)⟩)) fun j hj => by rw [ud_n (by omega), ud_n (by omega), ud_n (by omega)]) fun j v v2 hn => g2 j _ (Or.inr (Or.inr (Or.inr (Or.inl ⟨Or.inl hl, hn⟩))))⟩
  · have hl := lt 108 2 u (by omega) rfl (by decide)
    rw [u, i_succ k]
    refine y_exc h hT (by omega) (by omega) (fun kk t hn hk4 => ?_) fun j v v2 hn => ?_
    · rw [m_g17]
      refine ⟨m_rcv, y_bh h hT (by omega) (c := 62) (by omega) (fun p hp => y_st h (c := 3) (by omega) ?_) fun j v hj => y_st h (c := 3) (by omega) ?_⟩
      · rw [m_g17]
        exact ⟨m_rcv, y_bh h hT (by omega) (c := 43) (by omega) (fun d hd => y_st h (c := 4) (by omega) (g1 (3, Int32.ofNat p, kk, t, Int32.ofNat d) (i + 7) _ (Or.inr (Or.inr (Or.inl ⟨hl, kk, t, p, d, hn, hk4, hp, hd, rfl, rfl⟩))) (Or.inr (Or.inr (Or.inl ⟨rfl, by simp [upd] <;> (intro w9; omega), by simp [upd] <;> (intro w9; omega), by simp [upd] <;> (intro w9; omega), by simp [upd] <;> (intro w9; omega), by simp [upd] <;> (intro w9; omega)⟩))) fun j hj => by rw [ud_n (by omega), ud_n (by omega), ud_n (by omega), ud_n (by omega), ud_n (by omega)])) fun j v hj => y_st h (c := 4) (by omega) (g2 j _ (Or.inr (Or.inr (Or.inr (Or.inr (Or.inr (Or.inr (Or.inr (Or.inr (Or.inl ⟨hl, ⟨kk, t, hn⟩, ⟨p, hp⟩, hj⟩))))))))))⟩
      · have := bhB_le hj
        rw [m_g17]
        exact ⟨m_rcv, y_bh1 h hT (by omega) (c := 43) (by omega) fun v => y_st h (c := 4) (by omega) (g2 j _ (Or.inr (Or.inr (Or.inr (Or.inr (Or.inr (Or.inr (Or.inr (Or.inl ⟨hl, ⟨kk, t, hn⟩, hj⟩)))))))))⟩
    · have := nmB_le hn
      rw [m_g17]
      refine ⟨m_rcv, y_bh1 h hT (by omega) (c := 62) (by omega) fun v => y_st h (c := 3) (by omega) ?_⟩
      rw [m_g17]
      exact ⟨m_rcv, y_bh1 h hT (by omega) (c := 43) (by omega) fun v => y_st h (c := 4) (by omega) (g2 j _ (Or.inr (Or.inr (Or.inr (Or.inl ⟨Or.inr (Or.inl hl), hn⟩)))))⟩
  · have hl := lt 109 4 u (by omega) rfl (by decide)
    rw [u, i_succ k]
    refine y_exc h hT (by omega) (by omega) (fun kk t hn hk4 => ?_) fun j v v2 hn => ?_
    · rw [m_g17]
      exact ⟨m_rcv, y_bh h hT (by omega) (c := 45) (by omega) (fun d hd => y_st h (c := 3) (by omega) (g1 (5, -1, kk, t, Int32.ofNat d) (i + 5) _ (Or.inr (Or.inr (Or.inr (Or.inr (Or.inl ⟨hl, kk, t, d, hn, hk4, hd, rfl, rfl⟩))))) (Or.inr (Or.inr (Or.inr (Or.inr (Or.inl ⟨rfl, by simp [upd] <;> (intro w9; omega), by simp [upd] <;> (intro w9; omega), by simp [upd] <;> (intro w9; omega), by simp [upd] <;> (intro w9; omega)⟩))))) fun j hj => by rw [ud_n (by omega), ud_n (by omega), ud_n (by omega), ud_n (by omega)])) fun j v hj => y_st h (c := 3) (by omega) (g2 j _ (Or.inr (Or.inr (Or.inr (Or.inr (Or.inr (Or.inr (Or.inr (Or.inr (Or.inr ⟨hl, ⟨kk, t, hn⟩, hj⟩))))))))))⟩
    · have := nmB_le hn
      rw [m_g17]
      exact ⟨m_rcv, y_bh1 h hT (by omega) (c := 45) (by omega) fun v => y_st h (c := 3) (by omega) (g2 j _ (Or.inr (Or.inr (Or.inr (Or.inl ⟨Or.inr (Or.inr (Or.inr hl)), hn⟩)))))⟩
  · have hl := lt 110 0 u (by omega) rfl (by decide)
    rw [u]
    refine y_fig h hT (by omega) (fun p hp => y_st h (c := 1) (by omega) ⟨m_rcv, ?_⟩) fun v hn => y_st h (c := 1) (by omega) ⟨m_rcv, ?_⟩
    · rw [show (2 : Int32) = Int32.ofNat 2 from rfl, i_add]
      refine y_exc h hT (by omega) (by omega) (fun kk t hn hk4 => ?_) fun j v v2 hn => ?_
      · rw [m_g17]
        exact ⟨m_rcv, y_bh h hT (by omega) (c := 42) (by omega) (fun d hd => y_st h (c := 4) (by omega) (g1 (1, Int32.ofNat p, kk, t, Int32.ofNat d) (i + 6) _ (Or.inl ⟨hl, p, kk, t, d, hp, hn, hk4, hd, rfl, rfl⟩) (Or.inl ⟨rfl, by simp [upd] <;> (intro w9; omega), by simp [upd] <;> (intro w9; omega), by simp [upd] <;> (intro w9; omega), by simp [upd] <;> (intro w9; omega), by simp [upd] <;> (intro w9; omega)⟩) fun j hj => by rw [ud_n (by omega), ud_n (by omega), ud_n (by omega), ud_n (by omega), ud_n (by omega)])) fun j v hj => y_st h (c := 4) (by omega) (g2 j _ (Or.inr (Or.inr (Or.inr (Or.inr (Or.inl ⟨hl, ⟨p, hp⟩, ⟨kk, t, hn⟩, hj⟩))))))⟩
      · have := nmB_le hn
        rw [m_g17]
        exact ⟨m_rcv, y_bh1 h hT (by omega) (c := 42) (by omega) fun v => y_st h (c := 4) (by omega) (g2 j _ (Or.inr (Or.inr (Or.inl ⟨Or.inl hl, ⟨p, hp⟩, hn⟩))))⟩
    · rw [show (2 : Int32) = Int32.ofNat 2 from rfl, i_add]
      refine y_exc1 h hT (by omega) (by omega) fun v v2 => ?_
      rw [m_g17]
      exact ⟨m_rcv, y_bh1 h hT (by omega) (c := 42) (by omega) fun v => y_st h (c := 4) (by omega) (g2 _ _ (Or.inr (Or.inl ⟨Or.inl hl, hn, rfl⟩)))⟩
  · have hl := lt 115 6 u (by omega) rfl (by decide)
    rw [u]
    refine y_fig h hT (by omega) (fun p hp => y_st h (c := 1) (by omega) ?_) fun v hn => y_st h (c := 1) (by omega) ?_
    · rw [m_g17]
      exact ⟨m_rcv, y_bh h hT (by omega) (c := 61) (by omega) (fun d hd => y_st h (c := 2) (by omega) (g1 (7, Int32.ofNat p, 0, 0, Int32.ofNat d) (i + 4) _ (Or.inr (Or.inr (Or.inr (Or.inr (Or.inr (Or.inr (Or.inl ⟨hl, p, d, hp, hd, rfl, rfl⟩))))))) (Or.inr (Or.inr (Or.inr (Or.inr (Or.inr (Or.inr (Or.inl ⟨rfl, by simp [upd] <;> (intro w9; omega), by simp [upd] <;> (intro w9; omega), by simp [upd] <;> (intro w9; omega)⟩))))))) fun j hj => by rw [ud_n (by omega), ud_n (by omega), ud_n (by omega)])) fun j v hj => y_st h (c := 2) (by omega) (g2 j _ (Or.inr (Or.inr (Or.inr (Or.inr (Or.inr (Or.inr (Or.inl ⟨hl, ⟨p, hp⟩, hj⟩))))))))⟩
    · rw [m_g17]
      exact ⟨m_rcv, y_bh1 h hT (by omega) (c := 61) (by omega) fun v => y_st h (c := 2) (by omega) (g2 _ _ (Or.inr (Or.inl ⟨Or.inr (Or.inr (Or.inl hl)), hn, rfl⟩)))⟩
  · have hl := lt 117 5 u (by omega) rfl (by decide)
    rw [u]
    refine y_fig h hT (by omega) (fun p hp => y_st h (c := 1) (by omega) ⟨m_rcv, ?_⟩) fun v hn => y_st h (c := 1) (by omega) ⟨m_rcv, ?_⟩
    · rw [show (2 : Int32) = Int32.ofNat 2 from rfl, i_add]
      refine y_exc h hT (by omega) (by omega) (fun kk t hn hk4 => ?_) fun j v v2 hn => ?_
      · rw [m_g17]
        exact ⟨m_rcv, y_bh h hT (by omega) (c := 64) (by omega) (fun d hd => y_st h (c := 4) (by omega) (g1 (6, Int32.ofNat p, kk, t, Int32.ofNat d) (i + 6) _ (Or.inr (Or.inr (Or.inr (Or.inr (Or.inr (Or.inl ⟨hl, p, kk, t, d, hp, hn, hk4, hd, rfl, rfl⟩)))))) (Or.inr (Or.inr (Or.inr (Or.inr (Or.inr (Or.inl ⟨rfl, by simp [upd] <;> (intro w9; omega), by simp [upd] <;> (intro w9; omega), by simp [upd] <;> (intro w9; omega), by simp [upd] <;> (intro w9; omega), by simp [upd] <;> (intro w9; omega)⟩)))))) fun j hj => by rw [ud_n (by omega), ud_n (by omega), ud_n (by omega), ud_n (by omega), ud_n (by omega)])) fun j v hj => y_st h (c := 4) (by omega) (g2 j _ (Or.inr (Or.inr (Or.inr (Or.inr (Or.inr (Or.inl ⟨hl, ⟨p, hp⟩, ⟨kk, t, hn⟩, hj⟩)))))))⟩
      · have := nmB_le hn
        rw [m_g17]
        exact ⟨m_rcv, y_bh1 h hT (by omega) (c := 64) (by omega) fun v => y_st h (c := 4) (by omega) (g2 j _ (Or.inr (Or.inr (Or.inl ⟨Or.inr hl, ⟨p, hp⟩, hn⟩))))⟩
    · rw [show (2 : Int32) = Int32.ofNat 2 from rfl, i_add]
      refine y_exc1 h hT (by omega) (by omega) fun v v2 => ?_
      rw [m_g17]
      exact ⟨m_rcv, y_bh1 h hT (by omega) (c := 64) (by omega) fun v => y_st h (c := 4) (by omega) (g2 _ _ (Or.inr (Or.inl ⟨Or.inr (Or.inl hl), hn, rfl⟩)))⟩
  · have hl := lt 119 7 u (by omega) rfl (by decide)
    rw [u]
    exact y_fig h hT (by omega) (fun d hd => y_st h (c := 1) (by omega) (g1 (8, -1, 0, 0, Int32.ofNat d) (i + 2) _ (Or.inr (Or.inr (Or.inr (Or.inr (Or.inr (Or.inr (Or.inr (Or.inl ⟨hl, d, hd, rfl, rfl⟩)))))))) (Or.inr (Or.inr (Or.inr (Or.inr (Or.inr (Or.inr (Or.inr (Or.inl ⟨rfl, by simp [upd] <;> (intro w9; omega), by simp [upd] <;> (intro w9; omega)⟩)))))))) fun j hj => by rw [ud_n (by omega), ud_n (by omega)])) fun v hn => y_st h (c := 1) (by omega) (g2 _ _ (Or.inr (Or.inl ⟨Or.inr (Or.inr (Or.inr hl)), hn, rfl⟩)))
  · unfold wX5_readsOrderb315
    simp (disch := omega) only [m_p16 h, prM_s16, m_i15, prM_15, m_p15 h]
    refine ⟨ok_b1, ?_⟩
    rw [show (1 : Int32) = Int32.ofNat 1 from rfl, i_sub (by omega), show i + 1 - 1 = i by omega, prM_s15]
    refine g2 i _ (Or.inl ⟨fun c hc j hj => u ?_, rfl⟩)
    rw [hv_s hc]
    have h9 : j < 9 := (List.getElem?_eq_some_iff.mp hj).1
    have : j = 0 ∨ j = 1 ∨ j = 2 ∨ j = 3 ∨ j = 4 ∨ j = 5 ∨ j = 6 ∨ j = 7 ∨ j = 8 := by omega
    rcases this with rfl | rfl | rfl | rfl | rfl | rfl | rfl | rfl | rfl <;> (have : _ = c := Option.some.inj hj; subst this; decide)
end MR4
