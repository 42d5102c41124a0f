/-! the model, new -/
set_option maxRecDepth 100000
theorem mz_of {z : hSt} {a : Nat} {A : Nat → Nat} {M : mSt} (h0 : z.1 a = some (.inr (4, mFs A M))) (hA : ∀ q ∈ mArr, z.1 (A q.1) = some (.inl (q.2.1, q.2.2, .inl (M.1 q.1)))) : mz z a A M = z := by
  have q0 := hA (0, 0, 223) (by decide)
  have q1 := hA (1, 0, 223) (by decide)
  have q2 := hA (2, 0, 1338) (by decide)
  have q4 := hA (4, 0, 223) (by decide)
  have q6 := hA (6, 3, 60) (by decide)
  have q12 := hA (12, 3, 60) (by decide)
  have q17 := hA (17, 0, 300) (by decide)
  refine Prod.ext (funext fun b => ?_) rfl
  show (if b = a then _ else _) = _
  by_cases e : b = a
  · rw [if_pos e, e, h0]
  rw [if_neg e]
  by_cases e0 : b = A 0
  · rw [if_pos e0, e0, q0]
  rw [if_neg e0]
  by_cases e1 : b = A 1
  · rw [if_pos e1, e1, q1]
  rw [if_neg e1]
  by_cases e2 : b = A 2
  · rw [if_pos e2, e2, q2]
  rw [if_neg e2]
  by_cases e4 : b = A 4
  · rw [if_pos e4, e4, q4]
  rw [if_neg e4]
  by_cases e6 : b = A 6
  · rw [if_pos e6, e6, q6]
  rw [if_neg e6]
  by_cases e12 : b = A 12
  · rw [if_pos e12, e12, q12]
  rw [if_neg e12]
  by_cases e17 : b = A 17
  · rw [if_pos e17, e17, q17]
  rw [if_neg e17]
/-- one cell of the object written -/
theorem pt_k {G : gE} {z : hSt} {a k ci : Nat} {fs : List Value} {v : Value} {K : hSt → Prop} (ha : z.1 a = some (.inr (ci, fs))) (hc : ci ≠ 17 ∧ ci ≠ 25) (hk : k < fs.length) (hK : K (hset z a (.inr (ci, fs.set k v)))) : ptV G z (some a) [ci] k v K := ⟨a, ci, fs, rfl, ha, List.mem_singleton.mpr rfl, hk, fun h => by omega, hK⟩
/-- the numbers at the beginning, p pupils and s schools seen -/
def ini (p s : Nat) : Nat → Int32 := fun i => if 114 ≤ i ∧ i < 114 + p then 20 else if 132 ≤ i ∧ i < 132 + s then 5 else 0
def M0 (p s : Nat) : mSt := (fun k => if k = 0 then ini p s else fun _ => 0, fun k => if k = 8 then -1 else 0)
def A0 (b : Nat) : Nat → Nat := fun k => if k = 0 then b else if k = 1 then b + 1 else if k = 2 then b + 2 else if k = 4 then b + 3 else if k = 6 then b + 4 else if k = 12 then b + 5 else b + 6
theorem ini_p {p : Nat} (h : p < 6) : upA (M0 p 0) 0 (114 + p) 20 = M0 (p + 1) 0 := by
  refine Prod.ext (funext fun k => funext fun i => ?_) rfl
  show (if k = 0 then (if i = 114 + p then 20 else (M0 p 0).1 k i) else (M0 p 0).1 k i) = (if k = 0 then ini (p + 1) 0 else fun _ => 0) i
  by_cases hk : k = 0
  · subst hk
    rw [if_pos rfl, if_pos rfl]
    show (if i = 114 + p then 20 else ini p 0 i) = ini (p + 1) 0 i
    unfold ini
    by_cases hi : i = 114 + p
    · rw [if_pos hi, if_pos (by omega)]
    · rw [if_neg hi]
      by_cases h2 : 114 ≤ i ∧ i < 114 + p
      · rw [if_pos h2, if_pos (by omega)]
      · rw [if_neg h2, if_neg (by omega : ¬ (114 ≤ i ∧ i < 114 + (p + 1)))]
  · rw [if_neg hk, if_neg hk]
    show (if k = 0 then ini p 0 else fun _ => 0) i = _
    rw [if_neg hk]
theorem ini_s {s : Nat} (h : s < 3) : upA (M0 6 s) 0 (132 + s) 5 = M0 6 (s + 1) := by
  refine Prod.ext (funext fun k => funext fun i => ?_) rfl
  show (if k = 0 then (if i = 132 + s then 5 else (M0 6 s).1 k i) else (M0 6 s).1 k i) = (if k = 0 then ini 6 (s + 1) else fun _ => 0) i
  by_cases hk : k = 0
  · subst hk
    rw [if_pos rfl, if_pos rfl]
    show (if i = 132 + s then 5 else ini 6 s i) = ini 6 (s + 1) i
    unfold ini
    by_cases hi : i = 132 + s
    · rw [if_pos hi, if_neg (by omega : ¬ (114 ≤ i ∧ i < 114 + 6)), if_pos (by omega)]
    · rw [if_neg hi]
      by_cases h1 : 114 ≤ i ∧ i < 114 + 6
      · rw [if_pos h1, if_pos h1]
      · rw [if_neg h1, if_neg h1]
        by_cases h2 : 132 ≤ i ∧ i < 132 + s
        · rw [if_pos h2, if_pos (by omega)]
        · rw [if_neg h2, if_neg (by omega : ¬ (132 ≤ i ∧ i < 132 + (s + 1)))]
  · rw [if_neg hk, if_neg hk]
    show (if k = 0 then ini 6 s else fun _ => 0) i = _
    rw [if_neg hk]
/-- the object a being filled, from σ; what arrays it has had made -/
def uc (G : gE) (σ : hSt) (a b : Nat) (fs : List Value) (L : List (Nat × Nat)) (z : hSt) : Prop := z.1 a = some (.inr (4, fs)) ∧ z.2.1 = b + L.length ∧ z.2.2 = σ.2.2 + (L.map (·.2)).sum ∧ (∀ j q, L[j]? = some q → z.1 (b + j) = some (.inl (q.1, q.2, .inl fun _ => 0))) ∧ (∀ x, x < b → x ≠ a → z.1 x = σ.1 x) ∧ a < b ∧ (∀ j, j < L.length → ¬ gX G (b + j)) ∧ ∀ x, b + L.length ≤ x → z.1 x = σ.1 x
theorem uc_put {G : gE} {σ : hSt} {a b : Nat} {fs : List Value} {L : List (Nat × Nat)} {z : hSt} {k : Nat} {v : Value} {K : hSt → Prop} (h : uc G σ a b fs L z) (hk : k < fs.length) (hK : ∀ z', uc G σ a b (fs.set k v) L z' → K z') : ptV G z (some a) [4] k v K := by
  obtain ⟨h1, h2, h3, h4, h5, h6, h7, h8⟩ := h
  refine pt_k h1 (by omega) hk (hK _ ⟨hup_s, h2, h3, fun j q hq => ?_, fun x hx hxa => ?_, h6, h7, fun x hx => ?_⟩)
  · show hup z.1 a _ (b + j) = _
    rw [hup_n (by omega)]
    exact h4 j q hq
  · show hup z.1 a _ x = _
    rw [hup_n hxa]
    exact h5 x hx hxa
  · show hup z.1 a _ x = _
    rw [hup_n (by omega)]
    exact h8 x hx
theorem uc_arr {G : gE} {σ : hSt} {a b : Nat} {fs : List Value} {L : List (Nat × Nat)} {z : hSt} {k ti n : Nat} {K : hSt → Prop} (h : uc G σ a b fs L z) (hk : k < fs.length) (hn : n ≤ 67108864) (hl : b + L.length + 1 ≤ gL G) (hu : σ.2.2 + (L.map (·.2)).sum + n ≤ gU G) (hK : ∀ z', uc G σ a b (fs.set k (va_rf (some (b + L.length)))) (L ++ [(ti, n)]) z' → K z') : nwA G z ti (.inl fun _ => 0) (Int32.ofNat n) (fun x z2 => ptV G z2 (some a) [4] k (va_rf (some x)) K) := by
  obtain ⟨h1, h2, h3, h4, h5, h6, h7, h8⟩ := h
  refine ⟨i_nn (by omega), by rw [i_nat (by omega)]; exact hn, by rw [h2]; exact hl, by rw [h3, i_nat (by omega)]; exact hu, fun _ hX => ?_⟩
  rw [i_nat (by omega), h2]
  rw [h2] at hX
  refine uc_put (L := L ++ [(ti, n)]) ⟨?_, ?_, ?_, fun j q hq => ?_, fun x hx hxa => ?_, h6, fun j hj => ?_, fun x hx => ?_⟩ hk hK
  · show hup z.1 z.2.1 _ a = _
    rw [hup_n (by omega)]
    exact h1
  · show z.2.1 + 1 = _
    rw [h2, List.length_append]
    rfl
  · show z.2.2 + n = _
    rw [h3, List.map_append, List.sum_append]
    show _ = σ.2.2 + ((L.map (·.2)).sum + (n + 0))
    omega
  · show hup z.1 z.2.1 _ (b + j) = _
    by_cases e : j = L.length
    · subst e
      rw [List.getElem?_append_right (Nat.le_refl _), Nat.sub_self] at hq
      cases hq
      rw [h2, hup_s]
    · have hj : j < L.length := by
        have := (List.getElem?_eq_some_iff.mp hq).1
        rw [List.length_append] at this
        simp at this
        omega
      rw [List.getElem?_append_left hj] at hq
      rw [hup_n (by omega)]
      exact h4 j q hq
  · show hup z.1 z.2.1 _ x = _
    rw [hup_n (by omega)]
    exact h5 x hx hxa
  · by_cases e : j = L.length
    · rw [e]; exact hX
    · exact h7 j (by rw [List.length_append] at hj; simp at hj; omega)
  · rw [List.length_append, List.length_singleton] at hx
    show hup z.1 z.2.1 _ x = _
    rw [hup_n (by omega)]
    exact h8 x (by omega)
theorem X_init {G : gE} {σ : hSt} {a : Nat} {P : hSt → Prop} {PX : Nat → Nat → hSt → Prop} (ha : σ.1 a = some (.inr (4, dfX5))) (hlt : a < σ.2.1) (hX : ¬ gX G a) (hl : σ.2.1 + 7 ≤ gL G) (hu : σ.2.2 + 2427 ≤ gU G) (hP : ∀ z, mOK G a (A0 σ.2.1) → (∀ x, x < σ.2.1 → x ≠ a → z.1 x = σ.1 x) → (∀ x, σ.2.1 + 7 ≤ x → z.1 x = σ.1 x) → z.2.1 = σ.2.1 + 7 → z.2.2 = σ.2.2 + 2427 → P (mz z a (A0 σ.2.1) (M0 6 3))) : wX5_init G P PX (some a) σ := by
  unfold wX5_init wX5_initb0
  refine ⟨⟨a, rfl⟩, ?_⟩
  have u0 : uc G σ a σ.2.1 dfX5 [] σ := ⟨ha, rfl, rfl, fun j q hq => (nomatch hq), fun _ _ _ => rfl, hlt, fun j hj => absurd hj (Nat.not_lt_zero j), fun _ _ => rfl⟩
  refine uc_arr (n := 223) u0 (Nat.le_of_ble_eq_true rfl) (by omega) (by simp; omega) (by simp; omega) fun z1 u1 => ?_
  refine uc_arr (n := 223) u1 (Nat.le_of_ble_eq_true rfl) (by omega) (by simp; omega) (by simp; omega) fun z2 u2 => ?_
  refine uc_arr (n := 1338) u2 (Nat.le_of_ble_eq_true rfl) (by omega) (by simp; omega) (by simp; omega) fun z3 u3 => ?_
  refine uc_arr (n := 223) u3 (Nat.le_of_ble_eq_true rfl) (by omega) (by simp; omega) (by simp; omega) fun z4 u4 => ?_
  refine uc_arr (n := 60) u4 (Nat.le_of_ble_eq_true rfl) (by omega) (by simp; omega) (by simp; omega) fun z5 u5 => ?_
  refine uc_put u5 (Nat.le_of_ble_eq_true rfl) fun z6 u6 => ?_
  refine uc_arr (n := 60) u6 (Nat.le_of_ble_eq_true rfl) (by omega) (by simp; omega) (by simp; omega) fun z7 u7 => ?_
  refine uc_arr (n := 300) u7 (Nat.le_of_ble_eq_true rfl) (by omega) (by simp; omega) (by simp; omega) fun z8 u8 => ?_
  obtain ⟨h1, h2, h3, h4, h5, h6, h7, h8⟩ := u8
  have hOK : mOK G a (A0 σ.2.1) := by
    refine ⟨?_, ?_⟩
    · simp only [A0, List.nodup_cons, List.mem_cons, List.not_mem_nil, or_false, not_or, List.nodup_nil, and_true, not_false_eq_true]
      simp
      omega
    · intro x hx
      have g0 := h7 0 (by decide)
      have g1 := h7 1 (by decide)
      have g2 := h7 2 (by decide)
      have g3 := h7 3 (by decide)
      have g4 := h7 4 (by decide)
      have g5 := h7 5 (by decide)
      have g6 := h7 6 (by decide)
      simp only [A0, List.mem_cons, List.not_mem_nil, or_false] at hx
      rcases hx with rfl | rfl | rfl | rfl | rfl | rfl | rfl | rfl
      · exact hX
      · exact g0
      · exact g1
      · exact g2
      · exact g3
      · exact g4
      · exact g5
      · exact g6
  have hz : mz z8 a (A0 σ.2.1) (M0 0 0) = z8 := by
    have hi : ini 0 0 = fun _ => 0 := by
      funext i
      unfold ini
      rw [if_neg (by omega), if_neg (by omega)]
    refine mz_of h1 fun q hq => ?_
    simp only [mArr, List.mem_cons, List.not_mem_nil, or_false] at hq
    rcases hq with rfl | rfl | rfl | rfl | rfl | rfl | rfl
    · have := h4 0 _ rfl
      rw [show (M0 0 0).1 0 = fun _ => 0 from hi]
      exact this
    · exact h4 1 _ rfl
    · exact h4 2 _ rfl
    · exact h4 3 _ rfl
    · exact h4 4 _ rfl
    · exact h4 5 _ rfl
    · exact h4 6 _ rfl
  have hfin := hP z8 hOK h5 (fun x hx => h8 x hx) (by rw [h2]; rfl) (by rw [h3]; rfl)
  rw [← hz]
  refine lp_det 6 (fun p => (some a, Int32.ofNat p, mz z8 a (A0 σ.2.1) (M0 p 0))) (fun y => 6 - y.2.1.toNatClampNeg) (fun e he => by show _ - (Int32.ofNat e).toNatClampNeg = _; rw [i_nat (by omega)]) rfl ?_
  intro p hp K hK
  unfold wX5_initb72
  dsimp only
  rw [show (6 : Int32) = Int32.ofNat 6 from rfl, i_le (by omega) (by omega)]
  refine ⟨fun q => ?_, fun q => ?_⟩
  · have : p = 6 := by omega
    subst this
    refine lp_det 3 (fun s => (some a, Int32.ofNat s, mz z8 a (A0 σ.2.1) (M0 6 s))) (fun y => 3 - y.2.1.toNatClampNeg) (fun e he => by show _ - (Int32.ofNat e).toNatClampNeg = _; rw [i_nat (by omega)]) rfl ?_
    intro s hs K2 hK2
    unfold wX5_initb97
    dsimp only
    rw [show (3 : Int32) = Int32.ofNat 3 from rfl, i_le (by omega) (by omega)]
    refine ⟨fun q => ?_, fun q => ?_⟩
    · have : s = 3 := by omega
      subst this
      exact hfin
    · simp (disch := omega) only [m_g0, m_s0 hOK, ix132, i_nat, iv, true_and, nar_i, i_succ, ini_s]
      exact hK2 (by omega)
  · simp (disch := omega) only [m_g0, m_s0 hOK, ix114, i_nat, iv, true_and, nar_i, i_succ, ini_p]
    exact hK (by omega)
