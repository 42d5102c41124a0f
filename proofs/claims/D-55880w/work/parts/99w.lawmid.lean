/-! the law: a round's beginning, its middle, its end -/
set_option maxRecDepth 100000
/-- the model's fields beside its numbers -/
def MS (M : mSt) (hg : List (Nat → Int32)) (sg : Option (Nat → Int32)) (T U : List Nat) (er wy dt : Int32) : Prop :=
  (M.2 3 = Int32.ofNat hg.length ∧ hg.length ≤ 6 ∧ ∀ j gg, hg[j]? = some gg → ∀ i, i < 223 → gg i = M.1 2 (j * 223 + i)) ∧ ((sg = none ∧ M.2 5 = 0) ∨ ∃ gg, sg = some gg ∧ M.2 5 ≠ 0 ∧ ∀ i, i < 223 → gg i = M.1 4 i) ∧ inp M T ∧ (M.2 13 = Int32.ofNat U.length ∧ ∀ i c, U[i]? = some c → M.1 12 i = Int32.ofNat c) ∧ M.2 8 = er ∧ M.2 9 = wy ∧ M.2 10 = dt
/-- the law's own arrays: the answers' and the script's -/
def FR (G : gE) (z : hSt) (A : Nat → Nat) (oL oD sc L : Nat) (xs : Nat → Int32) : Prop := (∃ f, z.1 oL = some (.inl (1, 1, .inr (.inl f)))) ∧ ¬ gX G oL ∧ (∃ f, z.1 oD = some (.inl (4, 1, .inr (.inr (.inr (.inl f)))))) ∧ ¬ gX G oD ∧ z.1 sc = some (.inl (0, L, .inl xs)) ∧ ∀ q ∈ mArr, sc ≠ A q.1
/-- r rounds are done -/
def RB (G : gE) (z : hSt) (x a oL oD sc L : Nat) (A : Nat → Nat) (xs : Nat → Int32) (r N : Nat) (M : mSt) (hg : List (Nat → Int32)) (sg : Option (Nat → Int32)) (T U : List Nat) (er wy dt : Int32) : Prop :=
  (SI G z ∧ mz z a A M = z ∧ mOK G a A) ∧ CS G z x N (M.1 0) hg sg T U er wy dt ∧ MS M hg sg T U er wy dt ∧ FR G z A oL oD sc L xs ∧ bd G z (49000 * (24 - r) + 400 * T.length) ∧ N + T.length ≤ r
def RS (G : gE) (z : hSt) (x a oL oD sc L : Nat) (A : Nat → Nat) (xs : Nat → Int32) (r : Nat) : Prop := ∃ N M hg sg T U er wy dt, RB G z x a oL oD sc L A xs r N M hg sg T U er wy dt
/-- the component is done, the model not yet -/
def MD (G : gE) (z : hSt) (x a oL oD sc L : Nat) (A : Nat → Nat) (xs : Nat → Int32) (r N : Nat) (M : mSt) (g : Nat → Int32) (hg : List (Nat → Int32)) (sg : Option (Nat → Int32)) (T U : List Nat) (er wy dt : Int32) : Prop :=
  (SI G z ∧ mz z a A M = z ∧ mOK G a A) ∧ CS G z x N g hg sg T U er wy dt ∧ FR G z A oL oD sc L xs ∧ bd G z (49000 * (24 - (r + 1)) + 400 * T.length) ∧ N + T.length ≤ r + 1
section MID
variable {G : gE} {σ τ : hSt} {x a oL oD sc L r N N' c : Nat} {A : Nat → Nat} {xs : Nat → Int32} {M M' : mSt} {g g' : Nat → Int32} {hg hg' : List (Nat → Int32)} {sg sg' : Option (Nat → Int32)} {T T' U U' : List Nat} {er wy dt er' wy' dt' : Int32} {PX : Nat → Nat → hSt → Prop}
theorem FR_ev {W : Nat → Nat → Prop} (h : FR G σ A oL oD sc L xs) (e : ev G W c σ τ) (h1 : ¬ W oL 101) (h4 : ¬ W oD 104) (h0 : ¬ W sc 100) : FR G τ A oL oD sc L xs := by
  obtain ⟨⟨f1, a1⟩, a2, ⟨f2, a3⟩, a4, a5, a6⟩ := h
  exact ⟨⟨f1, e.a a1 h1⟩, a2, ⟨f2, e.a a3 h4⟩, a4, e.a a5 h0, a6⟩
theorem rb_md (hB : RB G σ x a oL oD sc L A xs r N M hg sg T U er wy dt) (hr : r < 24) (e : ev G Wo c σ τ) (hC : CS G τ x N' g' hg' sg' T' U' er' wy' dt') (hc : c + 400 * T'.length ≤ 49000 + 400 * T.length) (hN : N' + T'.length ≤ r + 1) : MD G τ x a oL oD sc L A xs r N' M g' hg' sg' T' U' er' wy' dt' := by
  obtain ⟨⟨hS, hz, hok⟩, -, -, hF, hbd, -⟩ := hB
  exact ⟨⟨e.t, mz_keep hz hok e fun b k w => ⟨w.1, w.2.1, w.2.2.2.1⟩, hok⟩, hC, FR_ev hF e (fun w => w.2.2.1 rfl) (fun w => w.2.2.2.2 rfl) (fun w => w.2.1 rfl), e.rm hbd (by omega), hN⟩
/-- nothing of the object changed -/
theorem rb_mq (hB : RB G σ x a oL oD sc L A xs r N M hg sg T U er wy dt) (hr : r < 24) (e : ev G W0 c σ τ) (hc : c ≤ 49000) : MD G τ x a oL oD sc L A xs r N M (M.1 0) hg sg T U er wy dt :=
  rb_md hB hr e.up0 (hB.2.1.ev e W0_u) (by omega) (by have := hB.2.2.2.2.2; omega)
/-- the answer written -/
theorem md_L (h : MD G τ x a oL oD sc L A xs r N M g hg sg T U er wy dt) {v : Int64} {K : hSt → Prop} (hK : ∀ υ f, MD G υ x a oL oD sc L A xs r N M g hg sg T U er wy dt → υ.1 oL = some (.inl (1, 1, .inr (.inl f))) → f 0 = v → K υ) : asL G τ (some oL) 0 v K := by
  obtain ⟨⟨hS, hz, hok⟩, hC, ⟨⟨f1, a1⟩, a2, ⟨f2, a3⟩, a4, a5, a6⟩, hb, hN⟩ := h
  refine ⟨oL, 1, f1, rfl, a1, a2, i_in (k := 0) (by omega) (by omega), ?_⟩
  have e : ev G (W1 oL 101) 0 τ (hset τ oL (.inl (1, 1, .inr (.inl (vp_updL f1 (0 : Int32).toNatClampNeg v))))) := wr_ev hS a1 wr_set rfl (fun ci1 fs1 e1 => nomatch e1) (fun x _ => a2) fun ci1 fs1 e1 => nomatch e1
  have hn : (hset τ oL (.inl (1, 1, .inr (.inl (vp_updL f1 (0 : Int32).toNatClampNeg v))))).1 oL = some (.inl (1, 1, .inr (.inl (vp_updL f1 (0 : Int32).toNatClampNeg v)))) := hup_s
  exact hK _ _ ⟨⟨e.t, mz_keep hz hok e fun b k w => ⟨fun q => by have := w.2; omega, fun q => by have := w.2; omega, fun q => by have := w.2; omega⟩, hok⟩, hC.ev e (fun b k w => Or.inr (Or.inr (Or.inl w.2))), ⟨⟨_, hn⟩, a2, ⟨f2, e.a a3 fun w => by have := w.2; omega⟩, a4, e.a a5 (fun w => by have := w.2; omega), a6⟩, e.rm hb (by omega), hN⟩ hn rfl
theorem md_D (h : MD G τ x a oL oD sc L A xs r N M g hg sg T U er wy dt) {v : UInt64} {K : hSt → Prop} (hK : ∀ υ f, MD G υ x a oL oD sc L A xs r N M g hg sg T U er wy dt → υ.1 oD = some (.inl (4, 1, .inr (.inr (.inr (.inl f))))) → f 0 = v → K υ) : asD G τ (some oD) 0 v K := by
  obtain ⟨⟨hS, hz, hok⟩, hC, ⟨⟨f1, a1⟩, a2, ⟨f2, a3⟩, a4, a5, a6⟩, hb, hN⟩ := h
  refine ⟨oD, 1, f2, rfl, a3, a4, i_in (k := 0) (by omega) (by omega), ?_⟩
  have e : ev G (W1 oD 104) 0 τ (hset τ oD (.inl (4, 1, .inr (.inr (.inr (.inl (vf_upd f2 (0 : Int32).toNatClampNeg v))))))) := wr_ev hS a3 wr_set rfl (fun ci1 fs1 e1 => nomatch e1) (fun x _ => a4) fun ci1 fs1 e1 => nomatch e1
  have hn : (hset τ oD (.inl (4, 1, .inr (.inr (.inr (.inl (vf_upd f2 (0 : Int32).toNatClampNeg v))))))).1 oD = some (.inl (4, 1, .inr (.inr (.inr (.inl (vf_upd f2 (0 : Int32).toNatClampNeg v)))))) := hup_s
  exact hK _ _ ⟨⟨e.t, mz_keep hz hok e fun b k w => ⟨fun q => by have := w.2; omega, fun q => by have := w.2; omega, fun q => by have := w.2; omega⟩, hok⟩, hC.ev e (fun b k w => Or.inr (Or.inr (Or.inr (Or.inr w.2)))), ⟨⟨f1, e.a a1 fun w => by have := w.2; omega⟩, a2, ⟨_, hn⟩, a4, e.a a5 (fun w => by have := w.2; omega), a6⟩, e.rm hb (by omega), hN⟩ hn rfl
/-- the script is read -/
theorem sc_1 (hF : FR G τ A oL oD sc L xs) {i j : Nat} (hj : i + j < L) (hL : L ≤ 120) {K : Int32 → Prop} (hK : K (xs (i + j))) : alI τ (some sc) 0 (Int32.ofNat i + Int32.ofNat j) K := by
  obtain ⟨-, -, -, -, a5, -⟩ := hF
  rw [i_add]
  exact aI a5 (by omega) (by omega) hK
/-- the round's end -/
theorem md_end (h : MD G τ x a oL oD sc L A xs r N M g hg sg T U er wy dt) (hgg : ∀ i, i < 223 → M'.1 0 i = g i) (hM : MS M' hg sg T U er wy dt) : RS G (mz τ a A M') x a oL oD sc L A xs (r + 1) := by
  obtain ⟨⟨hS, hz, hok⟩, hC, hF, hb, hN⟩ := h
  have e : ev G (Wmo a A) 0 (mz τ a A M) (mz τ a A M') := mz_ev (by rw [hz]; exact hS) hok
  rw [hz] at e
  refine ⟨N, M', hg, sg, T, U, er, wy, dt, ⟨e.t, mz_self hok, hok⟩, cs_congr e.t (hC.ev e Wmo_u) hgg, hM, FR_ev hF e (fun w => ?_) (fun w => ?_) (fun w => ?_), e.rm hb (by omega), hN⟩
  · rcases w with w | w
    · have := w.2; omega
    · have := w.1; omega
  · rcases w with w | w
    · have := w.2; omega
    · have := w.1; omega
  · rcases w with w | ⟨-, q, hq, w⟩
    · have := w.2; omega
    · exact hF.2.2.2.2.2 q hq w
theorem md_a (h : MD G τ x a oL oD sc L A xs r N M g hg sg T U er wy dt) : ∃ f, (mz τ a A M').1 oL = some (.inl (1, 1, .inr (.inl f))) ∧ τ.1 oL = some (.inl (1, 1, .inr (.inl f))) := by
  obtain ⟨⟨hS, hz, hok⟩, hC, hF, hb, hN⟩ := h
  have e : ev G (Wmo a A) 0 (mz τ a A M) (mz τ a A M') := mz_ev (by rw [hz]; exact hS) hok
  rw [hz] at e
  obtain ⟨⟨f, hf⟩, -⟩ := hF
  refine ⟨f, e.a hf fun w => ?_, hf⟩
  rcases w with w | w
  · have := w.2; omega
  · have := w.1; omega
theorem md_b (h : MD G τ x a oL oD sc L A xs r N M g hg sg T U er wy dt) : ∃ f, (mz τ a A M').1 oD = some (.inl (4, 1, .inr (.inr (.inr (.inl f))))) ∧ τ.1 oD = some (.inl (4, 1, .inr (.inr (.inr (.inl f))))) := by
  obtain ⟨⟨hS, hz, hok⟩, hC, hF, hb, hN⟩ := h
  have e : ev G (Wmo a A) 0 (mz τ a A M) (mz τ a A M') := mz_ev (by rw [hz]; exact hS) hok
  rw [hz] at e
  obtain ⟨-, -, ⟨f, hf⟩, -⟩ := hF
  refine ⟨f, e.a hf fun w => ?_, hf⟩
  rcases w with w | w
  · have := w.2; omega
  · have := w.1; omega
/-- what was thrown, what was answered: an int -/
theorem tail_i {P : Int32 → hSt → Prop} {NX : hSt → Prop} {k v : Int32} (h : MD G τ x a oL oD sc L A xs r N M g hg sg T U er wy dt) (hout : k = 0 → ∃ f, τ.1 oL = some (.inl (1, 1, .inr (.inl f))) ∧ f 0 = (v : Int32).toInt64) (h14 : M'.2 14 = k) (hn : NX (mz τ a A M')) : rcv (mz τ a A M') (some a) 4 ∧ wX5_thrown G (fun x26 z25 => ((x26 = k → ((¬ k = 0 → NX z25) ∧ (k = 0 → alL z25 (some oL) 0 (fun x27 => (((lg_cmp x27 ((v : Int32).toInt64)) = 0 → NX z25) ∧ (¬ (lg_cmp x27 ((v : Int32).toInt64)) = 0 → P 0 z25)))))) ∧ (¬ x26 = k → P 0 z25))) PX (some a) (mz τ a A M') := by
  refine ⟨m_rcv, ?_⟩
  unfold wX5_thrown wX5_thrownb0
  rw [m_i14, h14]
  refine ⟨fun _ => ⟨fun _ => hn, fun hk => ?_⟩, fun w => absurd rfl w⟩
  obtain ⟨f, hf, hv⟩ := hout hk
  obtain ⟨f', h1, h2⟩ := md_a (M' := M') h
  have e : f' = f := by
    have := h2.symm.trans hf
    injection this with this; injection this with this; injection this with _ this; injection this with _ this; injection this with this; injection this
  refine ⟨oL, 1, f', rfl, h1, i_in (k := 0) (by omega) (by omega), ?_⟩
  rw [e]
  have e0 : f (0 : Int32).toNatClampNeg = (v : Int32).toInt64 := hv
  rw [e0]
  exact ⟨fun _ => hn, fun w => absurd ((lg_cmp_eq _ _).mpr rfl) w⟩
/-- a boolean -/
theorem tail_b {P : Int32 → hSt → Prop} {NX : hSt → Prop} {k v : Int32} (hv01 : v = 0 ∨ v = 1) (h : MD G τ x a oL oD sc L A xs r N M g hg sg T U er wy dt) (hout : k = 0 → ∃ f, τ.1 oL = some (.inl (1, 1, .inr (.inl f))) ∧ f 0 = (v : Int32).toInt64) (h14 : M'.2 14 = k) (hn : NX (mz τ a A M')) : rcv (mz τ a A M') (some a) 4 ∧ wX5_thrown G (fun x91 z90 => ((x91 = k → ((¬ k = 0 → NX z90) ∧ (k = 0 → alL z90 (some oL) 0 (fun x92 => ((v = 0 → (((lg_cmp x92 0) = 0 → NX z90) ∧ (¬ (lg_cmp x92 0) = 0 → P 0 z90))) ∧ (¬ v = 0 → (((lg_cmp x92 1) = 0 → NX z90) ∧ (¬ (lg_cmp x92 1) = 0 → P 0 z90)))))))) ∧ (¬ x91 = k → P 0 z90))) PX (some a) (mz τ a A M') := by
  refine ⟨m_rcv, ?_⟩
  unfold wX5_thrown wX5_thrownb0
  rw [m_i14, h14]
  refine ⟨fun _ => ⟨fun _ => hn, fun hk => ?_⟩, fun w => absurd rfl w⟩
  obtain ⟨f, hf, hv⟩ := hout hk
  obtain ⟨f', h1, h2⟩ := md_a (M' := M') h
  have e : f' = f := by
    have := h2.symm.trans hf
    injection this with this; injection this with this; injection this with _ this; injection this with _ this; injection this with this; injection this
  refine ⟨oL, 1, f', rfl, h1, i_in (k := 0) (by omega) (by omega), ?_⟩
  rw [e]
  have e0 : f (0 : Int32).toNatClampNeg = (v : Int32).toInt64 := hv
  rw [e0]
  rcases hv01 with rfl | rfl
  · exact ⟨fun _ => ⟨fun _ => hn, fun w => absurd (by decide) w⟩, fun w => absurd rfl w⟩
  · exact ⟨fun w => absurd w (by decide), fun _ => ⟨fun _ => hn, fun w => absurd (by decide) w⟩⟩
/-- the model's other fields are as they were -/
theorem MS_q (h : MS M hg sg T U er wy dt) (h1 : ∀ k, k ≠ 0 → k ≠ 1 → k ≠ 17 → M'.1 k = M.1 k) (h2 : ∀ k, k ≠ 14 → k ≠ 11 → M'.2 k = M.2 k) : MS M' hg sg T U er wy dt := by
  obtain ⟨⟨a1, a2, a3⟩, b, ⟨c1, c2, c3⟩, ⟨d1, d2⟩, e1, e2, e3⟩ := h
  refine ⟨⟨(h2 3 (by decide) (by decide)).trans a1, a2, fun j gg hj i hi => by rw [h1 2 (by decide) (by decide) (by decide)]; exact a3 j gg hj i hi⟩, ?_, ⟨(h2 7 (by decide) (by decide)).trans c1, c2, fun i c hc => by rw [h1 6 (by decide) (by decide) (by decide)]; exact c3 i c hc⟩, ⟨(h2 13 (by decide) (by decide)).trans d1, fun i c hc => by rw [h1 12 (by decide) (by decide) (by decide)]; exact d2 i c hc⟩, (h2 8 (by decide) (by decide)).trans e1, (h2 9 (by decide) (by decide)).trans e2, (h2 10 (by decide) (by decide)).trans e3⟩
  rw [h2 5 (by decide) (by decide), h1 4 (by decide) (by decide) (by decide)]
  exact b
theorem MS_14 (h : MS M hg sg T U er wy dt) {n : Int32} : MS (upS M 14 n) hg sg T U er wy dt := MS_q h (fun _ _ _ _ => rfl) fun k q _ => by simp [upS, q]
theorem MS_F (h : MS M hg sg T U er wy dt) {n : Int32} : MS (mF M n) hg sg T U er wy dt := MS_q h (fun _ _ _ _ => rfl) fun k q1 q2 => by simp [upS, mF, q1, q2]
theorem m14_F {n : Int32} : (mF M n).2 14 = n := by simp [upS, mF]
theorem m14_S {n : Int32} : (upS M 14 n).2 14 = n := by simp [upS]
end MID
