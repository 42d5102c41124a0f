/-! the object: told, bagged, appended, undone, saved, restored, made -/
set_option maxRecDepth 100000
theorem GI.gQ {N : Nat} {g : Nat → Int32} (h : GI N g) : gQ g := fun e he => by
  have h12 := h.1.1.1
  obtain ⟨⟨n, hn, e1⟩, ⟨m, hm, e2⟩, -⟩ := h.2.2.1 e (by omega)
  rw [e1, e2, i_nat (by omega), i_nat (by omega)]
  exact ⟨⟨by omega, rfl⟩, by omega, rfl⟩
theorem linT_len {g : Nat → Int32} {e : Nat} : (linT g e).length ≤ 10 := by
  unfold linT nmT
  by_cases h : g (102 + e) ≤ 0
  · rw [if_pos h]; simp
  · rw [if_neg h]; simp
theorem Wb_g {b arr : Nat} : Wg (Wb b arr) := fun b => ⟨by omega, by omega, by omega, by omega, by omega, by omega, by omega, by omega, by omega, by omega, by omega, by omega, by omega, by omega, by omega⟩
theorem Wl_g {G : gE} {a arr : Nat} : Wg (Wl G a arr) := fun b => ⟨by omega, by omega, by omega, by omega, by omega, by omega, by omega, by omega, by omega, by omega, by omega, by omega, by omega, by omega, by omega⟩
section PU8
variable {G : gE} {σ : hSt} {PX : Nat → Nat → hSt → Prop} {P : Int32 → hSt → Prop} {x N : Nat} {g : Nat → Int32} {hg : List (Nat → Int32)} {sg : Option (Nat → Int32)} {T U : List Nat} {er wy dt : Int32}
theorem w1x_o {a k : Nat} (w : W1 x 0 a k) : Wo a k := by
  have := w.2
  show k ≠ 4 ∧ k ≠ 100 ∧ k ≠ 101 ∧ k ≠ 103 ∧ k ≠ 104
  omega
theorem SB.lt {b arr : Nat} (hS : SI G σ) (h : SB G σ b arr T) : arr < σ.2.1 := by
  obtain ⟨cap, f, ml, -, q2, -⟩ := h
  exact hS.lt q2
theorem c_tell {k t : Int32} (hS : SI G σ) (hC : CS G σ x N g hg sg T U er wy dt) (hb : bd G σ 1600) (hX : ¬ isX k t → XD G σ PX 29) (hE : isX k t → noF g k t → XD G σ PX 28) (hP : ∀ e τ, isX k t → isF g k t e → ev G Wo 1500 σ τ → CS G τ x N g hg sg T (linT g e) er wy dt → P (Int32.ofNat (linT g e).length) τ) : wX1_tell G P PX (some x) k t σ := by
  obtain ⟨l, sv, H, arr, mdh, hs, ib, arb, ln, bt, rf, h1, ⟨⟨n0, o, A, md, es, hL, rfl⟩, hJ⟩, h3, ⟨h4, h4', h4''⟩, ⟨h5, h5'⟩, ⟨h6, h6'⟩, h7, h8⟩ := hC
  have hWg : Wg (W1 x 0) := W1_g (by decide)
  have n0 : ∀ b k, k ≠ 0 → ¬ W1 x 0 b k := fun b k q w => q w.2
  have hlt := h5.lt hS
  have hl := fun e => linT_len (g := g) (e := e)
  exact q_tell hS h1 rfl rfl hL hJ.1.gQ hJ.1.iOK.1 hb (fun w => xd_c (hX w)) (fun w1 w2 τ q e hq => hE w1 w2 τ q (e.le' (by omega)) hq) fun e τ s hx he ev1 hL' hx' hs' => hP e τ hx he (ev1.wo (fun a k w => w1x_o w) (Nat.le_refl _)) ⟨A 0, sv, H, arr, mdh, hs, ib, arb, s, bt, rf, hx', ⟨⟨_, o, A, md, es, hL', rfl⟩, hJ⟩, oSv_ev h3 ev1 hWg, ⟨h4.ev ev1 (n0 _ _ (by omega)) (n0 _ _ (by omega)), h4', hLs_ev ev1 hWg _ _ h4''⟩, ⟨h5.ev ev1 (n0 _ _ (by omega)) (n0 _ _ (by omega)), h5'⟩, ⟨hs'.mono fun a e ha w => by omega, Nat.le_trans (hl e) (by omega)⟩, oBT_ev h7 ev1 fun b => n0 _ _ (by omega), oRF_ev h8 ev1 fun b => n0 _ _ (by omega)⟩
theorem c_bag {v : Int32} (hS : SI G σ) (hC : CS G σ x N g hg sg T U er wy dt) (hb : bd G σ 8500) (hX : ¬ isP v → XD G σ PX 32) (hP : isP v → ∀ τ, ev G Wo 8000 σ τ → CS G τ x N g hg sg T (bagT g v (cnt g)) er wy dt → P (Int32.ofNat (bagT g v (cnt g)).length) τ) : wX1_bag G P PX (some x) v σ := by
  obtain ⟨l, sv, H, arr, mdh, hs, ib, arb, ln, bt, rf, h1, ⟨⟨n0, o, A, md, es, hL, rfl⟩, hJ⟩, h3, ⟨h4, h4', h4''⟩, ⟨h5, h5'⟩, ⟨h6, h6'⟩, h7, h8⟩ := hC
  have hWg : Wg (W1 x 0) := W1_g (by decide)
  have n0 : ∀ b k, k ≠ 0 → ¬ W1 x 0 b k := fun b k q w => q w.2
  have hlt := h5.lt hS
  have hl := bagT_len (g := g) (v := v) (cnt g)
  have h12 := hL.ok.1.1
  exact q_bag hS h1 rfl rfl hL hb (fun w => xd_c (hX w)) fun hp τ s ev1 hL' hx' hs' => hP hp τ (ev1.wo (fun a k w => w1x_o w) (Nat.le_refl _)) ⟨A 0, sv, H, arr, mdh, hs, ib, arb, s, bt, rf, hx', ⟨⟨_, o, A, md, es, hL', rfl⟩, hJ⟩, oSv_ev h3 ev1 hWg, ⟨h4.ev ev1 (n0 _ _ (by omega)) (n0 _ _ (by omega)), h4', hLs_ev ev1 hWg _ _ h4''⟩, ⟨h5.ev ev1 (n0 _ _ (by omega)) (n0 _ _ (by omega)), h5'⟩, ⟨hs'.mono fun a e ha w => by omega, by omega⟩, oBT_ev h7 ev1 fun b => n0 _ _ (by omega), oRF_ev h8 ev1 fun b => n0 _ _ (by omega)⟩
/-- a character that may be appended -/
theorem chr_of {v : Int32} (h : ¬ v < 32 ∧ ¬ 126 < v) : ∃ c : Nat, v = Int32.ofNat c ∧ 32 ≤ c ∧ c ≤ 126 := by
  have h0 : ¬ v < 0 := fun w => h.1 (by
    rw [Int32.lt_iff_toInt_lt] at w ⊢
    have e1 : (0 : Int32).toInt = 0 := rfl
    have e2 : (32 : Int32).toInt = 32 := rfl
    omega)
  obtain ⟨c, hc, rfl⟩ := i_of (n := 126) h0 h.2 (by omega)
  have h1 := h.1
  rw [show (32 : Int32) = Int32.ofNat 32 from rfl, i_lt (by omega) (by omega)] at h1
  exact ⟨c, rfl, by omega, hc⟩
theorem c_append {v : Int32} (hS : SI G σ) (hC : CS G σ x N g hg sg T U er wy dt) (hb : bd G σ 100) (hA : ¬ (¬ v < 32 ∧ ¬ 126 < v) → XD G σ PX 29) (hX : (¬ v < 32 ∧ ¬ 126 < v) → T.length = 60 → XD G σ PX 31) (hP : ∀ (c : Nat) τ, v = Int32.ofNat c → 32 ≤ c → c ≤ 126 → T.length < 60 → ev G Wo 71 σ τ → CS G τ x N g hg sg (T ++ [c]) U er wy dt → P (Int32.ofNat (T.length + 1)) τ) : wX1_append G P PX (some x) v σ := by
  obtain ⟨l, sv, H, arr, mdh, hs, ib, arb, ln, bt, rf, h1, h2, h3, ⟨h4, h4', h4''⟩, ⟨h5, h5'⟩, ⟨h6, h6'⟩, h7, h8⟩ := hC
  unfold wX1_append wX1_appendb0
  refine isIn_k (fun c1 => chkA_k hS (hb.mono (by omega)) (fun _ => gR h1 (by decide) rfl ⟨h5.rc, sb_len h5 ?_⟩) fun u => absurd u n10) fun c1 => chkA_k hS (hb.mono (by omega)) (fun u => absurd rfl u) fun _ => xd_c (hA c1)
  rw [show (60 : Int32) = Int32.ofNat 60 from rfl, i_le (by omega) (by omega)]
  refine ⟨fun w => ?_, fun w => ?_⟩
  · unfold wX1_appendb28
    exact chk_k hS (hb.mono (by omega)) (fun u => absurd rfl u) fun _ => xd_c (hX c1 (by omega))
  · unfold wX1_appendb28
    refine chk_k hS (hb.mono (by omega)) (fun _ => gR h1 (by decide) rfl ⟨h5.rc, ?_⟩) fun u => absurd u n10
    obtain ⟨c, rfl, hc1, hc2⟩ := chr_of c1
    refine sb_char hS h5 (by omega) (by omega) (hb.mono (by omega)) fun τ arr' e ha hs' => ?_
    have hx' := e.o h1 (by omega) (by decide) (by decide)
    refine gR hx' (by decide) rfl ⟨hs'.rc, sb_len hs' ?_⟩
    rw [List.length_append]
    have h6a : STq σ ln (fun a => a ≠ arb ∧ a < σ.2.1) U := h6.mono fun a e ha w => ⟨w, hS.lt ha⟩
    have h6b := h6a.ev e (fun b => by omega) fun b hb w => by omega
    refine hP c τ rfl hc1 hc2 (by omega) (e.wo (fun a k w => by show k ≠ 4 ∧ k ≠ 100 ∧ k ≠ 101 ∧ k ≠ 103 ∧ k ≠ 104; omega) (Nat.le_refl _)) ⟨l, sv, H, arr, mdh, hs, ib, arr', ln, bt, rf, hx', h2.ev e Wb_g, oSv_ev h3 e Wb_g, ⟨h4.ev e (by omega) (by omega), h4', hLs_ev e Wb_g _ _ h4''⟩, ⟨hs', by rw [List.length_append, List.length_singleton]; omega⟩, ⟨h6b.mono fun a e ha w => by omega, h6'⟩, oBT_ev h7 e fun b => by omega, oRF_ev h8 e fun b => by omega⟩
theorem c_undo (hS : SI G σ) (hC : CS G σ x N g hg sg T U er wy dt) (hb : bd G σ 20) (hX : hg = [] → XD G σ PX 28) (hP : ∀ hg0 g0 τ, hg = hg0 ++ [g0] → ev G Wo 0 σ τ → CS G τ x N g0 hg0 sg T U er wy dt → P (Int32.ofNat hg0.length) τ) : wX1_undo G P PX (some x) σ := by
  obtain ⟨l, sv, H, arr, mdh, hs, ib, arb, ln, bt, rf, h1, h2, h3, ⟨h4, h4', h4''⟩, ⟨h5, h5'⟩, ⟨h6, h6'⟩, h7, h8⟩ := hC
  have hlen := hLs_len _ _ h4''
  unfold wX1_undo wX1_undob0
  refine gR h1 (by decide) rfl ⟨h4.rc, al_size h4 ?_⟩
  rw [show (0 : Int32) = Int32.ofNat 0 from rfl, i_le (by omega) (by omega)]
  refine ⟨fun w => ?_, fun w => ?_⟩
  · unfold wX1_undob15
    exact chkE_k hS (hb.mono (by omega)) (fun u => absurd rfl u) fun _ => xd_c (hX (List.eq_nil_of_length_eq_zero (by omega)))
  · obtain ⟨hs0, l0, hg0, g0, rfl, rfl, hh, hl0⟩ := hLs_pop _ _ h4'' (fun u => w (by rw [u]; exact Nat.le_refl _))
    have hlh := hLs_len _ _ hh
    rw [List.length_append, List.length_singleton] at h4'
    unfold wX1_undob15
    refine chkE_k hS (hb.mono (by omega)) (fun _ => gR h1 (by decide) rfl (gR h1 (by decide) rfl ⟨h4.rc, al_size h4 ⟨h4.rc, ?_⟩⟩)) fun u => absurd u n10
    rw [List.length_append, List.length_singleton, show (1 : Int32) = Int32.ofNat 1 from rfl, i_sub (by omega), show hs0.length + 1 - 1 = hs0.length by omega]
    refine al_pop hS h4 rfl fun τ e hA' => ?_
    have hx' := e.o h1 (by omega) (by decide) (by decide)
    have hl0' := hl0.ev e Wl_g
    obtain ⟨⟨n1, o1, A1, md1, es1, hL1, rfl⟩, hJ1⟩ := id hl0'
    refine ⟨cO hL1.L (by decide), pO e.t hx' (by decide) (by simp) (by decide) fun τ2 w2 e2 => ?_⟩
    have hWg : Wg (W1 x 0) := W1_g (by decide)
    have nx : ∀ b k, k ≠ 0 → ¬ W1 x 0 b k := fun b k q w => q w.2
    have hA2 := hA'.ev e2 (nx _ _ (by omega)) (nx _ _ (by omega))
    refine gR w2.1 (by decide) rfl ⟨hA2.rc, al_size hA2 ?_⟩
    rw [hlh]
    exact hP hg0 g0 τ2 rfl (((e.wo (c' := 0) (fun a k w => by show k ≠ 4 ∧ k ≠ 100 ∧ k ≠ 101 ∧ k ≠ 103 ∧ k ≠ 104; omega) (Nat.le_refl _)).tr (e2.wo (c' := 0) (fun a k w => w1x_o w) (Nat.le_refl _))).le' (by omega)) ⟨A1 0, sv, H, arr, _, hs0, ib, arb, ln, bt, rf, w2.1, hl0'.ev e2 hWg, oSv_ev (oSv_ev h3 e Wl_g) e2 hWg, ⟨hA2, by omega, hLs_ev e2 hWg _ _ (hLs_ev e Wl_g _ _ hh)⟩, ⟨(h5.ev e (by omega) (by omega)).ev e2 (nx _ _ (by omega)) (nx _ _ (by omega)), h5'⟩, ⟨(h6.ev e (fun b => by omega) fun b _ => by omega).ev e2 (fun b => nx _ _ (by omega)) fun b _ => nx _ _ (by omega), h6'⟩, oBT_ev (oBT_ev h7 e fun b => by omega) e2 fun b => nx _ _ (by omega), oRF_ev (oRF_ev h8 e fun b => by omega) e2 fun b => nx _ _ (by omega)⟩
theorem c_save (hS : SI G σ) (hC : CS G σ x N g hg sg T U er wy dt) (hb : bd G σ 20000) (hP : ∀ τ, ev G Wo 10700 σ τ → CS G τ x N g hg (some g) T U er wy dt → P (g 0) τ) : wX1_save G P PX (some x) σ := by
  have hC0 := hC
  obtain ⟨l, sv, H, arr, mdh, hs, ib, arb, ln, bt, rf, h1, ⟨⟨n0, o, A, md, es, hL, rfl⟩, hJ⟩, h3, ⟨h4, h4', h4''⟩, ⟨h5, h5'⟩, ⟨h6, h6'⟩, h7, h8⟩ := hC
  unfold wX1_save wX1_saveb0
  refine gR h1 (by decide) rfl ⟨hL.rc, copy_k hS hL hb fun τ o' A' md' es' e hL' => ?_⟩
  have hx' := e.o h1 (fun w => w) (by decide) (by decide)
  refine pO e.t hx' (by decide) (by simp) (by decide) fun τ2 w2 e2 => ?_
  have hWg : Wg (W1 x 0) := W1_g (by decide)
  have nx : ∀ b k, k ≠ 0 → ¬ W1 x 0 b k := fun b k q w => q w.2
  have hL2 := hL'.ev e2 hWg
  refine gR w2.1 (by decide) rfl (gR hL2.L (by decide) rfl ⟨hL2.M.rc, lsz_k hL2.M ?_⟩)
  rw [hL2.len, ← hL2.ok.1.2]
  have eA : ev G (W1 x 0) 10700 σ τ2 := (e.up0.tr e2).le' (by omega)
  exact hP τ2 (eA.wo (fun a k w => w1x_o w) (Nat.le_refl _)) ⟨A 0, some (A' 0), H, arr, mdh, hs, ib, arb, ln, bt, rf, w2.1, ⟨⟨_, o, A, md, es, hL.ev eA hWg, rfl⟩, hJ⟩, ⟨⟨_, o', A', md', es', hL2, rfl⟩, hJ⟩, ⟨h4.ev eA (nx _ _ (by omega)) (nx _ _ (by omega)), h4', hLs_ev eA hWg _ _ h4''⟩, ⟨h5.ev eA (nx _ _ (by omega)) (nx _ _ (by omega)), h5'⟩, ⟨h6.ev eA (fun b => nx _ _ (by omega)) fun b _ => nx _ _ (by omega), h6'⟩, oBT_ev h7 eA fun b => nx _ _ (by omega), oRF_ev h8 eA fun b => nx _ _ (by omega)⟩
theorem c_restore (hS : SI G σ) (hC : CS G σ x N g hg sg T U er wy dt) (hb : bd G σ 20000) (hX : sg = none → XD G σ PX 31) (hP : ∀ g1 τ, sg = some g1 → ev G Wo 10700 σ τ → CS G τ x N g1 [] sg T U er wy dt → P (g1 0) τ) : wX1_restore G P PX (some x) σ := by
  obtain ⟨l, sv, H, arr, mdh, hs, ib, arb, ln, bt, rf, h1, h2, h3, ⟨h4, h4', h4''⟩, ⟨h5, h5'⟩, ⟨h6, h6'⟩, h7, h8⟩ := hC
  unfold wX1_restore wX1_restoreb0
  cases sv with
  | none =>
    cases sg with
    | some g1 => exact h3.elim
    | none =>
      refine gR h1 (by decide) rfl ⟨fun _ => ?_, fun u => absurd rfl u⟩
      unfold wX1_restoreb12
      exact chk_k hS (hb.mono (by omega)) (fun u => absurd rfl u) fun _ => xd_c (hX rfl)
  | some s =>
    cases sg with
    | none => exact h3.elim
    | some g1 =>
      obtain ⟨⟨n0, o, A, md, es, hL, rfl⟩, hJ⟩ := id h3
      refine gR h1 (by decide) rfl ⟨fun u => (nomatch u), fun _ => ?_⟩
      unfold wX1_restoreb12
      refine chk_k hS (hb.mono (by omega)) (fun _ => gR h1 (by decide) rfl ⟨hL.rc, copy_k hS hL hb fun τ o' A' md' es' e hL' => ?_⟩) fun u => absurd u n10
      have hx' := e.o h1 (fun w => w) (by decide) (by decide)
      refine pO e.t hx' (by decide) (by simp) (by decide) fun τ2 w2 e2 => ?_
      have hWg : Wg (W1 x 0) := W1_g (by decide)
      have nx : ∀ b k, k ≠ 0 → ¬ W1 x 0 b k := fun b k q w => q w.2
      have eA : ev G (W1 x 0) 10700 σ τ2 := (e.up0.tr e2).le' (by omega)
      have hA2 := h4.ev eA (nx _ _ (by omega)) (nx _ _ (by omega))
      refine gR w2.1 (by decide) rfl ⟨hA2.rc, al_clear e2.t hA2 fun τ3 e3 hA3 => ?_⟩
      have hx3 := e3.o w2.1 (by omega) (by decide) (by decide)
      have hL3 := (hL'.ev e2 hWg).ev e3 Wl_g
      refine gR hx3 (by decide) rfl (gR hL3.L (by decide) rfl ⟨hL3.M.rc, lsz_k hL3.M ?_⟩)
      rw [hL3.len, ← hL3.ok.1.2]
      exact hP g1 τ3 rfl (((eA.wo (fun a k w => w1x_o w) (Nat.le_refl _)).tr (e3.wo (c' := 0) (fun a k w => by show k ≠ 4 ∧ k ≠ 100 ∧ k ≠ 101 ∧ k ≠ 103 ∧ k ≠ 104; omega) (Nat.le_refl _))).le' (by omega)) ⟨A' 0, _, H, arr, _, [], ib, arb, ln, bt, rf, hx3, ⟨⟨_, o', A', md', es', hL3, rfl⟩, hJ⟩, oSv_ev (oSv_ev h3 eA hWg) e3 Wl_g, ⟨hA3, by simp, trivial⟩, ⟨(h5.ev eA (nx _ _ (by omega)) (nx _ _ (by omega))).ev e3 (by omega) (by omega), h5'⟩, ⟨(h6.ev eA (fun b => nx _ _ (by omega)) fun b _ => nx _ _ (by omega)).ev e3 (fun b => by omega) fun b _ => by omega, h6'⟩, oBT_ev (oBT_ev h7 eA fun b => nx _ _ (by omega)) e3 fun b => by omega, oRF_ev (oRF_ev h8 eA fun b => nx _ _ (by omega)) e3 fun b => by omega⟩
theorem iB_00 : iB 0 g00 := ⟨fun _ => 0, fun s hs => by
  have : s = 0 ∨ s = 1 ∨ s = 2 := by omega
  rcases this with rfl | rfl | rfl <;> decide, by simp⟩
theorem c_init {P : hSt → Prop} (hS : SI G σ) (hx : σ.1 x = some (.inr (0, dfX1))) (hb : bd G σ 400) (hP : ∀ τ, ev G (W1 x 0) 300 σ τ → CS G τ x 0 g00 [] none [] [] (-1) 0 0 → P τ) : wX1_init G P PX (some x) σ := by
  have hWg : Wg (W1 x 0) := W1_g (by decide)
  unfold wX1_init wX1_initb0
  refine ⟨⟨x, rfl⟩, first_k hS (hb.mono (by omega)) fun z1 o A md es e1 hL => ?_⟩
  refine pO e1.t (e1.o hx (fun w => w) (by decide) (by decide)) (by decide) (by simp) (by decide) fun z3 w3 e3 => ?_
  have e13 : ev G (W1 x 0) 200 σ z3 := (e1.up0.tr e3).le' (by omega)
  refine nO e3.t (e13.rm hb (by omega)) (fun w => by omega) fun H z5 n5 hX5 e5 => ⟨⟨H, rfl⟩, al_new e5.t n5.2.1 rfl fun z6 e6 hA6 => ?_⟩
  have hH : z3.2.1 ≤ H := by rw [n5.1]; exact Nat.le_refl _
  have e36 : ev G W0 4 z3 z6 := (e5.f1 e6 hH).le' (by omega)
  have hx6 := e36.o w3.1 (fun w => w) (by decide) (by decide)
  refine pO e36.t hx6 (by decide) (by simp) (by decide) fun z7 w7 e7 => ?_
  have e17 : ev G (W1 x 0) 204 σ z7 := (e13.tr (e36.up0.tr e7)).le' (by omega)
  have hA7 := hA6.ev e7 (fun w => by have := w.2; omega) fun w => by have := w.2; omega
  refine nO e7.t (e17.rm hb (by omega)) (fun w => by omega) fun b z9 n9 hX9 e9 => ⟨⟨b, rfl⟩, sb_new e9.t n9.2.1 rfl rfl ((e17.tr e9.up0).rm hb (by omega)) fun z10 arb e10 har hB => ?_⟩
  have hbz : z7.2.1 ≤ b := by rw [n9.1]; exact Nat.le_refl _
  have e710 : ev G W0 22 z7 z10 := (e9.f1 e10 hbz).le' (by omega)
  have hx10 := e710.o w7.1 (fun w => w) (by decide) (by decide)
  refine pO e710.t hx10 (by decide) (by simp) (by decide) fun z11 w11 e11 => pO e11.t w11.1 (by decide) (by simp) (by decide) fun z12 w12 e12 => ?_
  have e1012 : ev G (W1 x 0) 0 z10 z12 := (e11.tr e12).le' (by omega)
  have e712 : ev G (W1 x 0) 22 z7 z12 := (e710.up0.tr e1012).le' (by omega)
  have eA : ev G (W1 x 0) 300 σ z12 := (e17.tr e712).le' (by omega)
  have eL : ev G (W1 x 0) 100 z1 z12 := ((e3.tr (e36.up0.tr e7)).tr e712).le' (by omega)
  have hB12 := hB.ev e1012 (fun w => by have := w.2; omega) fun w => by have := w.2; omega
  have hA12 := hA7.ev e712 (fun w => by have := w.2; omega) fun w => by have := w.2; omega
  obtain ⟨-, hz, hc0⟩ := eA.t.2.2.1 0 (by omega)
  obtain ⟨hg20, hc20⟩ := eA.t.2.2.2.1 0 (by omega) (by omega)
  have hne : gA G (20 + 0) ≠ arb := by
    obtain ⟨cap, f, ml, -, -, -, -, -, q, -⟩ := hB12
    exact fun w => q (w ▸ hg20)
  exact hP z12 eA ⟨A 0, none, H, _, _, [], b, arb, gA G 0, none, none, w12.1, ⟨⟨_, o, A, md, es, hL.ev eL hWg, rfl⟩, GI_00, iB_00⟩, trivial, ⟨hA12, by simp, trivial⟩, ⟨hB12, by simp⟩, ⟨⟨_, _, hz, _, hc0, hc20, fun i c hc => (nomatch hc), by decide, hne⟩, by simp⟩, Or.inl ⟨rfl, rfl⟩, Or.inl ⟨rfl, rfl⟩⟩
end PU8
