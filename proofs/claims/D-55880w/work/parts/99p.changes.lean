/-! the object's changes -/
set_option maxRecDepth 100000
/-- the history with one more -/
def hAdd {α : Type} (hg : List α) (g : α) : List α := (if hg.length = 6 then hg.tail else hg) ++ [g]
theorem hAdd_len {α : Type} {hg : List α} {g : α} (h : hg.length ≤ 6) : (hAdd hg g).length = hLen hg.length := by
  unfold hAdd hLen
  by_cases e : hg.length = 6
  · rw [if_pos e, if_pos e, List.length_append, List.length_tail]
    simp; omega
  · rw [if_neg e, if_neg e, List.length_append]
    rfl
section CHG
variable {G : gE} {σ : hSt} {PX : Nat → Nat → hSt → Prop} {P : Int32 → hSt → Prop} {x N : Nat} {g : Nat → Int32} {hg : List (Nat → Int32)} {sg : Option (Nat → Int32)} {T U : List Nat} {er wy dt : Int32}
theorem CS.rc (h : CS G σ x N g hg sg T U er wy dt) : rcv σ (some x) 0 := by
  obtain ⟨l, sv, H, arr, mdh, hs, ib, arb, ln, bt, rf, h1, -⟩ := h
  exact rco h1
theorem c_does {c w k t : Nat} {one ot : Int32} {r : Option Nat} (hS : SI G σ) (hC : CS G σ x N g hg sg T U er wy dt) (hb : bd G σ 20000)
    (hc : σ.1 c = some (.inr (6, [va_rf (some (gA G w)), .int one, va_rf r, .int ot]))) (hw : 1 ≤ w ∧ w ≤ 9) (hnm : w ≤ 6 → ∃ nm, r = some nm ∧ KY σ 5 nm (10 * k + t)) (hk : k < 4) (ht : t < 10) (hr : cR w one ot)
    (hR : ∀ rs d τ e, cDo g w one k t ot (.inl (rs, d)) → ev G Wo 14200 σ τ → CS G τ x N g hg sg T U er rs d → τ.1 e = some (.inr (30, [])) → PX 30 e τ)
    (hP : ∀ v g' τ, cDo g w one k t ot (.inr (v, g')) → ev G Wo 14200 σ τ → CS G τ x (N + 1) g' (hAdd hg g) sg T U er wy dt → P v τ) : rcv σ (some x) 0 ∧ wX1_does G P PX (some x) (some c) σ := by
  refine ⟨hC.rc, ?_⟩
  obtain ⟨l, sv, H, arr, mdh, hs, ib, arb, ln, bt, rf, h1, ⟨⟨n0, o, A, md, es, hL, rfl⟩, hJ⟩, h3, ⟨h4, h4', h4''⟩, ⟨h5, h5'⟩, ⟨h6, h6'⟩, h7, h8⟩ := hC
  have hlen := hLs_len _ _ h4''
  have wo : ∀ {n : Nat} {τ : hSt}, ev G (Wc x H) n σ τ → ev G Wo n σ τ := fun e => e.wo (fun a k w => by show k ≠ 4 ∧ k ≠ 100 ∧ k ≠ 101 ∧ k ≠ 103 ∧ k ≠ 104; omega) (Nat.le_refl _)
  refine does_k hS hL hJ.1 h1 rfl rfl rfl h4 h4' hb hc hw hnm hk ht hr (fun rs d τ q e ho ev1 hx hq he => ?_) fun v g' τ n1 o' A' md' es' arr' mdh' ho ev1 hL' hx hA' => ?_
  · have n0 : ∀ b k, k ≠ 0 → ¬ W1 x 0 b k := fun b k q w => q w.2
    have hWg : Wg (W1 x 0) := W1_g (by decide)
    exact hR rs d τ e ho (ev1.wo (fun a k w => by have := w.2; show k ≠ 4 ∧ k ≠ 100 ∧ k ≠ 101 ∧ k ≠ 103 ∧ k ≠ 104; omega) (Nat.le_refl _)) ⟨_, sv, H, arr, mdh, hs, ib, arb, ln, bt, some q, hx, ⟨⟨_, o, A, md, es, hL.ev ev1 hWg, rfl⟩, hJ⟩, oSv_ev h3 ev1 hWg, ⟨h4.ev ev1 (n0 _ _ (by omega)) (n0 _ _ (by omega)), h4', hLs_ev ev1 hWg _ _ h4''⟩, ⟨h5.ev ev1 (n0 _ _ (by omega)) (n0 _ _ (by omega)), h5'⟩, ⟨h6.ev ev1 (fun b => n0 _ _ (by omega)) fun b _ => n0 _ _ (by omega), h6'⟩, oBT_ev h7 ev1 fun b => n0 _ _ (by omega), Or.inr ⟨q, rfl, hq, cDo_r ho⟩⟩ he
  · refine hP v g' τ ho (wo ev1) ⟨A' 0, sv, H, arr', mdh', _, ib, arb, ln, bt, rf, hx, ⟨⟨n1, o', A', md', es', hL', rfl⟩, GJ_cDo hJ hk ht hr ho⟩, oSv_mono (oSv_ev h3 ev1 Wc_g) (by omega), ⟨hA', ?_, ?_⟩, ⟨h5.ev ev1 (by omega) (by omega), h5'⟩, ⟨h6.ev ev1 (fun b => by omega) fun b _ => by omega, h6'⟩, oBT_ev h7 ev1 fun b => by omega, oRF_ev h8 ev1 fun b => by omega⟩
    · have := hAdd_len (g := A 0) h4'
      unfold hAdd hLen at this
      rw [this]
      by_cases e : hs.length = 6
      · rw [if_pos e]; omega
      · rw [if_neg e]; omega
    · have hl0 : LQ G τ (N + 1) (A 0) g := ⟨⟨n0, o, A, md, es, hL.ev ev1 Wc_g, rfl⟩, hJ.mono (by omega)⟩
      have hh := hLs_mono (N' := N + 1) (by omega) _ _ (hLs_ev ev1 Wc_g _ _ h4'')
      unfold hAdd
      rw [← hlen]
      by_cases e : hs.length = 6
      · rw [if_pos e, if_pos e]; exact hLs_app hl0 _ _ (hLs_tail _ _ hh)
      · rw [if_neg e, if_neg e]; exact hLs_app hl0 _ _ hh
theorem c_cmd {w k t : Nat} {one ot : Int32} {r : Option Nat} (hS : SI G σ) (hC : CS G σ x N g hg sg T U er wy dt) (hb : bd G σ 20010) (hw : 1 ≤ w ∧ w ≤ 9) (hnm : w ≤ 6 → ∃ nm, r = some nm ∧ KY σ 5 nm (10 * k + t)) (hk : k < 4) (ht : t < 10) (hr : cR w one ot)
    (hR : ∀ rs d τ e, cDo g w one k t ot (.inl (rs, d)) → ev G Wo 14205 σ τ → CS G τ x N g hg sg T U er rs d → τ.1 e = some (.inr (30, [])) → PX 30 e τ)
    (hP : ∀ v g' τ, cDo g w one k t ot (.inr (v, g')) → ev G Wo 14205 σ τ → CS G τ x (N + 1) g' (hAdd hg g) sg T U er wy dt → P v τ) : wX1_command G (fun x10 z9 => (rcv z9 (some x) 0 ∧ wX1_does G (fun x12 z11 => P x12 z11) PX (some x) x10 z9)) PX (some (gA G w)) one r ot σ := by
  refine command_k hS (hb.mono (by omega)) hnm fun τ c e hM => ?_
  obtain ⟨r', hc, hnm'⟩ := hM
  exact c_does e.t (hC.ev e W0_u) (e.rm hb (by omega)) hc hw hnm' hk ht hr (fun rs d τ2 e2 ho ev2 h1 h2 => hR rs d τ2 e2 ho ((e.up0.tr ev2).le' (by omega)) h1 h2) fun v g' τ2 ho ev2 h1 => hP v g' τ2 ho ((e.up0.tr ev2).le' (by omega)) h1
/-- how a change ends: refused, or done -/
abbrev cEnd (G : gE) (σ : hSt) (PX : Nat → Nat → hSt → Prop) (P : Int32 → hSt → Prop) (x N : Nat) (g : Nat → Int32) (hg : List (Nat → Int32)) (sg : Option (Nat → Int32)) (T U : List Nat) (er wy dt : Int32) (w : Nat) (one : Int32) (k t : Nat) (ot : Int32) : Prop :=
  (∀ rs d τ e, cDo g w one k t ot (.inl (rs, d)) → ev G Wo 14300 σ τ → CS G τ x N g hg sg T U er rs d → τ.1 e = some (.inr (30, [])) → PX 30 e τ) ∧
  (∀ v g' τ, cDo g w one k t ot (.inr (v, g')) → ev G Wo 14300 σ τ → CS G τ x (N + 1) g' (hAdd hg g) sg T U er wy dt → P v τ)
/-- an exception thrown a little later -/
abbrev XD (G : gE) (σ : hSt) (PX : Nat → Nat → hSt → Prop) (ci : Nat) : Prop := ∀ τ q, ev G W0 20 σ τ → τ.1 q = some (.inr (ci, [])) → PX ci q τ
theorem cEnd.run {c w k t : Nat} {one ot : Int32} {r : Option Nat} {σ0 : hSt} (hE : cEnd G σ0 PX P x N g hg sg T U er wy dt w one k t ot) (e0 : ev G W0 c σ0 σ) (hc : c ≤ 90) (hC : CS G σ0 x N g hg sg T U er wy dt) (hb : bd G σ0 20200) (hw : 1 ≤ w ∧ w ≤ 9) (hnm : w ≤ 6 → ∃ nm, r = some nm ∧ KY σ 5 nm (10 * k + t)) (hk : k < 4) (ht : t < 10) (hr : cR w one ot) : wX1_command G (fun x10 z9 => (rcv z9 (some x) 0 ∧ wX1_does G (fun x12 z11 => P x12 z11) PX (some x) x10 z9)) PX (some (gA G w)) one r ot σ :=
  c_cmd e0.t (hC.ev e0 W0_u) (e0.rm hb (by omega)) hw hnm hk ht hr (fun rs d τ e ho ev2 h1 h2 => hE.1 rs d τ e ho ((e0.up0.tr ev2).le' (by omega)) h1 h2) fun v g' τ ho ev2 h1 => hE.2 v g' τ ho ((e0.up0.tr ev2).le' (by omega)) h1
theorem XC.d {c ci : Nat} {σ0 : hSt} (h : XD G σ0 PX ci) (e0 : ev G W0 c σ0 σ) (hc : c ≤ 13) : XC G σ PX ci := fun τ q e hq => h τ q ((e0.tr e).le' (by omega)) hq
theorem xd_c {ci : Nat} (h : XD G σ PX ci) : XC G σ PX ci := fun τ q e hq => h τ q (e.le' (by omega)) hq
theorem cR_0 {w : Nat} {one ot : Int32} (h : w = 2 ∨ w = 4 ∨ w = 8 ∨ w = 9) : cR w one ot := ⟨fun e => by omega, fun e => by omega, fun e => by omega, fun e => by omega, fun e => by omega⟩
theorem c_enter {p k t q : Int32} (hS : SI G σ) (hC : CS G σ x N g hg sg T U er wy dt) (hb : bd G σ 20200) (hX : ¬ isP p → XD G σ PX 32) (hA : isP p → ¬ (isX k t ∧ isL q) → XD G σ PX 29)
    (hE : ∀ k' t' : Nat, isP p → isL q → k = Int32.ofNat k' → k' < 4 → t = Int32.ofNat t' → t' < 10 → cEnd G σ PX P x N g hg sg T U er wy dt 1 p k' t' q) : wX1_enter G P PX (some x) p k t q σ := by
  unfold wX1_enter wX1_enterb0
  exact isPup_k (fun c1 => chkI_k hS (hb.mono (by omega)) (fun _ => isLev_k (fun c2 => chkA_k hS (hb.mono (by omega)) (fun _ => cname_k hS (hb.mono (by omega)) (fun k' t' τ nm hk hk4 ht ht10 e hky => (hE k' t' c1 c2 hk hk4 ht ht10).run e (by omega) hC hb (by omega) (fun _ => ⟨nm, rfl, hky⟩) hk4 ht10 ⟨fun _ => ⟨c1, c2⟩, fun e => by omega, fun e => by omega, fun e => by omega, fun e => by omega⟩) fun w => xd_c (hA c1 fun u => w u.1)) fun u => absurd u n10) fun c2 => chkA_k hS (hb.mono (by omega)) (fun u => absurd rfl u) fun _ => xd_c (hA c1 fun u => c2 u.2)) fun u => absurd u n10) fun c1 => chkI_k hS (hb.mono (by omega)) (fun u => absurd rfl u) fun _ => xd_c (hX c1)
theorem c_strike {k t : Int32} (hS : SI G σ) (hC : CS G σ x N g hg sg T U er wy dt) (hb : bd G σ 20200) (hA : ¬ isX k t → XD G σ PX 29)
    (hE : ∀ k' t' : Nat, k = Int32.ofNat k' → k' < 4 → t = Int32.ofNat t' → t' < 10 → cEnd G σ PX P x N g hg sg T U er wy dt 2 (-1) k' t' (-1)) : wX1_strike G P PX (some x) k t σ := by
  unfold wX1_strike wX1_strikeb0
  exact cname_k hS (hb.mono (by omega)) (fun k' t' τ nm hk hk4 ht ht10 e hky => (hE k' t' hk hk4 ht ht10).run e (by omega) hC hb (by omega) (fun _ => ⟨nm, rfl, hky⟩) hk4 ht10 (cR_0 (by omega))) fun w => xd_c (hA w)
theorem c_back {k t : Int32} (hS : SI G σ) (hC : CS G σ x N g hg sg T U er wy dt) (hb : bd G σ 20200) (hA : ¬ isX k t → XD G σ PX 29)
    (hE : ∀ k' t' : Nat, k = Int32.ofNat k' → k' < 4 → t = Int32.ofNat t' → t' < 10 → cEnd G σ PX P x N g hg sg T U er wy dt 4 (-1) k' t' (-1)) : wX1_back G P PX (some x) k t σ := by
  unfold wX1_back wX1_backb0
  exact cname_k hS (hb.mono (by omega)) (fun k' t' τ nm hk hk4 ht ht10 e hky => (hE k' t' hk hk4 ht ht10).run e (by omega) hC hb (by omega) (fun _ => ⟨nm, rfl, hky⟩) hk4 ht10 (cR_0 (by omega))) fun w => xd_c (hA w)
theorem c_lend {k t v q : Int32} (hS : SI G σ) (hC : CS G σ x N g hg sg T U er wy dt) (hb : bd G σ 20200) (hA : ¬ (isX k t ∧ isE q) → XD G σ PX 29) (hX : isX k t → isE q → ¬ isP v → XD G σ PX 32)
    (hE : ∀ k' t' : Nat, isE q → isP v → k = Int32.ofNat k' → k' < 4 → t = Int32.ofNat t' → t' < 10 → cEnd G σ PX P x N g hg sg T U er wy dt 3 v k' t' q) : wX1_lend G P PX (some x) k t v q σ := by
  unfold wX1_lend wX1_lendb0
  refine cname_k hS (hb.mono (by omega)) (fun k' t' τ nm hk hk4 ht ht10 e hky => ?_) fun w => xd_c (hA fun u => w u.1)
  have hx : isX k t := by
    rw [hk, ht]
    exact ⟨⟨i_nn (by omega), by rw [show (3 : Int32) = Int32.ofNat 3 from rfl, i_lt (by omega) (by omega)]; omega⟩, ⟨i_nn (by omega), by rw [show (9 : Int32) = Int32.ofNat 9 from rfl, i_lt (by omega) (by omega)]; omega⟩⟩
  have hbτ : bd G τ 7 := e.rm hb (by omega)
  exact isFee_k (fun c1 => chkA_k e.t hbτ (fun _ => isPup_k (fun c2 => chkI_k e.t hbτ (fun _ => (hE k' t' c1 c2 hk hk4 ht ht10).run e (by omega) hC hb (by omega) (fun _ => ⟨nm, rfl, hky⟩) hk4 ht10 ⟨fun e => by omega, fun _ => ⟨c2, c1⟩, fun e => by omega, fun e => by omega, fun e => by omega⟩) fun u => absurd u n10) fun c2 => chkI_k e.t hbτ (fun u => absurd rfl u) fun _ => XC.d (hX hx c1 c2) e (by omega)) fun u => absurd u n10) fun c1 => chkA_k e.t hbτ (fun u => absurd rfl u) fun _ => XC.d (hA fun u => c1 u.2) e (by omega)
theorem c_mend {k t q : Int32} (hS : SI G σ) (hC : CS G σ x N g hg sg T U er wy dt) (hb : bd G σ 20200) (hA : ¬ (isX k t ∧ isL q) → XD G σ PX 29)
    (hE : ∀ k' t' : Nat, isL q → k = Int32.ofNat k' → k' < 4 → t = Int32.ofNat t' → t' < 10 → cEnd G σ PX P x N g hg sg T U er wy dt 5 (-1) k' t' q) : wX1_mend G P PX (some x) k t q σ := by
  unfold wX1_mend wX1_mendb0
  refine cname_k hS (hb.mono (by omega)) (fun k' t' τ nm hk hk4 ht ht10 e hky => ?_) fun w => xd_c (hA fun u => w u.1)
  have hbτ : bd G τ 7 := e.rm hb (by omega)
  exact isLev_k (fun c1 => chkA_k e.t hbτ (fun _ => (hE k' t' c1 hk hk4 ht ht10).run e (by omega) hC hb (by omega) (fun _ => ⟨nm, rfl, hky⟩) hk4 ht10 ⟨fun e => by omega, fun e => by omega, fun _ => c1, fun e => by omega, fun e => by omega⟩) fun u => absurd u n10) fun c1 => chkA_k e.t hbτ (fun u => absurd rfl u) fun _ => XC.d (hA fun u => c1 u.2) e (by omega)
theorem c_use {v k t s : Int32} (hS : SI G σ) (hC : CS G σ x N g hg sg T U er wy dt) (hb : bd G σ 20200) (hX : ¬ (isP v ∧ isS s) → XD G σ PX 32) (hA : isP v → isS s → ¬ isX k t → XD G σ PX 29)
    (hE : ∀ k' t' : Nat, isP v → isS s → k = Int32.ofNat k' → k' < 4 → t = Int32.ofNat t' → t' < 10 → cEnd G σ PX (fun r z => P (if r = 1 then 1 else 0) z) x N g hg sg T U er wy dt 6 v k' t' s) : wX1_use G P PX (some x) v k t s σ := by
  have no : ¬ (isP v ∧ isS s) → wX1_useb19 G P PX (some x) v k t s σ := fun u => by
    unfold wX1_useb19 wX1_useb20
    exact chkI_k hS (hb.mono (by omega)) (fun z => absurd rfl z) fun _ => xd_c (hX u)
  unfold wX1_use wX1_useb0
  refine isPup_k (fun c1 => ⟨fun u => absurd u n10, fun _ => isSch_k (fun c2 => ⟨fun u => absurd u n10, fun _ => ?_⟩) fun c2 => ⟨fun _ => no fun u => c2 u.2, fun u => absurd rfl u⟩⟩) fun c1 => ⟨fun _ => no fun u => c1 u.1, fun u => absurd rfl u⟩
  unfold wX1_useb20
  refine chkI_k hS (hb.mono (by omega)) (fun _ => cname_k hS (hb.mono (by omega)) (fun k' t' τ nm hk hk4 ht ht10 e hky => ?_) fun w => xd_c (hA c1 c2 w)) fun u => absurd u n10
  obtain ⟨h1, h2⟩ := hE k' t' c1 c2 hk hk4 ht ht10
  refine cEnd.run (P := fun x11 z10 => ((¬ x11 = 1 → (okN .boolean 0 ∧ P 0 z10)) ∧ (x11 = 1 → (okN .boolean 1 ∧ P 1 z10)))) ⟨h1, fun v g' τ ho e2 hC2 => ?_⟩ e (by omega) hC hb (by omega) (fun _ => ⟨nm, rfl, hky⟩) hk4 ht10 ⟨fun e => by omega, fun e => by omega, fun e => by omega, fun _ => ⟨c1, c2⟩, fun e => by omega⟩
  have h3 : P (if v = 1 then 1 else 0) τ := h2 v g' τ ho e2 hC2
  exact ⟨fun u => ⟨ok_b0, by rw [if_neg u] at h3; exact h3⟩, fun u => ⟨ok_b1, by rw [if_pos u] at h3; exact h3⟩⟩
theorem c_strict {v q : Int32} (hS : SI G σ) (hC : CS G σ x N g hg sg T U er wy dt) (hb : bd G σ 20200) (hX : ¬ isS v → XD G σ PX 32) (hA : isS v → ¬ isL q → XD G σ PX 29)
    (hE : isS v → isL q → cEnd G σ PX P x N g hg sg T U er wy dt 7 v 0 0 q) : wX1_strict G P PX (some x) v q σ := by
  unfold wX1_strict wX1_strictb0
  exact isSch_k (fun c1 => chkI_k hS (hb.mono (by omega)) (fun _ => isLev_k (fun c2 => chkA_k hS (hb.mono (by omega)) (fun _ => (hE c1 c2).run (ev.refl hS) (by omega) hC hb (by omega) (fun w => by omega) (by omega) (by omega) ⟨fun e => by omega, fun e => by omega, fun e => by omega, fun e => by omega, fun _ => ⟨c1, c2⟩⟩) fun u => absurd u n10) fun c2 => chkA_k hS (hb.mono (by omega)) (fun u => absurd rfl u) fun _ => xd_c (hA c1 c2)) fun u => absurd u n10) fun c1 => chkI_k hS (hb.mono (by omega)) (fun u => absurd rfl u) fun _ => xd_c (hX c1)
theorem c_weather {t : Int32} (hS : SI G σ) (hC : CS G σ x N g hg sg T U er wy dt) (hb : bd G σ 20200) (hA : ¬ isE t → XD G σ PX 29)
    (hE : isE t → cEnd G σ PX P x N g hg sg T U er wy dt 8 (-1) 0 0 t) : wX1_weather G P PX (some x) t σ := by
  unfold wX1_weather wX1_weatherb0
  exact isTop_k (fun c1 => chkA_k hS (hb.mono (by omega)) (fun _ => (hE c1).run (ev.refl hS) (by omega) hC hb (by omega) (fun w => by omega) (by omega) (by omega) (cR_0 (by omega))) fun u => absurd u n10) fun c1 => chkA_k hS (hb.mono (by omega)) (fun u => absurd rfl u) fun _ => xd_c (hA c1)
theorem c_day (hS : SI G σ) (hC : CS G σ x N g hg sg T U er wy dt) (hb : bd G σ 20200)
    (hE : cEnd G σ PX P x N g hg sg T U er wy dt 9 (-1) 0 0 (-1)) : wX1_day G P PX (some x) σ := by
  unfold wX1_day wX1_dayb0
  exact hE.run (ev.refl hS) (by omega) hC hb (by omega) (fun w => by omega) (by omega) (by omega) (cR_0 (by omega))
end CHG
