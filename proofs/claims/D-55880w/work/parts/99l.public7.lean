/-! the object is asked: characters, accounts, means, what went wrong -/
set_option maxRecDepth 100000
def oBT (z : hSt) (bt : Option Nat) (er : Int32) : Prop := (bt = none ∧ er = -1) ∨ ∃ q i, bt = some q ∧ BT z q i ∧ er = Int32.ofNat i ∧ i ≤ 70
def oRF (z : hSt) (rf : Option Nat) (wy dt : Int32) : Prop := (rf = none ∧ wy = 0) ∨ ∃ q, rf = some q ∧ RF z q wy dt ∧ wy ≠ 0
/-- an account -/
def acq (g : Nat → Int32) (t c w r : Int32) : Prop := (w = 0 ∧ r = g 0) ∨ (w = 1 ∧ r = nLent g) ∨ (w = 2 ∧ r = g 1) ∨ (w = 3 ∧ r = g 2 - 1) ∨ (w = 4 ∧ r = g 3) ∨ (w = 5 ∧ r = sumG g 135 3) ∨ (w = 6 ∧ r = sumG g 138 3) ∨ (w = 7 ∧ r = g 4) ∨ (w = 8 ∧ r = g 5) ∨ (w = 9 ∧ r = t) ∨ (w = 10 ∧ r = c)
section PU7
variable {G : gE} {σ : hSt} {PX : Nat → Nat → hSt → Prop} {P : Int32 → hSt → Prop} {n0 : Nat} {o A : Nat → Nat} {md : Int32} {es : List eT} {g : Nat → Int32} {x : Nat} {fs : List Value}
theorem q_char {v : Int32} {ln : Nat} {U : List Nat} (hS : SI G σ) (hx : σ.1 x = some (.inr (0, fs))) (h4 : fs[4]? = some (va_rf (some ln))) (hU : ST σ ln U) (hb : bd G σ 7) (hX : (∀ i : Nat, v = Int32.ofNat i → ¬ i < U.length) → XC G σ PX 28) (hP : ∀ i c : Nat, v = Int32.ofNat i → U[i]? = some c → P (Int32.ofNat c) σ) : wX1_character G P PX (some x) v σ := by
  have hl := hU.l150
  unfold wX1_character wX1_characterb0
  refine gR hx (by decide) h4 ⟨hU.rc, st_len hU (isIn_k (fun c => ?_) fun c => chkE_k hS hb (fun u => absurd rfl u) fun _ => hX fun i hi hlt => c ((cnt_in (by omega)).mpr ⟨i, hi, hlt⟩))⟩
  obtain ⟨i, rfl, hi⟩ := (cnt_in (by omega)).mp c
  have hg := List.getElem?_eq_getElem hi
  have hc := (hU.c128 hg).1
  exact chkE_k hS hb (fun _ => gR hx (by decide) h4 ⟨hU.rc, st_char hU hg ⟨okN_c (by omega), hP i _ rfl hg⟩⟩) fun u => absurd u n10
theorem q_account {w : Int32} {H arr ib arb : Nat} {mdh : Int32} {hs : List Nat} {T : List Nat} (hS : SI G σ) (hx : σ.1 x = some (.inr (0, fs))) (h0 : fs[0]? = some (va_rf (some (A 0)))) (h2 : fs[2]? = some (va_rf (some H))) (h3 : fs[3]? = some (va_rf (some ib))) (hA : AL G σ H arr mdh hs) (hB : SB G σ ib arb T) (h : LG G σ n0 o A md es g) (hd : dOK g) (hb : bd G σ 20) (hX : w ∉ ([0, 1, 2, 3, 4, 5, 6, 7, 8, 9, 10] : List Int32) → XC G σ PX 29) (hP : ∀ r τ, acq g (Int32.ofNat T.length) (Int32.ofNat hs.length) w r → ev G W0 9 σ τ → P r τ) : wX1_account G P PX (some x) w σ := by
  have e0 : ev G W0 9 σ σ := (ev.refl hS).le' (by omega)
  unfold wX1_account wX1_accountb0
  refine isIn_k (fun c => chkA_k hS (hb.mono (by omega)) (fun _ => ?_) fun u => absurd u n10) fun c => chkA_k hS (hb.mono (by omega)) (fun u => absurd rfl u) fun _ => hX fun u => c ?_
  · have hp : ∀ r, acq g (Int32.ofNat T.length) (Int32.ofNat hs.length) w r → P r σ := fun r hr => hP r σ hr e0
    refine ⟨fun u => gR hx (by decide) h0 (gR h.L (by decide) rfl ⟨h.M.rc, lsz_k h.M (hp _ (Or.inl ⟨u, ?_⟩))⟩), fun u => gR hx (by decide) h0 ⟨h.rc, lent_k hS h (hb.mono (by omega)) (fun τ e => hP _ τ (Or.inr (Or.inl ⟨u, rfl⟩)) e) fun e he => ?_⟩, fun u => gR hx (by decide) h0 (gI h.L (by decide) rfl (hp _ (Or.inr (Or.inr (Or.inl ⟨u, rfl⟩))))), fun u => gR hx (by decide) h0 (gI h.L (by decide) rfl (hp _ (Or.inr (Or.inr (Or.inr (Or.inl ⟨u, rfl⟩)))))), fun u => gR hx (by decide) h0 (gI h.L (by decide) rfl (hp _ (Or.inr (Or.inr (Or.inr (Or.inr (Or.inl ⟨u, rfl⟩))))))), fun u => gR hx (by decide) h0 ⟨h.rc, uses_k h (hp _ (Or.inr (Or.inr (Or.inr (Or.inr (Or.inr (Or.inl ⟨u, rfl⟩)))))))⟩, fun u => gR hx (by decide) h0 ⟨h.rc, believed_k h (hp _ (Or.inr (Or.inr (Or.inr (Or.inr (Or.inr (Or.inr (Or.inl ⟨u, rfl⟩))))))))⟩, fun u => gR hx (by decide) h0 (gI h.L (by decide) rfl (hp _ (Or.inr (Or.inr (Or.inr (Or.inr (Or.inr (Or.inr (Or.inr (Or.inl ⟨u, rfl⟩)))))))))), fun u => gR hx (by decide) h0 (gI h.L (by decide) rfl (hp _ (Or.inr (Or.inr (Or.inr (Or.inr (Or.inr (Or.inr (Or.inr (Or.inr (Or.inl ⟨u, rfl⟩))))))))))), fun u => gR hx (by decide) h3 ⟨hB.rc, sb_len hB (hp _ (Or.inr (Or.inr (Or.inr (Or.inr (Or.inr (Or.inr (Or.inr (Or.inr (Or.inr (Or.inl ⟨u, rfl⟩)))))))))))⟩, fun u => gR hx (by decide) h2 ⟨hA.rc, al_size hA (hp _ (Or.inr (Or.inr (Or.inr (Or.inr (Or.inr (Or.inr (Or.inr (Or.inr (Or.inr (Or.inr ⟨?_, rfl⟩)))))))))))⟩⟩
    · rw [h.len]; exact h.ok.1.2.symm
    · obtain ⟨n, hn, en⟩ := hd e he
      rw [en, show (0 : Int32) = Int32.ofNat 0 from rfl, i_le (by omega) (by omega), i_eq (by omega) (by omega)]
      omega
    · obtain ⟨j, hj, rfl⟩ := i_of (n := 10) c.1 c.2 (by omega)
      have : j = 0 ∨ j = 1 ∨ j = 2 ∨ j = 3 ∨ j = 4 ∨ j = 5 ∨ j = 6 ∨ j = 7 ∨ j = 8 ∨ j = 9 ∨ j = 10 := by omega
      rcases this with rfl | rfl | rfl | rfl | rfl | rfl | rfl | rfl | rfl | rfl | rfl <;> first | rfl | exact absurd (by decide) u
  · have hw : w = 0 ∨ w = 1 ∨ w = 2 ∨ w = 3 ∨ w = 4 ∨ w = 5 ∨ w = 6 ∨ w = 7 ∨ w = 8 ∨ w = 9 ∨ w = 10 := by simpa using u
    rcases hw with rfl | rfl | rfl | rfl | rfl | rfl | rfl | rfl | rfl | rfl | rfl <;> exact ⟨by decide, by decide⟩
theorem OB.ev {W : Nat → Nat → Prop} {c l : Nat} {τ : hSt} (h : OB σ x l) (he : ev G W c σ τ) (hW : ¬ W x 0) : OB τ x l := by
  obtain ⟨fs, a1, a2, a3⟩ := h
  exact ⟨fs, he.o a1 hW (by decide) (by decide), a2, a3⟩
theorem q_share {Q : UInt32 → hSt → Prop} (hS : SI G σ) (hO : OB σ x (A 0)) (h : LG G σ n0 o A md es g) (hb : bd G σ 7) (hX : sumG g 135 3 = 0 → XC G σ PX 33) (hP : sumG g 135 3 ≠ 0 → vf_n32 (FP.fdiv (FP.i2f (sumG g 138 3)) (FP.i2f (sumG g 135 3))) ∧ Q (FP.fdiv (FP.i2f (sumG g 138 3)) (FP.i2f (sumG g 135 3))) σ) : wX1_believedShare G Q PX (some x) σ := by
  unfold wX1_believedShare wX1_believedShareb0
  exact hO.L ⟨h.rc, uses_k h (chkC_k hS hb (fun u => hO.L ⟨h.rc, believed_k h (hO.L ⟨h.rc, uses_k h (hP u)⟩)⟩) fun u => hX u)⟩
theorem q_mean {Q : UInt64 → hSt → Prop} (hS : SI G σ) (hO : OB σ x (A 0)) (h : LG G σ n0 o A md es g) (hb : bd G σ 20) (hX : g 0 = 0 → XC G σ PX 33) (hP : g 0 ≠ 0 → vf_n64 (FP.ddiv (FP.i2d (sN (fun e => g (42 + e)) (cnt g))) (FP.i2d (g 0))) ∧ ∀ τ, ev G W0 9 σ τ → Q (FP.ddiv (FP.i2d (sN (fun e => g (42 + e)) (cnt g))) (FP.i2d (g 0))) τ) : wX1_meanWear G Q PX (some x) σ := by
  unfold wX1_meanWear wX1_meanWearb0
  refine hO.L (gR h.L (by decide) rfl ⟨h.M.rc, lsz_k h.M ?_⟩)
  rw [h.len, ← h.ok.1.2]
  refine chkC_k hS (hb.mono (by omega)) (fun u => hO.L (gR h.L (by decide) rfl (iter_k hS h.M (hb.mono (by omega)) fun z0 it e0 hit hi => ?_))) hX
  refine each_k (fun b it z => (some x, b, it, z)) (fun K b it z h => by dsimp only; unfold wX1_meanWearb31; exact h) (fun e b z => b = sN (fun e => g (42 + e)) e) 0 h e0 hit hi rfl (fun e b z z' hJ _ => hJ) (fun e q x' b z hq hx hJ ez hz _ K hK => ?_) fun b z hJ ez hz => ?_
  · subst hJ
    obtain ⟨q', -, -, hxc⟩ := hz.xcell hq hx
    exact ⟨cO hxc (by decide), gI hxc (by decide) rfl (hK _ z W0 (ev.refl ez.t) (fun a k w => w.elim) sN_s)⟩
  · subst hJ
    refine (hO.ev ez fun w => w).L (gR hz.L (by decide) rfl ⟨hz.M.rc, lsz_k hz.M ?_⟩)
    rw [h.len, ← h.ok.1.2]
    exact ⟨(hP u).1, (hP u).2 z (ez.le' (by omega))⟩
theorem q_err {er : Int32} {bt : Option Nat} (hS : SI G σ) (hx : σ.1 x = some (.inr (0, fs))) (h5 : fs[5]? = some (va_rf bt)) (hO : oBT σ bt er) (hb : bd G σ 7) (hX : er = -1 → XC G σ PX 28) (hP : er ≠ -1 → P er σ) : wX1_errorPosition G P PX (some x) σ := by
  unfold wX1_errorPosition wX1_errorPositionb0
  rcases hO with ⟨rfl, rfl⟩ | ⟨q, i, rfl, ⟨fq, b1, b2, b3⟩, rfl, hi⟩
  · refine gR hx (by decide) h5 ⟨fun _ => ?_, fun u => absurd rfl u⟩
    unfold wX1_errorPositionb12
    exact chkE_k hS hb (fun u => absurd rfl u) fun _ => hX rfl
  · refine gR hx (by decide) h5 ⟨fun u => (nomatch u), fun _ => ?_⟩
    unfold wX1_errorPositionb12
    exact chkE_k hS hb (fun _ => gR hx (by decide) h5 (gI b1 (by decide) b3 (hP (nat_m1 (by omega))))) fun u => absurd u n10
theorem q_reason {wy dt w : Int32} {rf : Option Nat} (hS : SI G σ) (hx : σ.1 x = some (.inr (0, fs))) (h6 : fs[6]? = some (va_rf rf)) (hO : oRF σ rf wy dt) (hb : bd G σ 7) (hX : wy = 0 → XC G σ PX 28) (hP : wy ≠ 0 → P (if w = 0 then wy else dt) σ) : wX1_reason G P PX (some x) w σ := by
  unfold wX1_reason wX1_reasonb0
  rcases hO with ⟨rfl, rfl⟩ | ⟨q, rfl, ⟨fq, b1, b2, b3, b4⟩, hw⟩
  · refine gR hx (by decide) h6 ⟨fun _ => ?_, fun u => absurd rfl u⟩
    unfold wX1_reasonb12
    exact chkE_k hS hb (fun u => absurd rfl u) fun _ => hX rfl
  · refine gR hx (by decide) h6 ⟨fun u => (nomatch u), fun _ => ?_⟩
    unfold wX1_reasonb12
    have hp := hP hw
    exact chkE_k hS hb (fun _ => ⟨fun u => gR hx (by decide) h6 (gI b1 (by decide) b3 (by rw [if_pos u] at hp; exact hp)), fun u => gR hx (by decide) h6 (gI b1 (by decide) b4 (by rw [if_neg u] at hp; exact hp))⟩) fun u => absurd u n10
end PU7
