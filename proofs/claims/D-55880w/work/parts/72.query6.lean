/-! the ledger is asked: is it fair -/
set_option maxRecDepth 100000
theorem n10 : ¬ (1 : Int32) = 0 := by decide
section QR6
variable {G : gE} {σ : hSt} {PX : Nat → Nat → hSt → Prop} {P : Int32 → hSt → Prop} {n0 : Nat} {o A : Nat → Nat} {md : Int32} {es : List eT} {g : Nat → Int32}
/-- nobody believes a worn excuse -/
theorem no_bel {p e s : Nat} (hs : ¬ g (132 + s) ≤ 0) (hl : ¬ 0 < lft g e) : ¬ bel g p e s := by
  rintro ⟨-, h, -⟩
  rw [Int32.le_iff_toInt_le] at hs
  rw [Int32.lt_iff_toInt_lt] at hl h
  omega
theorem fair_k (hS : SI G σ) (h : LG G σ n0 o A md es g) (hb : bd G σ 6000) (hc : g 3 + sumG g 114 6 = 120) (hst : ∀ s, s < 3 → ¬ g (132 + s) ≤ 0) (hu : ¬ sumG g 135 3 < sN (fun e => g (78 + e)) (cnt g)) (hP : ∀ τ, ev G W0 5000 σ τ → P 1 τ) : wX2_isFair G P PX (some (A 0)) σ := by
  unfold wX2_isFair wX2_isFairb0
  have h12 := h.le12
  refine ⟨h.rc, chances_k hS h (hb.mono (by omega)) fun τ1 e1 => ?_⟩
  have h1 := h.ev e1 W0_g
  refine ⟨h1.rc, chancesA_k e1.t h1 (e1.rm hb (by omega)) fun τ2 e2 => ⟨fun w => absurd rfl w, fun _ => ?_⟩⟩
  have e02 := e1.tr e2
  have h2 := h.ev e02 W0_g
  refine ⟨h2.rc, coins_k h2 ⟨fun w => absurd hc w, fun _ => ?_⟩⟩
  unfold wX2_isFairb25
  refine lp_n (fun n y => ∃ p z, p ≤ 6 ∧ n = 6 - p ∧ y = (some (A 0), 1, 0, Int32.ofNat p, z) ∧ ev G W0 (320 + 640 * p) σ z) 6 ⟨0, τ2, by omega, rfl, rfl, e02.le' (by omega)⟩ ?_
  rintro n y ⟨p, z, hp, rfl, rfl, ez⟩ K hK
  unfold wX2_isFairb30
  have hz := h.ev ez W0_g
  rw [show (6 : Int32) = Int32.ofNat 6 from rfl, i_le (by omega) (by omega)]
  refine ⟨fun w => ?_, fun w => ⟨fun w2 => absurd w2 n10, fun _ => ⟨hz.rc, left_k ez.t hz (ez.rm hb (by omega)) fun τ3 e3 => ?_⟩⟩⟩
  · have : p = 6 := by omega
    subst this
    refine gR hz.L (by decide) rfl (iter_k ez.t hz.M (ez.rm hb (by omega)) fun z0 it e0 hit hi => ?_)
    refine each_k (fun b it z => (some (A 0), 1, b, it, z)) (fun K b it z h => by dsimp only; unfold wX2_isFairb78; exact h) (fun e b z => b = sN (fun e => g (78 + e)) e) 9 hz e0 hit hi rfl (fun e b z z' hJ _ => hJ) (fun e q x b z1 hq hx hJ ez1 hz1 _ K' hK' => ?_) fun b z1 hJ ez1 hz1 => ?_
    · subst hJ
      have hxE := hz1.xcell hq hx
      obtain ⟨q', hq', -, hxc⟩ := id hxE
      rw [hq] at hq'
      cases hq'
      have he := hz1.lt hq
      have hel : e < es.length := by rw [h.len]; exact he
      obtain ⟨-, -, -, hd, hd'⟩ := h.ok.2 e he
      have go : ∀ τ, ev G W0 9 z1 τ → wX2_isFairb132 G P PX K' (some (A 0)) (sN (fun e => g (78 + e)) e + g (78 + e)) (some it) τ := fun τ e4 => by
        unfold wX2_isFairb132 wX2_isFairb137
        refine hK' _ τ W0 e4 (fun a k w => w.elim) ?_
        rw [sN_s (f := fun e => g (78 + e))]
      have e01 := ez.tr ez1
      refine ⟨cO hxc (by decide), gI hxc (by decide) rfl ⟨fun w2 => absurd w2 (by decide), fun _ => exL_k hxE ⟨fun w2 => go z1 ((ev.refl ez1.t).le' (by omega)), fun w2 => gI hxc (by decide) rfl ⟨hz1.rc, ?_⟩⟩⟩⟩
      rw [hd']
      refine believers_k ez1.t hz1 hd hxE (e01.rm hb (by omega)) fun τ e4 => ⟨fun w3 => absurd ?_ w3, fun _ => go τ e4⟩
      exact sN_z fun s hs => tw_0 (no_bel (hst s hs) w2)
    · subst hJ
      refine ⟨fun w2 => absurd w2 n10, fun _ => ⟨hz1.rc, uses_k hz1 ⟨fun w2 => absurd w2 ?_, fun _ => ⟨ok_b1, hP z1 ((ez.tr ez1).le' (by omega))⟩⟩⟩⟩
      rw [hz.len]; exact hu
  · have h3 := hz.ev e3 W0_g
    refine ⟨h3.rc, leftA_k e3.t h3 ((ez.tr e3).rm hb (by omega)) fun τ4 e4 => ⟨fun w2 => absurd rfl w2, fun _ => ?_⟩⟩
    unfold wX2_isFairb58
    rw [i_succ]
    exact hK (6 - (p + 1)) _ (by omega) ⟨p + 1, τ4, by omega, rfl, rfl, ((ez.tr e3).tr e4).le' (by omega)⟩
end QR6
