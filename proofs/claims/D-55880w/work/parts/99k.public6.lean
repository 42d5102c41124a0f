/-! the object is asked: places, a school's numbers, what was heard, what would be believed -/
set_option maxRecDepth 100000
theorem cnt_in {v : Int32} {n : Nat} (hn : n ≤ 1000) : (¬ v < 0 ∧ ¬ (Int32.ofNat n - 1) < v) ↔ ∃ e : Nat, v = Int32.ofNat e ∧ e < n := by
  constructor
  · intro c
    by_cases h0 : n = 0
    · exfalso
      subst h0
      have h3 := Int32.le_trans (Int32.not_lt.mp c.1) (Int32.not_lt.mp c.2)
      exact absurd h3 (by decide)
    · rw [show (1 : Int32) = Int32.ofNat 1 from rfl, i_sub (by omega)] at c
      obtain ⟨e, he, rfl⟩ := i_of c.1 c.2 (by omega)
      exact ⟨e, rfl, by omega⟩
  · rintro ⟨e, rfl, he⟩
    refine ⟨i_nn (by omega), ?_⟩
    rw [show (1 : Int32) = Int32.ofNat 1 from rfl, i_sub (by omega), i_lt (by omega) (by omega)]
    omega
theorem sN_app {f : Nat → Int32} {a : Nat} : ∀ b, sN f (a + b) = sN f a + sN (fun j => f (a + j)) b := by
  intro b
  induction b with
  | zero => rw [Nat.add_zero, sN_0, Int32.add_zero]
  | succ b ih =>
    show sN f (a + b) + f (a + b) = sN f a + (sN (fun j => f (a + j)) b + f (a + b))
    rw [ih, Int32.add_assoc]
theorem sN_mul {f : Nat → Int32} {m : Nat} : ∀ n, sN f (n * m) = sN (fun i => sN (fun j => f (i * m + j)) m) n := by
  intro n
  induction n with
  | zero => rw [Nat.zero_mul]; rfl
  | succ n ih =>
    show sN f ((n + 1) * m) = sN (fun i => sN (fun j => f (i * m + j)) m) n + sN (fun j => f (n * m + j)) m
    rw [Nat.succ_mul, sN_app, ih]
theorem cnt_sN {p : Nat → Bool} : ∀ n, Int32.ofNat (cntB p n) = sN (fun x => tw (p x = true)) n := by
  intro n
  induction n with
  | zero => rfl
  | succ n ih =>
    show _ = sN (fun x => tw (p x = true)) n + tw (p n = true)
    rw [cntB_s, ← ih, ← i_add]
    congr 1
    by_cases h : p n = true
    · rw [if_pos h, tw_1 h]; rfl
    · rw [if_neg h, tw_0 h]; rfl
theorem tw_congr {p q : Prop} (h : p ↔ q) : tw p = tw q := congrArg tw (propext h)
theorem hb_at {g : Nat → Int32} {s p k t : Nat} (hp : p < 6) (hk : k < 4) (ht : t < 10) : hb g s (6 * (10 * k + t) + p) = true ↔ hbit g s p k t := by
  obtain ⟨m1, m2, m3⟩ := mod6 (10 * k + t) p hp
  rw [hb_iff, m1, m3, m2, show (10 * k + t) / 10 = k by omega, show (10 * k + t) % 10 = t by omega]
  exact ⟨fun w => w.2, fun w => ⟨by omega, w⟩⟩
theorem nHrd_cnt {g : Nat → Int32} {s : Nat} : nHrd g s = Int32.ofNat (cntB (hb g s) 240) := by
  rw [cnt_sN]
  have e1 : sN (fun x => tw (hb g s x = true)) 240 = sN (fun k => sN (fun t => sN (fun p => tw (hb g s ((k * 10 + t) * 6 + p) = true)) 6) 10) 4 :=
    (sN_mul (f := fun x => tw (hb g s x = true)) (m := 6) 40).trans (sN_mul (f := fun i => sN (fun j => tw (hb g s (i * 6 + j) = true)) 6) (m := 10) 4)
  rw [e1]
  have e2 : nHrd g s = sN (fun k => sN (fun p => sN (fun t => tw (hbit g s p k t)) 10) 6) 4 := sN_sw
  rw [e2]
  refine sN_congr fun k hk => ?_
  refine Eq.trans (sN_sw (f := fun p t => tw (hbit g s p k t))) ?_
  refine sN_congr fun t ht => sN_congr fun p hp => ?_
  refine tw_congr ?_
  rw [show (k * 10 + t) * 6 + p = 6 * (10 * k + t) + p by omega]
  exact (hb_at hp hk ht).symm
section PU6
variable {G : gE} {σ : hSt} {PX : Nat → Nat → hSt → Prop} {P : Int32 → hSt → Prop} {n0 : Nat} {o A : Nat → Nat} {md : Int32} {es : List eT} {g : Nat → Int32} {x : Nat}
theorem q_at {v w : Int32} (hS : SI G σ) (hO : OB σ x (A 0)) (h : LG G σ n0 o A md es g) (hb : bd G σ 600) (hX : (∀ e : Nat, v = Int32.ofNat e → ¬ e < cnt g) → XC G σ PX 28) (hP : ∀ (e : Nat) τ, v = Int32.ofNat e → e < cnt g → ev G W0 500 σ τ → P (if w = 0 then g (6 + e) else g (18 + e)) τ) : wX1_at G P PX (some x) v w σ := by
  have h12 := h.ok.1.1
  unfold wX1_at wX1_atb0
  refine hO.L (gR h.L (by decide) rfl ⟨h.M.rc, lsz_k h.M ?_⟩)
  rw [h.len]
  refine isIn_k (fun c => ?_) fun c => chkE_k hS (hb.mono (by omega)) (fun u => absurd rfl u) fun _ => hX fun e he hlt => c ((cnt_in (by omega)).mpr ⟨e, he, hlt⟩)
  obtain ⟨e, rfl, he⟩ := (cnt_in (by omega)).mp c
  refine chkE_k hS (hb.mono (by omega)) (fun _ => hO.L ⟨h.rc, all_k hS h hb fun τ a arr md' ev1 ha hA => ⟨hA.rc, al_get hA (x := xa es e) ?_ ?_⟩⟩) fun u => absurd u n10
  · rw [List.getElem?_map, List.getElem?_range he]; rfl
  · have h2 := h.ev ev1 W0_g
    obtain ⟨q, hq, hqx, hc⟩ := h2.xae he
    obtain ⟨hnm, hk, ht, h40⟩ := h2.nm hq
    have hp := hP e τ rfl he ev1
    obtain ⟨⟨-, e1⟩, ⟨-, e2⟩, -⟩ := h.ok.2 e he
    refine ⟨cO hc (by decide), gR hc (by decide) rfl ⟨fun u => gI hnm (by decide) rfl ?_, fun u => gI hnm (by decide) rfl ?_⟩⟩
    · rw [if_pos u, e1, ← hk] at hp; exact hp
    · rw [if_neg u, e2, ← ht] at hp; exact hp
theorem q_schoolOf {v w : Int32} (hS : SI G σ) (hO : OB σ x (A 0)) (h : LG G σ n0 o A md es g) (hb : bd G σ 10) (hX : ¬ isS v → XC G σ PX 32) (hA : isS v → w ∉ ([0, 1, 2, 3] : List Int32) → XC G σ PX 29) (hP : ∀ (s : Nat) r, v = Int32.ofNat s → s < 3 → sch g s w r → P r σ) : wX1_schoolOf G P PX (some x) v w σ := by
  unfold wX1_schoolOf wX1_schoolOfb0
  refine isSch_k (fun c1 => chkI_k hS (hb.mono (by omega)) (fun _ => isIn_k (fun c2 => chkA_k hS (hb.mono (by omega)) (fun _ => ?_) fun u => absurd u n10) fun c2 => chkA_k hS (hb.mono (by omega)) (fun u => absurd rfl u) fun _ => hA c1 fun u => c2 ?_) fun u => absurd u n10) fun c1 => chkI_k hS (hb.mono (by omega)) (fun u => absurd rfl u) fun _ => hX c1
  · obtain ⟨s, hs, rfl⟩ := i_of (n := 2) c1.1 c1.2 (by omega)
    have hs3 : s < 3 := by omega
    refine hO.L (h.aS hs3 ⟨rco (h.sch hs3), ?_⟩)
    unfold wX3_number wX3_numberb0
    obtain ⟨N, hset⟩ := h.set hs3
    refine ⟨fun u => gI (h.sch hs3) (by decide) rfl (hP s _ rfl hs3 (Or.inl ⟨u, rfl⟩)), fun u => gR (h.sch hs3) (by decide) rfl ⟨rco hset.1, ssz_k hset (hP s _ rfl hs3 (Or.inr (Or.inl ⟨u, nHrd_cnt.symm⟩)))⟩, fun u => gI (h.sch hs3) (by decide) rfl (hP s _ rfl hs3 (Or.inr (Or.inr (Or.inl ⟨u, rfl⟩)))), fun u => gI (h.sch hs3) (by decide) rfl (hP s _ rfl hs3 (Or.inr (Or.inr (Or.inr ⟨?_, rfl⟩))))⟩
    obtain ⟨j, hj, rfl⟩ := i_of (n := 3) c2.1 c2.2 (by omega)
    have : j = 0 ∨ j = 1 ∨ j = 2 ∨ j = 3 := by omega
    rcases this with rfl | rfl | rfl | rfl
    · exact absurd (by decide) u
    · exact absurd (by decide) u
    · exact absurd (by decide) u
    · rfl
  · have hw : w = 0 ∨ w = 1 ∨ w = 2 ∨ w = 3 := by simpa using u
    rcases hw with rfl | rfl | rfl | rfl <;> exact ⟨by decide, by decide⟩
theorem q_heard {s p k t : Int32} (hS : SI G σ) (hO : OB σ x (A 0)) (h : LG G σ n0 o A md es g) (hb : bd G σ 20) (hX : ¬ (isS s ∧ isP p) → XC G σ PX 32) (hA : isS s → isP p → ¬ isX k t → ∀ τ q, ev G W0 10 σ τ → τ.1 q = some (.inr (29, [])) → PX 29 q τ) (hP : ∀ (s' p' k' t' : Nat) τ, s = Int32.ofNat s' → s' < 3 → p = Int32.ofNat p' → p' < 6 → k = Int32.ofNat k' → k' < 4 → t = Int32.ofNat t' → t' < 10 → ev G W0 6 σ τ → P (tw (hbit g s' p' k' t')) τ) : wX1_heard G P PX (some x) s p k t σ := by
  have no : ¬ (isS s ∧ isP p) → wX1_heardb18 G P PX (some x) s p k t σ := fun u => by
    unfold wX1_heardb18 wX1_heardb19
    exact chkI_k hS (hb.mono (by omega)) (fun z => absurd rfl z) fun _ => hX u
  unfold wX1_heard wX1_heardb0
  refine isSch_k (fun c1 => ⟨fun u => absurd u n10, fun _ => isPup_k (fun c2 => ⟨fun u => absurd u n10, fun _ => ?_⟩) fun c2 => ⟨fun _ => no fun u => c2 u.2, fun u => absurd rfl u⟩⟩) fun c1 => ⟨fun _ => no fun u => c1 u.1, fun u => absurd rfl u⟩
  obtain ⟨s', hs, rfl⟩ := i_of (n := 2) c1.1 c1.2 (by omega)
  obtain ⟨p', hp, rfl⟩ := i_of (n := 5) c2.1 c2.2 (by omega)
  have hs3 : s' < 3 := by omega
  have hp6 : p' < 6 := by omega
  unfold wX1_heardb19
  refine chkI_k hS (hb.mono (by omega)) (fun _ => hO.L (h.aS hs3 (gR (h.sch hs3) (by decide) rfl (nO hS (hb.mono (by omega)) (fun w => by omega) fun a τ n hXa ea => cname_k ea.t (ea.rm hb (by omega)) (fun k' t' τ1 nm hk hk4 ht ht10 e1 hky => ⟨⟨a, rfl⟩, ?_⟩) fun w τ2 q e2 hq => hA c1 c2 w τ2 q ((ea.tr e2).le' (by omega)) hq)))) fun u => absurd u n10
  subst hk
  subst ht
  obtain ⟨h40, hn⟩ : 10 * k' + t' < 40 ∧ τ1.1 nm = some (.inr (5, nmC (10 * k' + t'))) := by
    rcases hky with ⟨-, h40, hn⟩ | ⟨w, -⟩ | ⟨w, -⟩
    · exact ⟨h40, hn⟩
    · exact absurd w (by decide)
    · exact absurd w (by decide)
  refine story_k e1.t hp6 h40 (e1.o n.2.1 (fun w => w) (by decide) (by decide)) hn fun τ2 e2 hk9 => ?_
  have e02 : ev G W0 6 σ τ2 := ((ea.tr e1).f1 e2 (by rw [n.1]; exact Nat.le_refl _)).le' (by omega)
  have h2 := h.ev e02 W0_g
  obtain ⟨N2, hset2⟩ := h2.set hs3
  have hp := hP s' p' k' t' τ2 rfl hs3 rfl hp6 rfl hk4 rfl ht10 e02
  refine ⟨rco hset2.1, shas_k hset2 hk9 (fun hn => ⟨ok_b0, ?_⟩) fun hy => ⟨ok_b1, ?_⟩⟩
  · rw [tw_0 fun w => hn ((hb_at hp6 hk4 ht10).mpr w)] at hp; exact hp
  · rw [tw_1 ((hb_at hp6 hk4 ht10).mp hy)] at hp; exact hp
theorem q_would {p k t s : Int32} (hS : SI G σ) (hO : OB σ x (A 0)) (h : LG G σ n0 o A md es g) (hb : bd G σ 40) (hX : ¬ (isP p ∧ isS s) → XC G σ PX 32) (hA : isP p → isS s → ¬ isX k t → XC G σ PX 29) (hE : isP p → isS s → isX k t → noF g k t → ∀ τ q, ev G W0 10 σ τ → τ.1 q = some (.inr (28, [])) → PX 28 q τ) (hP : ∀ (p' s' e : Nat) τ, p = Int32.ofNat p' → p' < 6 → s = Int32.ofNat s' → s' < 3 → isX k t → isF g k t e → ev G W0 6 σ τ → P (tw (bel g p' e s')) τ) : wX1_would G P PX (some x) p k t s σ := by
  have no : ¬ (isP p ∧ isS s) → wX1_wouldb19 G P PX (some x) p k t s σ := fun u => by
    unfold wX1_wouldb19 wX1_wouldb20
    exact chkI_k hS (hb.mono (by omega)) (fun z => absurd rfl z) fun _ => hX u
  unfold wX1_would wX1_wouldb0
  refine isPup_k (fun c1 => ⟨fun u => absurd u n10, fun _ => isSch_k (fun c2 => ⟨fun u => absurd u n10, fun _ => ?_⟩) fun c2 => ⟨fun _ => no fun u => c2 u.2, fun u => absurd rfl u⟩⟩) fun c1 => ⟨fun _ => no fun u => c1 u.1, fun u => absurd rfl u⟩
  obtain ⟨p', hp, rfl⟩ := i_of (n := 5) c1.1 c1.2 (by omega)
  obtain ⟨s', hs, rfl⟩ := i_of (n := 2) c2.1 c2.2 (by omega)
  unfold wX1_wouldb20
  refine chkI_k hS (hb.mono (by omega)) (fun _ => hO.L ⟨hO.rc, cexc_k hS hO h (hb.mono (by omega)) (hA c1 c2) (hE c1 c2) fun e τ hx he e1 h1 hxE => ⟨h1.rc, ?_⟩⟩) fun u => absurd u n10
  have hp := fun τ2 (e2 : ev G W0 3 τ τ2) => hP p' s' e τ2 rfl (by omega) rfl (by omega) hx he ((e1.tr e2).le' (by omega))
  exact would_k e1.t h1 (by omega) (by omega) hxE (e1.rm hb (by omega)) (fun w τ2 e2 => ⟨ok_b1, by have := hp τ2 e2; rw [tw_1 w] at this; exact this⟩) fun w τ2 e2 => ⟨ok_b0, by have := hp τ2 e2; rw [tw_0 w] at this; exact this⟩
end PU6
