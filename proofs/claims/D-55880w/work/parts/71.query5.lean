/-! the ledger is asked: ranks, the strongest kind, fairness; refusals -/
set_option maxRecDepth 100000
/-- the last of those below n whose number is v, or -1 -/
def lastI (f : Nat → Int32) (v : Int32) : Nat → Int32
  | 0 => -1
  | n + 1 => if f n = v then Int32.ofNat n else lastI f v n
/-- a refusal in the heap -/
def RF (z : hSt) (q : Nat) (r d : Int32) : Prop := ∃ fs, z.1 q = some (.inr (8, fs)) ∧ fs.length = 8 ∧ fs[6]? = some (.int r) ∧ fs[7]? = some (.int d)
section QR5
variable {G : gE} {σ : hSt} {PX : Nat → Nat → hSt → Prop} {P : Int32 → hSt → Prop} {n0 : Nat} {o A : Nat → Nat} {md : Int32} {es : List eT} {g : Nat → Int32}
theorem ahd_r {p : Nat} : ¬ ahd g p p := by
  unfold ahd
  rw [Int32.sub_self, Int32.sub_self]
  rintro (w | ⟨-, w | ⟨-, w⟩⟩)
  · exact absurd w (by decide)
  · exact absurd w (by decide)
  · omega
theorem frs_r {p : Nat} : ¬ frs g p p := by
  unfold frs
  rw [Int32.sub_self, Int32.sub_self]
  rintro (w | ⟨-, w | ⟨-, w⟩⟩)
  · exact absurd w (by decide)
  · exact absurd w (by decide)
  · omega
theorem ranked_k {v : Int32} (hS : SI G σ) (h : LG G σ n0 o A md es g) (hb : bd G σ 37100) (hP : ∀ τ, ev G W0 36000 σ τ → P (lastI (rkn g) v 6) τ) : wX2_ranked G P PX (some (A 0)) v σ := by
  unfold wX2_ranked wX2_rankedb0
  refine lp_n (fun n y => ∃ p z, p ≤ 6 ∧ n = 6 - p ∧ y = (some (A 0), v, lastI (rkn g) v p, Int32.ofNat p, z) ∧ ev G W0 (6000 * p) σ z) 6 ⟨0, σ, by omega, rfl, rfl, ev.refl hS⟩ ?_
  rintro n y ⟨p, z, hp, rfl, rfl, ez⟩ K hK
  unfold wX2_rankedb4
  rw [show (6 : Int32) = Int32.ofNat 6 from rfl, i_le (by omega) (by omega)]
  refine ⟨fun w => ?_, fun w => ?_⟩
  · have : p = 6 := by omega
    subst this
    exact hP z (ez.le' (by omega))
  · refine lp_n (fun n y => ∃ q z1, q ≤ 6 ∧ n = 6 - q ∧ y = (some (A 0), v, lastI (rkn g) v p, Int32.ofNat p, sN (fun q => tw (ahd g q p)) q, Int32.ofNat q, z1) ∧ ev G W0 (1000 * q) z z1) 6 ⟨0, z, by omega, rfl, rfl, ev.refl ez.t⟩ ?_
    rintro n y ⟨q, z1, hq, rfl, rfl, ez1⟩ K' hK'
    unfold wX2_rankedb16
    have e01 := ez.tr ez1
    have hz1 := h.ev e01 W0_g
    rw [show (6 : Int32) = Int32.ofNat 6 from rfl, i_le (by omega) (by omega)]
    have go : ∀ u τ, ev G W0 1000 z1 τ → u = tw (ahd g q p) → q < 6 → wX2_rankedb46 G P PX K K' (some (A 0)) v (lastI (rkn g) v p) (Int32.ofNat p) (Int32.ofNat q) (sN (fun q => tw (ahd g q p)) q) u τ := fun u τ e2 hu hq6 => by
      unfold wX2_rankedb46
      refine told_t hu ?_
      rw [sN_s (f := fun q => tw (ahd g q p)), i_succ]
      exact hK' (6 - (q + 1)) _ (by omega) ⟨q + 1, τ, by omega, rfl, rfl, (ez1.tr e2).le' (by omega)⟩
    refine ⟨fun w2 => ?_, fun w2 => ⟨fun w3 => go 0 z1 ((ev.refl ez1.t).le' (by omega)) ?_ (by omega), fun w3 => ⟨hz1.rc, richer_k ez1.t hz1 (e01.rm hb (by omega)) (by omega) (by omega) (fun u τ e2 => ⟨fun w4 => absurd w4 (by decide), fun _ => go 1 τ e2 (tw_1 u).symm (by omega)⟩) fun u τ e2 => ⟨fun _ => go 0 τ e2 (tw_0 u).symm (by omega), fun w4 => absurd rfl w4⟩⟩⟩⟩
    · have : q = 6 := by omega
      subst this
      unfold wX2_rankedb69
      have hk : ∀ f, f = lastI (rkn g) v (p + 1) → K (some (A 0), v, f, Int32.ofNat p + 1, z1) := fun f hf => by
        rw [hf, i_succ]
        exact hK (6 - (p + 1)) _ (by omega) ⟨p + 1, z1, by omega, rfl, rfl, e01.le' (by omega)⟩
      refine ⟨fun w4 => hk _ ?_, fun w4 => hk _ ?_⟩
      · exact (if_neg (c := rkn g p = v) w4).symm
      · exact (if_pos (c := rkn g p = v) w4).symm
    · have : q = p := (i_eq (by omega) (by omega)).mp w3
      subst this
      exact (tw_0 ahd_r).symm
theorem fresher_k {i j a b : Nat} {u : Int32} (hi : xE σ es g i a) (hj : xE σ es g j b) (hu : u ≠ 0 ↔ i < j) (h1 : frs g i j → P 1 σ) (h0 : ¬ frs g i j → P 0 σ) : wX2_isFresher G P PX (some a) (some b) u σ := by
  obtain ⟨q, -, -, hic⟩ := id hi
  obtain ⟨q', -, -, hjc⟩ := id hj
  unfold wX2_isFresher wX2_isFresherb0 wX2_isFresherb43 wX2_isFresherb47
  refine exL_k hi (exL_k hj (gI hjc (by decide) rfl (gI hic (by decide) rfl ?_)))
  have y1 : frs g i j → okN .boolean 1 ∧ P 1 σ := fun w => ⟨ok_b1, h1 w⟩
  have y0 : ¬ frs g i j → okN .boolean 0 ∧ P 0 σ := fun w => ⟨ok_b0, h0 w⟩
  unfold frs at y1 y0
  refine ⟨fun w => y1 (Or.inl w), fun w1 => ⟨fun w2 => y0 fun u => ?_, fun w2 => ⟨fun w => y1 (Or.inr ⟨w2, Or.inl w⟩), fun w3 => ⟨fun w4 => y0 fun u => ?_, fun w4 => ⟨fun w5 => y0 fun u => ?_, fun w5 => y1 (Or.inr ⟨w2, Or.inr ⟨w4, hu.mp w5⟩⟩)⟩⟩⟩⟩⟩
  · rcases u with u | ⟨u, -⟩
    · exact w1 u
    · exact w2 u
  · rcases u with u | ⟨-, u | ⟨u, -⟩⟩
    · exact w1 u
    · exact w3 u
    · exact w4 u
  · rcases u with u | ⟨-, u | ⟨-, u⟩⟩
    · exact w1 u
    · exact w3 u
    · exact hu.mpr u w5
theorem freshest_k {v : Int32} (hS : SI G σ) (h : LG G σ n0 o A md es g) (hb : bd G σ 600) (hP : ∀ τ, ev G W0 500 σ τ → P (lastI (fkn g) v (cnt g)) τ) : wX2_freshest G P PX (some (A 0)) v σ := by
  unfold wX2_freshest wX2_freshestb0
  refine ⟨h.rc, all_k hS h hb fun τ a arr md' e1 ha hA => ?_⟩
  have h2 := h.ev e1 W0_g
  have h12 := h.ok.1.1
  have hsz : (Int32.ofNat ((List.range (cnt g)).map (xa es)).length) = Int32.ofNat (cnt g) := by rw [List.length_map, List.length_range]
  refine lp_n (fun n y => ∃ p, p ≤ cnt g ∧ n = cnt g - p ∧ y = (v, some a, lastI (fkn g) v p, Int32.ofNat p, τ)) (cnt g) ⟨0, by omega, rfl, rfl⟩ ?_
  rintro n y ⟨p, hp, rfl, rfl⟩ K hK
  unfold wX2_freshestb10
  refine ⟨hA.rc, al_size hA ?_⟩
  rw [hsz]
  dsimp only
  rw [i_le (by omega) (by omega)]
  refine ⟨fun w => ?_, fun w => ?_⟩
  · have : p = cnt g := by omega
    subst this
    exact hP τ e1
  · refine lp_n (fun n y => ∃ q, q ≤ cnt g ∧ n = cnt g - q ∧ y = (v, some a, lastI (fkn g) v p, Int32.ofNat p, sN (fun q => tw (frs g q p)) q, Int32.ofNat q, τ)) (cnt g) ⟨0, by omega, rfl, rfl⟩ ?_
    rintro n y ⟨q, hq, rfl, rfl⟩ K' hK'
    unfold wX2_freshestb25
    refine ⟨hA.rc, al_size hA ?_⟩
    rw [hsz]
    dsimp only
    rw [i_le (by omega) (by omega)]
    have go : ∀ u, u = tw (frs g q p) → q < cnt g → wX2_freshestb84 G P PX K K' v (some a) (lastI (fkn g) v p) (Int32.ofNat p) (Int32.ofNat q) (sN (fun q => tw (frs g q p)) q) u τ := fun u hu hq6 => by
      unfold wX2_freshestb84
      refine told_t hu ?_
      rw [sN_s (f := fun q => tw (frs g q p)), i_succ]
      exact hK' (cnt g - (q + 1)) _ (by omega) ⟨q + 1, by omega, rfl, rfl⟩
    have hget : ∀ i, i < cnt g → ((List.range (cnt g)).map (xa es))[i]? = some (xa es i) := fun i hi => by
      rw [List.getElem?_map, List.getElem?_range hi]; rfl
    refine ⟨fun w2 => ?_, fun w2 => ⟨fun w3 => go 0 ?_ (by omega), fun w3 => ⟨hA.rc, al_get hA (hget q (by omega)) ?_⟩⟩⟩
    · have : q = cnt g := by omega
      subst this
      unfold wX2_freshestb108
      have hk : ∀ f, f = lastI (fkn g) v (p + 1) → K (v, some a, f, Int32.ofNat p + 1, τ) := fun f hf => by
        rw [hf, i_succ]
        exact hK (cnt g - (p + 1)) _ (by omega) ⟨p + 1, by omega, rfl, rfl⟩
      refine ⟨fun w4 => hk _ ?_, fun w4 => hk _ ?_⟩
      · exact (if_neg (c := fkn g p = v) w4).symm
      · exact (if_pos (c := fkn g p = v) w4).symm
    · have : q = p := (i_eq (by omega) (by omega)).mp w3
      subst this
      exact (tw_0 frs_r).symm
    · have xq := h2.xae (e := q) (by omega)
      have xp := h2.xae (e := p) (by omega)
      obtain ⟨qq, -, -, hqc⟩ := id xq
      obtain ⟨qp, -, -, hpc⟩ := id xp
      have hf : ∀ u : Int32, (u ≠ 0 ↔ q < p) → wX2_freshestb73 G P PX K K' v (some a) (lastI (fkn g) v p) (Int32.ofNat p) (Int32.ofNat q) (sN (fun q => tw (frs g q p)) q) (some (xa es q)) (some (xa es p)) u τ := fun u hu => by
        unfold wX2_freshestb73
        exact fresher_k xq xp hu (fun w4 => ⟨fun w5 => absurd w5 (by decide), fun _ => go 1 (tw_1 w4).symm (by omega)⟩) fun w4 => ⟨fun _ => go 0 (tw_0 w4).symm (by omega), fun w5 => absurd rfl w5⟩
      refine ⟨cO hqc (by decide), hA.rc, al_get hA (hget p (by omega)) ⟨cO hpc (by decide), ?_⟩⟩
      rw [i_le (by omega) (by omega)]
      exact ⟨fun w4 => hf 0 ⟨fun w5 => absurd rfl w5, fun w5 => by omega⟩, fun w4 => hf 1 ⟨fun _ => by omega, fun _ => by decide⟩⟩
theorem emp_k (h : LG G σ n0 o A md es g) (h1 : cnt g = 0 → P 1 σ) (h0 : cnt g ≠ 0 → P 0 σ) : wJ1_isEmpty G P PX (some (A 1)) σ := by
  obtain ⟨t, th, ⟨hci, k0, k1, k3, hm⟩, -⟩ := h.M
  have h12 := h.le12
  rw [← h.len] at h1 h0
  unfold wJ1_isEmpty wJ1_isEmptyb0
  refine gI hm (by decide) rfl ?_
  rw [show (0 : Int32) = Int32.ofNat 0 from rfl, i_eq (by omega) (by omega)]
  exact ⟨fun w => ⟨ok_b0, h0 w⟩, fun w => ⟨ok_b1, h1 w⟩⟩
theorem strong_k (hS : SI G σ) (h : LG G σ n0 o A md es g) (hb : bd G σ 30) (h1 : cnt g = 0 → ∀ τ, ev G W0 30 σ τ → P (-1) τ) (h0 : cnt g ≠ 0 → ∀ τ, ev G W0 30 σ τ → P (sBest g 4) τ) : wX2_strongest G P PX (some (A 0)) σ := by
  unfold wX2_strongest wX2_strongestb0
  refine nA (n := 4) hS (by omega) (hb.mono (by omega)) fun a τ n hX e1 => ?_
  have ha : σ.2.1 ≤ a := by rw [n.1]; exact Nat.le_refl _
  have h2 := h.ev e1 W0_g
  refine gR h2.L (by decide) rfl (iter_k e1.t h2.M (e1.rm hb (by omega)) fun z0 it e2 hit hi => ?_)
  have e02 : ev G W0 14 σ z0 := (e1.tr e2).le' (by omega)
  refine each_k (fun (_ : Unit) it z => (some (A 0), some a, it, z)) (b0 := ()) (fun K b it z h => by dsimp only; unfold wX2_strongestb17; exact h) (fun e _ z => ∃ f, z.1 a = some (.inl (0, 4, .inl f)) ∧ ∀ k, k < 4 → f k = sN (fun e => twl (g (6 + e) = Int32.ofNat k) (lft g e)) e) 0 h e02 (Nat.le_trans e1.le hit) hi ⟨_, e2.a n.2.1 (fun w => w), fun k _ => rfl⟩ (fun e b z z' hJ hw => ?_) (fun e q x b z hq hx hJ ez hz _ K hK => ?_) fun b z hJ ez hz => ?_
  · obtain ⟨f, hf, hfk⟩ := hJ
    exact ⟨f, hw.a hf fun w => by have := w.2; omega, hfk⟩
  · obtain ⟨f, hf, hfk⟩ := hJ
    have hxE := hz.xcell hq hx
    obtain ⟨q', hq', -, hxc⟩ := id hxE
    rw [hq] at hq'
    cases hq'
    have he := hz.lt hq
    obtain ⟨hn, hk, -, h40⟩ := hz.nm hq
    obtain ⟨⟨hk4, hk'⟩, -⟩ := h.ok.2 e he
    refine ⟨cO hxc (by decide), gR hxc (by decide) rfl (gI hn (by decide) rfl (aI hf (by omega) (i := q.2.1 / 10) (by omega) (exL_k hxE (sI ez.t hf hX (by omega) (i := q.2.1 / 10) (by omega) fun τ2 w2 e3 => hK () τ2 _ e3 (fun b k w => ⟨by rw [w.1]; exact ha, by have := w.2; omega⟩) ⟨_, w2.1, fun k hk4' => ?_⟩))))⟩
    rw [← sN_s]
    unfold upd
    by_cases hkk : k = q.2.1 / 10
    · subst hkk
      rw [if_pos rfl, hfk _ hk4', twl_1 (by rw [hk', hk])]
      rfl
    · rw [if_neg hkk, hfk _ hk4', twl_0, Int32.add_zero]
      rw [hk', i_eq (by omega) (by omega), ← hk]
      omega
  · obtain ⟨f, hf, hfk⟩ := hJ
    rw [h.len] at hfk
    refine lp_n (fun n y => ∃ k j, 1 ≤ k ∧ k ≤ 4 ∧ n = 4 - k ∧ j < k ∧ sBest g k = Int32.ofNat j ∧ y = (some (A 0), some a, Int32.ofNat j, Int32.ofNat k, z)) 3 ⟨1, 0, by omega, by omega, rfl, by omega, rfl, rfl⟩ ?_
    rintro n y ⟨k, j, hk1, hk4, rfl, hj, hs, rfl⟩ K hK
    unfold wX2_strongestb59
    rw [show (4 : Int32) = Int32.ofNat 4 from rfl, i_le (by omega) (by omega)]
    refine ⟨fun w => ?_, fun w => ?_⟩
    · have : k = 4 := by omega
      subst this
      refine gR hz.L (by decide) rfl ⟨hz.M.rc, emp_k hz (fun w => ⟨fun w => absurd w (by decide), fun _ => h1 w z (ez.le' (by omega))⟩) fun w => ⟨fun _ => ?_, fun w => absurd rfl w⟩⟩
      dsimp only
      rw [← hs]
      exact h0 w z (ez.le' (by omega))
    · have hlt : k < 4 := by omega
      refine aI hf (by omega) hlt (aI hf (by omega) (i := j) (by omega) ?_)
      rw [hfk k hlt, hfk j (by omega)]
      have hst : sBest g (k + 1) = if nStr g (Int32.ofNat k) ≤ nStr g (sBest g k) then sBest g k else Int32.ofNat k := by
        show (if k = 0 then 0 else _) = _
        rw [if_neg (by omega)]
      rw [hs] at hst
      unfold wX2_strongestb78
      rw [i_succ]
      refine ⟨fun w2 => hK (4 - (k + 1)) _ (by omega) ⟨k + 1, j, by omega, by omega, rfl, by omega, ?_, rfl⟩, fun w2 => hK (4 - (k + 1)) _ (by omega) ⟨k + 1, k, by omega, by omega, rfl, by omega, ?_, rfl⟩⟩
      · rw [hst]; exact if_pos w2
      · rw [hst]; exact if_neg w2
theorem coins_k (h : LG G σ n0 o A md es g) (hP : P (g 3 + sumG g 114 6) σ) : wX2_allCoins G P PX (some (A 0)) σ := by
  obtain ⟨f, hh, q1, q2, q3, q4⟩ := h.2.2.2.1
  unfold wX2_allCoins wX2_allCoinsb0
  refine gI h.L (by decide) rfl (gR h.L (by decide) rfl (aL q3 ?_))
  refine lp_n (fun n y => ∃ p, p ≤ 6 ∧ n = 6 - p ∧ y = (g 3 + sumG g 114 p, some (A 4), Int32.ofNat 6, Int32.ofNat p, σ)) 6 ⟨0, by omega, rfl, by rw [show sumG g 114 0 = 0 from rfl, Int32.add_zero]; rfl⟩ ?_
  rintro n y ⟨p, hp, rfl, rfl⟩ K hK
  unfold wX2_allCoinsb16
  rw [i_le (by omega) (by omega)]
  refine ⟨fun w => ?_, fun w => aR q3 (by decide) (by omega) (by omega) ?_⟩
  · have : p = 6 := by omega
    subst this
    exact hP
  · rw [q4 p (by omega)]
    refine gI (h.pup (by omega)) (by decide) rfl ?_
    rw [i_succ, Int32.add_assoc]
    exact hK (6 - (p + 1)) _ (by omega) ⟨p + 1, by omega, rfl, rfl⟩
theorem refuse_k {K : hSt → Prop} {v r d : Int32} (hS : SI G σ) (hb : bd G σ 9) (h0 : v = 0 → K σ) (h1 : v ≠ 0 → ∀ τ q, ev G W0 9 σ τ → RF τ q r d → PX 8 q τ) : wX1_refuse G K PX v r d σ := by
  unfold wX1_refuse wX1_refuseb0 wX9_init wX9_initb0
  refine ⟨h0, fun w => nO hS hb (fun w => by omega) fun a τ n hX e => ⟨⟨a, rfl⟩, eX e.t n.2.1 (by decide) rfl fun τ2 u v w2 e2 => pO e2.t w2.1 (by decide) (by simp) (by decide) fun τ3 w3 e3 => pO e3.t w3.1 (by decide) (by simp) (by decide) fun τ4 w4 e4 => ⟨rco w4.1, fun q hq => ?_⟩⟩⟩
  cases hq
  exact h1 w τ4 _ ((e.f1 ((e2.tr e3).tr e4) (by rw [n.1]; exact Nat.le_refl _)).le' (by omega)) ⟨_, w4.1, by simp, rfl, rfl⟩
theorem excuse_k {P : Option Nat → hSt → Prop} {nm k t : Nat} (hS : SI G σ) (h : LG G σ n0 o A md es g) (hb : bd G σ 9) (hk : k < 4) (ht : t < 10) (hn : KY σ 5 nm (10 * k + t)) (h1 : ∀ e, isF g (Int32.ofNat k) (Int32.ofNat t) e → xE σ es g e (xa es e) → P (some (xa es e)) σ) (h0 : noF g (Int32.ofNat k) (Int32.ofNat t) → ∀ τ q, ev G W0 9 σ τ → RF τ q 3 (g 0) → PX 8 q τ) : wX2_excuse G P PX (some (A 0)) (some nm) σ := by
  unfold wX2_excuse wX2_excuseb0 wX2_excuseb21
  have hlen : Int32.ofNat es.length = g 0 := by rw [h.len]; exact h.ok.1.2.symm
  refine gR h.L (by decide) rfl ⟨h.M.rc, lk_k h hk ht hn (fun e he hxE => ?_) fun hno => ⟨Or.inl rfl, fun w => absurd rfl w, fun _ => gR h.L (by decide) rfl ⟨h.M.rc, lsz_k h.M ?_⟩⟩⟩
  · obtain ⟨q, -, -, hxc⟩ := id hxE
    exact ⟨cO hxc (by decide), fun _ => gR h.L (by decide) rfl ⟨h.M.rc, lsz_k h.M (refuse_k hS hb (fun _ => h1 e he hxE) fun w => absurd rfl w)⟩, fun w => nomatch w⟩
  · rw [hlen]
    exact refuse_k hS hb (fun w => absurd w (by decide)) fun _ => h0 hno
end QR5
