/-! what the model is asked: ranks, the best -/
set_option maxRecDepth 100000
theorem lp_J {α : Type} {F : (α → Prop) → α → Prop} {x : α} (n : Nat) (st : Nat → α) (J : Nat → Prop) (m : α → Nat) (hm : ∀ e, e ≤ n → m (st e) = n - e) (h0 : x = st 0) (hJ : J 0) (hs : ∀ (e : Nat), e ≤ n → J e → ∀ K : α → Prop, (e < n → J (e + 1) → K (st (e + 1))) → F K (st e)) : lpI F x := by
  refine ⟨fun y => ∃ e, e ≤ n ∧ J e ∧ y = st e, m, ⟨0, Nat.zero_le _, hJ, h0⟩, ?_⟩
  rintro y ⟨e, he, hj, rfl⟩
  refine hs e he hj _ fun hl hj2 => ⟨⟨e + 1, hl, hj2, rfl⟩, ?_⟩
  rw [hm e he, hm (e + 1) hl]
  omega
noncomputable def nHld (g : Nat → Int32) (p : Nat) : Int32 := nHeld g (Int32.ofNat p) ((0 : Int32) ≠ 0)
def ahd (g : Nat → Int32) (o p : Nat) : Prop := 0 < g (114 + o) - g (114 + p) ∨ (g (114 + o) - g (114 + p) = 0 ∧ (0 < nHld g o - nHld g p ∨ (nHld g o - nHld g p = 0 ∧ o < p)))
noncomputable def rkn (g : Nat → Int32) (p : Nat) : Int32 := sN (fun o => tw (ahd g o p)) 6
def frs (g : Nat → Int32) (o e : Nat) : Prop := 0 < lft g o - lft g e ∨ (lft g o - lft g e = 0 ∧ (0 < g (78 + e) - g (78 + o) ∨ (g (78 + e) - g (78 + o) = 0 ∧ o < e)))
noncomputable def fkn (g : Nat → Int32) (e : Nat) : Int32 := sN (fun o => tw (frs g o e)) (cnt g)
noncomputable def sBest (g : Nat → Int32) : Nat → Int32
  | 0 => 0
  | k + 1 => if k = 0 then 0 else if nStr g (Int32.ofNat k) ≤ nStr g (sBest g k) then sBest g k else Int32.ofNat k
section MQ2
variable {G : gE} {z : hSt} {a : Nat} {A : Nat → Nat} {M : mSt} {PX : Nat → Nat → hSt → Prop} {P : Int32 → hSt → Prop}
theorem x_isAhead (h : mOK G a A) (hg : gOK (M.1 0)) {o p : Nat} (ho : o < 6) (hp : p < 6) (h1 : ahd (M.1 0) o p → P 1 (mz z a A M)) (h0 : ¬ ahd (M.1 0) o p → P 0 (mz z a A M)) : wX5_isAhead G P PX (some a) (Int32.ofNat o) (Int32.ofNat p) (mz z a A M) := by
  unfold wX5_isAhead wX5_isAheadb0 wX5_isAheadb58 wX5_isAheadb62
  simp (disch := omega) only [m_g0, m_a0 h, ix114, i_nat, iv, true_and, m_rc, ok_0, ok_1]
  refine x_heldBy h hg ⟨m_rcv, x_heldBy h hg ?_⟩
  show (0 < M.1 0 (114 + o) - M.1 0 (114 + p) → P 1 (mz z a A M)) ∧ (¬ 0 < M.1 0 (114 + o) - M.1 0 (114 + p) → ((¬ M.1 0 (114 + o) - M.1 0 (114 + p) = 0 → P 0 (mz z a A M)) ∧ (M.1 0 (114 + o) - M.1 0 (114 + p) = 0 → ((0 < nHld (M.1 0) o - nHld (M.1 0) p → P 1 (mz z a A M)) ∧ (¬ 0 < nHld (M.1 0) o - nHld (M.1 0) p → ((¬ nHld (M.1 0) o - nHld (M.1 0) p = 0 → P 0 (mz z a A M)) ∧ (nHld (M.1 0) o - nHld (M.1 0) p = 0 → ((Int32.ofNat p ≤ Int32.ofNat o → P 0 (mz z a A M)) ∧ (¬ Int32.ofNat p ≤ Int32.ofNat o → P 1 (mz z a A M))))))))))
  rw [i_le (by omega) (by omega)]
  unfold ahd at h1 h0
  refine ⟨fun q => h1 (Or.inl q), fun q => ⟨fun w => h0 fun u => u.elim q fun u => w u.1, fun w => ⟨fun r => h1 (Or.inr ⟨w, Or.inl r⟩), fun r => ⟨fun s => h0 fun u => u.elim q fun u => u.2.elim r fun u => s u.1, fun s => ⟨fun t => h0 fun u => u.elim q fun u => u.2.elim r fun u => by omega, fun t => h1 (Or.inr ⟨w, Or.inr ⟨s, by omega⟩⟩)⟩⟩⟩⟩⟩
theorem x_ranked (h : mOK G a A) (hg : gOK (M.1 0)) {v : Int32} (f1 : (∀ p, p < 6 → rkn (M.1 0) p ≠ v) → P 0 (mz z a A (mF M 1))) (hP : ∀ p, p < 6 → rkn (M.1 0) p = v → (∀ q, q < p → rkn (M.1 0) q ≠ v) → P (Int32.ofNat p) (mz z a A (upS M 14 0))) : wX5_ranked G P PX (some a) v (mz z a A M) := by
  unfold wX5_ranked wX5_rankedb0
  refine lp_J 6 (fun p => (some a, v, Int32.ofNat p, mz z a A M)) (fun p => ∀ q, q < p → rkn (M.1 0) q ≠ v) (fun y => 6 - y.2.2.1.toNatClampNeg) (fun e he => by show _ - (Int32.ofNat e).toNatClampNeg = _; rw [i_nat (by omega)]) rfl (fun q hq => absurd hq (Nat.not_lt_zero q)) ?_
  intro p hp hJ K hK
  unfold wX5_rankedb2
  dsimp only
  rw [show (6 : Int32) = Int32.ofNat 6 from rfl, i_le (by omega) (by omega)]
  refine ⟨fun q => ⟨m_rcv, (x_fails h).mpr (f1 fun p' hp' => hJ p' (by omega))⟩, fun q => ?_⟩
  refine lp_det 6 (fun o => (some a, v, Int32.ofNat p, sN (fun o => tw (ahd (M.1 0) o p)) o, Int32.ofNat o, mz z a A M)) (fun y => 6 - y.2.2.2.2.1.toNatClampNeg) (fun e he => by show _ - (Int32.ofNat e).toNatClampNeg = _; rw [i_nat (by omega)]) rfl ?_
  intro o ho K2 hK2
  unfold wX5_rankedb13 wX5_rankedb36
  dsimp only
  rw [show (6 : Int32) = Int32.ofNat 6 from rfl, i_le (by omega) (by omega)]
  refine ⟨fun w => ?_, fun w => ⟨m_rcv, ?_⟩⟩
  · have : o = 6 := by omega
    subst this
    refine ⟨fun u => ?_, fun u => ⟨m_rcv, (x_done h).mpr (hP p (by omega) u hJ)⟩⟩
    rw [i_succ]
    exact hK (by omega) fun q' hq' => by
      by_cases e : q' = p
      · subst e; exact u
      · exact hJ q' (by omega)
  · have hk := hK2 (by omega)
    rw [← sN_s, ← i_succ] at hk
    exact x_isAhead h hg (by omega) (by omega) (fun u => ⟨fun x => absurd x (by decide), fun _ => by rw [tw_1 u] at hk; exact hk⟩) (fun u => ⟨fun _ => by rw [tw_0 u] at hk; exact hk, fun x => absurd rfl x⟩)
theorem x_isFresher (h : mOK G a A) {o e : Nat} (ho : o < 12) (he : e < 12) (h1 : frs (M.1 0) o e → P 1 (mz z a A M)) (h0 : ¬ frs (M.1 0) o e → P 0 (mz z a A M)) : wX5_isFresher G P PX (some a) (Int32.ofNat o) (Int32.ofNat e) (mz z a A M) := by
  unfold wX5_isFresher wX5_isFresherb0 wX5_isFresherb56 wX5_isFresherb60
  simp (disch := omega) only [m_g0, m_a0 h, ix78, i_nat, iv, true_and, m_rc, ok_0, ok_1, x_leftOf h ho, x_leftOf h he, i_le]
  unfold frs at h1 h0
  refine ⟨fun q => h1 (Or.inl q), fun q => ⟨fun w => h0 fun u => u.elim q fun u => w u.1, fun w => ⟨fun r => h1 (Or.inr ⟨w, Or.inl r⟩), fun r => ⟨fun s => h0 fun u => u.elim q fun u => u.2.elim r fun u => s u.1, fun s => ⟨fun t => h0 fun u => u.elim q fun u => u.2.elim r fun u => by omega, fun t => h1 (Or.inr ⟨w, Or.inr ⟨s, by omega⟩⟩)⟩⟩⟩⟩⟩
theorem x_freshest (h : mOK G a A) (hg : gOK (M.1 0)) {v : Int32} (f1 : (∀ p, p < cnt (M.1 0) → fkn (M.1 0) p ≠ v) → P 0 (mz z a A (mF M 1))) (hP : ∀ p, p < cnt (M.1 0) → fkn (M.1 0) p = v → (∀ q, q < p → fkn (M.1 0) q ≠ v) → P (Int32.ofNat p) (mz z a A (upS M 14 0))) : wX5_freshest G P PX (some a) v (mz z a A M) := by
  have hc := hg.1.1
  unfold wX5_freshest wX5_freshestb0
  refine lp_J (cnt (M.1 0)) (fun p => (some a, v, Int32.ofNat p, mz z a A M)) (fun p => ∀ q, q < p → fkn (M.1 0) q ≠ v) (fun y => cnt (M.1 0) - y.2.2.1.toNatClampNeg) (fun e he => by show _ - (Int32.ofNat e).toNatClampNeg = _; rw [i_nat (by omega)]) rfl (fun q hq => absurd hq (Nat.not_lt_zero q)) ?_
  intro p hp hJ K hK
  unfold wX5_freshestb2
  dsimp only
  simp (disch := omega) only [m_g0, m_a0 h, it0, iz0, hg.1.2, true_and, i_le, m_rc, x_fails h]
  refine ⟨fun q => f1 fun p' hp' => hJ p' (by omega), fun q => ?_⟩
  refine lp_det (cnt (M.1 0)) (fun o => (some a, v, Int32.ofNat p, sN (fun o => tw (frs (M.1 0) o p)) o, Int32.ofNat o, mz z a A M)) (fun y => cnt (M.1 0) - y.2.2.2.2.1.toNatClampNeg) (fun e he => by show _ - (Int32.ofNat e).toNatClampNeg = _; rw [i_nat (by omega)]) rfl ?_
  intro o ho K2 hK2
  unfold wX5_freshestb17 wX5_freshestb44
  dsimp only
  simp (disch := omega) only [m_g0, m_a0 h, it0, iz0, hg.1.2, true_and, i_le, m_rc, x_done h]
  refine ⟨fun w => ?_, fun w => ?_⟩
  · have : o = cnt (M.1 0) := by omega
    subst this
    refine ⟨fun u => ?_, fun u => hP p (by omega) u hJ⟩
    rw [i_succ]
    exact hK (by omega) fun q' hq' => by
      by_cases e : q' = p
      · subst e; exact u
      · exact hJ q' (by omega)
  · have hk := hK2 (by omega)
    rw [← sN_s, ← i_succ] at hk
    exact x_isFresher h (by omega) (by omega) (fun u => ⟨fun x => absurd x (by decide), fun _ => by rw [tw_1 u] at hk; exact hk⟩) (fun u => ⟨fun _ => by rw [tw_0 u] at hk; exact hk, fun x => absurd rfl x⟩)
theorem x_strongest (h : mOK G a A) (hg : gOK (M.1 0)) (f1 : cnt (M.1 0) = 0 → P 0 (mz z a A (mF M 1))) (hP : cnt (M.1 0) ≠ 0 → P (sBest (M.1 0) 4) (mz z a A (upS M 14 0))) : wX5_strongest G P PX (some a) (mz z a A M) := by
  have hc := hg.1.1
  unfold wX5_strongest wX5_strongestb0
  refine lp_from 1 4 (by omega) (fun k => (some a, sBest (M.1 0) k, Int32.ofNat k, mz z a A M)) (fun y => 4 - y.2.2.1.toNatClampNeg) (fun e _ he => by show _ - (Int32.ofNat e).toNatClampNeg = _; rw [i_nat (by omega)]) rfl ?_
  intro k hk1 hk K hK
  unfold wX5_strongestb4 wX5_strongestb27
  dsimp only
  rw [show (4 : Int32) = Int32.ofNat 4 from rfl, i_le (by omega) (by omega)]
  refine ⟨fun w => ?_, fun w => ⟨m_rcv, x_strengthOf h hg ⟨m_rcv, x_strengthOf h hg ?_⟩⟩⟩
  · have : k = 4 := by omega
    subst this
    simp (disch := omega) only [m_g0, m_a0 h, it0, iz0, hg.1.2, true_and, m_rc, x_done h, x_fails h]
    rw [show (0 : Int32) = Int32.ofNat 0 from rfl, i_eq (by omega) (by omega)]
    exact ⟨fun u => hP u, fun u => f1 u⟩
  · have hk2 := hK (by omega)
    have e : sBest (M.1 0) (k + 1) = if nStr (M.1 0) (Int32.ofNat k) ≤ nStr (M.1 0) (sBest (M.1 0) k) then sBest (M.1 0) k else Int32.ofNat k := by
      show (if k = 0 then 0 else _) = _
      rw [if_neg (by omega)]
    rw [e, ← i_succ] at hk2
    exact ⟨fun u => by rw [if_pos u] at hk2; exact hk2, fun u => by rw [if_neg u] at hk2; exact hk2⟩
end MQ2
