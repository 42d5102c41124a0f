/-! what the model is asked: the best excuse, chances, what was heard -/
set_option maxRecDepth 100000
def can (g : Nat → Int32) (p s e : Nat) : Prop := g (66 + e) = Int32.ofNat p ∧ ¬ ovw g e ∧ bel g p e s
def tak (g : Nat → Int32) (p s e : Nat) (b : Option Nat) : Prop := can g p s e ∧ ∀ x, b = some x → ¬ lft g x ≤ lft g e
noncomputable def bsN (g : Nat → Int32) (p s : Nat) : Nat → Option Nat
  | 0 => none
  | e + 1 => @ite (Option Nat) (tak g p s e (bsN g p s e)) (Classical.propDecidable _) (some e) (bsN g p s e)
theorem bsN_y {g : Nat → Int32} {p s e : Nat} (h : tak g p s e (bsN g p s e)) : bsN g p s (e + 1) = some e := @if_pos _ (Classical.propDecidable _) h _ _ _
theorem bsN_n {g : Nat → Int32} {p s e : Nat} (h : ¬ tak g p s e (bsN g p s e)) : bsN g p s (e + 1) = bsN g p s e := @if_neg _ (Classical.propDecidable _) h _ _ _
theorem bsN_lt {g : Nat → Int32} {p s : Nat} : ∀ e x, bsN g p s e = some x → x < e := by
  intro e
  induction e with
  | zero => intro x h; exact nomatch h
  | succ e ih =>
    intro x h
    by_cases ht : tak g p s e (bsN g p s e)
    · rw [bsN_y ht] at h
      cases h
      omega
    · rw [bsN_n ht] at h
      have := ih x h
      omega
def bI : Option Nat → Int32
  | none => -1
  | some e => Int32.ofNat e
noncomputable def nCh (g : Nat → Int32) : Int32 := sN (fun e => sN (fun s => tw (¬ ovw g e ∧ bel g (dOf g e) e s)) 3) (cnt g)
noncomputable def nHrd (g : Nat → Int32) (s : Nat) : Int32 := sN (fun p => sN (fun k => sN (fun t => tw (hbit g s p k t)) 10) 4) 6
section MQ3
variable {G : gE} {z : hSt} {a : Nat} {A : Nat → Nat} {M : mSt} {PX : Nat → Nat → hSt → Prop} {P : Int32 → hSt → Prop}
theorem x_best (h : mOK G a A) (hg : gOK (M.1 0)) {v w : Int32} (f1 : ¬ (isP v ∧ isS w) → P 0 (mz z a A (mF M 1))) (f2 : ∀ p s : Nat, v = Int32.ofNat p → p < 6 → w = Int32.ofNat s → s < 3 → bsN (M.1 0) p s (cnt (M.1 0)) = none → P 0 (mz z a A (mF M 2))) (hP : ∀ p s e : Nat, v = Int32.ofNat p → p < 6 → w = Int32.ofNat s → s < 3 → bsN (M.1 0) p s (cnt (M.1 0)) = some e → P (Int32.ofNat e) (mz z a A (upS M 14 0))) : wX5_best G P PX (some a) v w (mz z a A M) := by
  have hc := hg.1.1
  unfold wX5_best wX5_bestb0 wX5_bestb14
  simp only [x_isPupil, x_isSchool, br_0, br_1, m_rc, true_and, x_fails h]
  refine ⟨fun c1 => f1 fun u => c1 u.1, fun c1 => ⟨fun c2 => ?_, fun c2 => f1 fun u => c2 u.2⟩⟩
  obtain ⟨p, hp, rfl⟩ := i_of (n := 5) c1.1 c1.2 (by omega)
  obtain ⟨s, hs, rfl⟩ := i_of (n := 2) c2.1 c2.2 (by omega)
  refine lp_det (cnt (M.1 0)) (fun e => (some a, Int32.ofNat p, Int32.ofNat s, bI (bsN (M.1 0) p s e), Int32.ofNat e, mz z a A M)) (fun y => cnt (M.1 0) - y.2.2.2.2.1.toNatClampNeg) (fun e he => by show _ - (Int32.ofNat e).toNatClampNeg = _; rw [i_nat (by omega)]) rfl ?_
  intro e he K hK
  unfold wX5_bestb25 wX5_bestb74 wX5_bestb75 wX5_bestb101 wX5_bestb104
  dsimp only
  simp (disch := omega) only [m_g0, m_a0 h, it0, iz0, hg.1.2, true_and, i_le, m_rc, x_done h, x_fails h]
  refine ⟨fun q => ?_, fun q => ?_⟩
  · have : e = cnt (M.1 0) := by omega
    subst this
    cases hb : bsN (M.1 0) p s (cnt (M.1 0)) with
    | none => exact ⟨fun u => absurd rfl u, fun _ => f2 p s rfl (by omega) rfl (by omega) hb⟩
    | some x =>
      have := bsN_lt _ _ hb
      exact ⟨fun _ => hP p s x rfl (by omega) rfl (by omega) hb, fun u => absurd u (ofNat_ne_neg (by omega))⟩
  · have hlt : e < cnt (M.1 0) := by omega
    have hk := hK hlt
    have ny : tak (M.1 0) p s e (bsN (M.1 0) p s e) → K (some a, Int32.ofNat p, Int32.ofNat s, Int32.ofNat e, Int32.ofNat (e + 1), mz z a A M) := fun u => by rw [bsN_y u] at hk; exact hk
    have nn : ¬ tak (M.1 0) p s e (bsN (M.1 0) p s e) → K (some a, Int32.ofNat p, Int32.ofNat s, bI (bsN (M.1 0) p s e), Int32.ofNat (e + 1), mz z a A M) := fun u => by rw [bsN_n u] at hk; exact hk
    simp (disch := omega) only [m_g0, m_a0 h, ix66, i_nat, iv, true_and, m_rc, x_isOverworked h hg hlt, x_isBelieved h hg (show p < 6 by omega) hlt (show s < 3 by omega), i_succ]
    have n0 : ∀ {Q : Prop}, ¬ tak (M.1 0) p s e (bsN (M.1 0) p s e) → ((True → K (some a, Int32.ofNat p, Int32.ofNat s, bI (bsN (M.1 0) p s e), Int32.ofNat (e + 1), mz z a A M)) ∧ (¬ True → Q)) := fun t => ⟨fun _ => nn t, fun x => absurd trivial x⟩
    refine ⟨fun u => n0 fun t => u t.1.1, fun u => ⟨fun u2 => ⟨fun _ => n0 fun t => t.1.2.1 u2, fun x => absurd x (by decide)⟩, fun u2 => ⟨fun x => absurd trivial x, fun _ => ⟨fun u3 => ⟨fun x => absurd x (by decide), fun _ => ⟨fun x => absurd x (by decide), fun _ => ?_⟩⟩, fun u3 => ⟨fun _ => n0 fun t => u3 t.1.2.2, fun x => absurd trivial x⟩⟩⟩⟩⟩
    cases hb : bsN (M.1 0) p s e with
    | none =>
      rw [hb] at ny
      exact ⟨fun _ => ny ⟨⟨u, u2, u3⟩, fun x hx => nomatch hx⟩, fun x => absurd rfl x⟩
    | some x =>
      have hx := bsN_lt _ _ hb
      rw [hb] at ny nn
      refine ⟨fun x' => absurd x' (ofNat_ne_neg (by omega)), fun _ => ?_⟩
      show wX5_leftOf G _ PX (some a) (Int32.ofNat e) (mz z a A M)
      rw [x_leftOf h (by omega)]
      refine ⟨m_rcv, ?_⟩
      show wX5_leftOf G _ PX (some a) (Int32.ofNat x) (mz z a A M)
      rw [x_leftOf h (by omega)]
      exact ⟨fun y => nn fun t => t.2 x rfl y, fun y => ny ⟨⟨u, u2, u3⟩, fun x' hx' => by cases hx'; exact y⟩⟩
theorem x_chances (h : mOK G a A) (hg : gOK (M.1 0)) (hP : P (nCh (M.1 0)) (mz z a A (upS M 14 0))) : wX5_chances G P PX (some a) (mz z a A M) := by
  have hc := hg.1.1
  unfold wX5_chances wX5_chancesb0
  refine lp_det (cnt (M.1 0)) (fun e => (some a, sN (fun e => sN (fun s => tw (¬ ovw (M.1 0) e ∧ bel (M.1 0) (dOf (M.1 0) e) e s)) 3) e, Int32.ofNat e, mz z a A M)) (fun y => cnt (M.1 0) - y.2.2.1.toNatClampNeg) (fun e he => by show _ - (Int32.ofNat e).toNatClampNeg = _; rw [i_nat (by omega)]) rfl ?_
  intro e he K hK
  unfold wX5_chancesb4
  dsimp only
  simp (disch := omega) only [m_g0, m_a0 h, it0, iz0, hg.1.2, true_and, i_le, m_rc, x_done h]
  refine ⟨fun q => ?_, fun q => ?_⟩
  · have : e = cnt (M.1 0) := by omega
    subst this
    exact hP
  · have hlt : e < cnt (M.1 0) := by omega
    have hk := hK hlt
    obtain ⟨-, -, -, hd1, hd2⟩ := hg.2 e hlt
    refine lp_det 3 (fun s => (some a, sN (fun e => sN (fun s => tw (¬ ovw (M.1 0) e ∧ bel (M.1 0) (dOf (M.1 0) e) e s)) 3) e + sN (fun s => tw (¬ ovw (M.1 0) e ∧ bel (M.1 0) (dOf (M.1 0) e) e s)) s, Int32.ofNat e, Int32.ofNat s, mz z a A M)) (fun y => 3 - y.2.2.2.1.toNatClampNeg) (fun e he => by show _ - (Int32.ofNat e).toNatClampNeg = _; rw [i_nat (by omega)]) (by rw [sN_0, Int32.add_zero]; rfl) ?_
    intro s hs K2 hK2
    unfold wX5_chancesb16 wX5_chancesb52 wX5_chancesb53
    dsimp only
    rw [show (3 : Int32) = Int32.ofNat 3 from rfl, i_le (by omega) (by omega)]
    refine ⟨fun w => ?_, fun w => ⟨m_rcv, ?_⟩⟩
    · have : s = 3 := by omega
      subst this
      rw [i_succ]
      exact hk
    · have hk2 := hK2 (by omega)
      rw [← sN_s, ← Int32.add_assoc, ← i_succ] at hk2
      rw [x_isOverworked h hg hlt]
      refine ⟨fun u => ⟨fun _ => by rw [tw_0 (fun t => t.1 u)] at hk2; exact hk2, fun x => absurd x (by decide)⟩, fun u => ⟨fun x => absurd rfl x, fun _ => ?_⟩⟩
      simp (disch := omega) only [m_g0, m_a0 h, ix66, i_nat, iv, true_and, m_rc, hd2, x_isBelieved h hg hd1 hlt (show s < 3 by omega)]
      exact ⟨fun u2 => ⟨fun x => absurd x (by decide), fun _ => by rw [tw_1 ⟨u, u2⟩] at hk2; exact hk2⟩, fun u2 => ⟨fun _ => by rw [tw_0 (fun t => u2 t.2)] at hk2; exact hk2, fun x => absurd trivial x⟩⟩
theorem x_heardBy (h : mOK G a A) {s : Nat} (hs : s < 3) (hP : P (nHrd (M.1 0) s) (mz z a A M)) : wX5_heardBy G P PX (some a) (Int32.ofNat s) (mz z a A M) := by
  unfold wX5_heardBy wX5_heardByb0
  refine lp_det 6 (fun p => (some a, Int32.ofNat s, sN (fun p => sN (fun k => sN (fun t => tw (hbit (M.1 0) s p k t)) 10) 4) p, Int32.ofNat p, mz z a A M)) (fun y => 6 - y.2.2.2.1.toNatClampNeg) (fun e he => by show _ - (Int32.ofNat e).toNatClampNeg = _; rw [i_nat (by omega)]) rfl ?_
  intro p hp K hK
  unfold wX5_heardByb4
  dsimp only
  rw [show (6 : Int32) = Int32.ofNat 6 from rfl, i_le (by omega) (by omega)]
  refine ⟨fun q => ?_, fun q => ?_⟩
  · have : p = 6 := by omega
    subst this
    exact hP
  have hk := hK (by omega)
  rw [← sN_s] at hk
  generalize sN (fun p => sN (fun k => sN (fun t => tw (hbit (M.1 0) s p k t)) 10) 4) p = n0 at hk ⊢
  refine lp_det 4 (fun k => (some a, Int32.ofNat s, n0 + sN (fun k => sN (fun t => tw (hbit (M.1 0) s p k t)) 10) k, Int32.ofNat p, Int32.ofNat k, mz z a A M)) (fun y => 4 - y.2.2.2.2.1.toNatClampNeg) (fun e he => by show _ - (Int32.ofNat e).toNatClampNeg = _; rw [i_nat (by omega)]) (by rw [sN_0, Int32.add_zero]; rfl) ?_
  intro k hk4 K2 hK2
  unfold wX5_heardByb13
  dsimp only
  rw [show (4 : Int32) = Int32.ofNat 4 from rfl, i_le (by omega) (by omega)]
  refine ⟨fun q => ?_, fun q => ?_⟩
  · have : k = 4 := by omega
    subst this
    rw [i_succ]
    exact hk
  have hk2 := hK2 (by omega)
  rw [← sN_s, ← Int32.add_assoc] at hk2
  generalize n0 + sN (fun k => sN (fun t => tw (hbit (M.1 0) s p k t)) 10) k = n1 at hk2 ⊢
  refine lp_det 10 (fun t => (some a, Int32.ofNat s, n1 + sN (fun t => tw (hbit (M.1 0) s p k t)) t, Int32.ofNat p, Int32.ofNat k, Int32.ofNat t, mz z a A M)) (fun y => 10 - y.2.2.2.2.2.1.toNatClampNeg) (fun e he => by show _ - (Int32.ofNat e).toNatClampNeg = _; rw [i_nat (by omega)]) (by rw [sN_0, Int32.add_zero]; rfl) ?_
  intro t ht K3 hK3
  unfold wX5_heardByb22 wX5_heardByb48
  dsimp only
  rw [show (10 : Int32) = Int32.ofNat 10 from rfl, i_le (by omega) (by omega)]
  refine ⟨fun q => ?_, fun q => ⟨m_rcv, ?_⟩⟩
  · have : t = 10 := by omega
    subst this
    rw [i_succ]
    exact hk2
  · have hk3 := hK3 (by omega)
    rw [← sN_s, ← Int32.add_assoc, ← i_succ] at hk3
    rw [x_isHeard h hs (by omega) (by omega)]
    exact ⟨fun u => ⟨fun x => absurd x (by decide), fun _ => by rw [tw_1 u] at hk3; exact hk3⟩, fun u => ⟨fun _ => by rw [tw_0 u] at hk3; exact hk3, fun x => absurd rfl x⟩⟩
end MQ3
