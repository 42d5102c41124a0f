/-! the model reads: figures, marks, letters -/
set_option maxRecDepth 100000
/-- the reading's state: where it stands, whether it went wrong, what it was told -/
def prM (M : mSt) (i : Nat) (w : Int32) (D : Nat → Int32) : mSt := (fun k => if k = 17 then D else M.1 k, fun k => if k = 15 then Int32.ofNat i else if k = 16 then w else M.2 k)
theorem prM_15 {M : mSt} {i : Nat} {w : Int32} {D : Nat → Int32} : (prM M i w D).2 15 = Int32.ofNat i := rfl
theorem prM_16 {M : mSt} {i : Nat} {w : Int32} {D : Nat → Int32} : (prM M i w D).2 16 = w := rfl
theorem prM_7 {M : mSt} {i : Nat} {w : Int32} {D : Nat → Int32} : (prM M i w D).2 7 = M.2 7 := rfl
theorem prM_6 {M : mSt} {i : Nat} {w : Int32} {D : Nat → Int32} : (prM M i w D).1 6 = M.1 6 := rfl
theorem prM_17 {M : mSt} {i : Nat} {w : Int32} {D : Nat → Int32} : (prM M i w D).1 17 = D := rfl
theorem prM_s15 {M : mSt} {i j : Nat} {w : Int32} {D : Nat → Int32} : upS (prM M i w D) 15 (Int32.ofNat j) = prM M j w D := by
  refine Prod.ext rfl (funext fun k => ?_)
  show (if k = 15 then Int32.ofNat j else (if k = 15 then Int32.ofNat i else if k = 16 then w else M.2 k)) = (if k = 15 then Int32.ofNat j else if k = 16 then w else M.2 k)
  by_cases h : k = 15
  · rw [if_pos h, if_pos h]
  · rw [if_neg h, if_neg h, if_neg h]
theorem prM_s16 {M : mSt} {i : Nat} {w w' : Int32} {D : Nat → Int32} : upS (prM M i w D) 16 w' = prM M i w' D := by
  refine Prod.ext rfl (funext fun k => ?_)
  show (if k = 16 then w' else (if k = 15 then Int32.ofNat i else if k = 16 then w else M.2 k)) = (if k = 15 then Int32.ofNat i else if k = 16 then w' else M.2 k)
  by_cases h : k = 16
  · rw [if_pos h, if_neg (by omega), if_pos h]
  · rw [if_neg h, if_neg h, if_neg h]
theorem prM_a17 {M : mSt} {i j : Nat} {w x : Int32} {D : Nat → Int32} : upA (prM M i w D) 17 j x = prM M i w (upd D j x) := by
  refine Prod.ext (funext fun k => funext fun m => ?_) rfl
  show (if k = 17 then (if m = j then x else (if k = 17 then D else M.1 k) m) else (if k = 17 then D else M.1 k) m) = (if k = 17 then upd D j x else M.1 k) m
  by_cases h : k = 17
  · simp [h, upd]
  · simp [h]
/-- the input is the text T -/
def inp (M : mSt) (T : List Nat) : Prop := M.2 7 = Int32.ofNat T.length ∧ T.length ≤ 60 ∧ ∀ i c, T[i]? = some c → M.1 6 i = Int32.ofNat c ∧ c < 65536
def hv (T : List Nat) (i : Nat) : Int32 := match T[i]? with
  | some c => Int32.ofNat c
  | none => -1
theorem hv_s {T : List Nat} {i c : Nat} (h : T[i]? = some c) : hv T i = Int32.ofNat c := by unfold hv; rw [h]
theorem hv_n {T : List Nat} {i : Nat} (h : T[i]? = none) : hv T i = -1 := by unfold hv; rw [h]
/-- the figure read at i -/
def figR (T : List Nat) (i : Nat) (w v : Int32) (i' : Nat) (w' : Int32) : Prop := (w ≠ 0 ∧ v = 0 ∧ i' = i ∧ w' = 1) ∨ (w = 0 ∧ ∃ c, T[i]? = some c ∧ 48 ≤ c ∧ c ≤ 57 ∧ v = Int32.ofNat (c - 48) ∧ i' = i + 1 ∧ w' = 0) ∨ (w = 0 ∧ (∀ c, T[i]? = some c → ¬ (48 ≤ c ∧ c ≤ 57)) ∧ v = 0 ∧ i' = i ∧ w' = 1)
def neeR (T : List Nat) (c : Nat) (i : Nat) (w : Int32) (i' : Nat) (w' : Int32) : Prop := (w ≠ 0 ∧ i' = i ∧ w' = 1) ∨ (w = 0 ∧ T[i]? = some c ∧ i' = i + 1 ∧ w' = 0) ∨ (w = 0 ∧ T[i]? ≠ some c ∧ i' = i ∧ w' = 1)
def kCo (c : Nat) : Option Nat := if c = 100 then some 0 else if c = 119 then some 1 else if c = 105 then some 2 else if c = 116 then some 3 else none
def kndR (T : List Nat) (i : Nat) (w v : Int32) (i' : Nat) (w' : Int32) : Prop := (w ≠ 0 ∧ i' = i ∧ w' = 1) ∨ (w = 0 ∧ ∃ c k, T[i]? = some c ∧ kCo c = some k ∧ v = Int32.ofNat k ∧ i' = i + 1 ∧ w' = 0) ∨ (w = 0 ∧ (∀ c, T[i]? = some c → kCo c = none) ∧ i' = i ∧ w' = 1)
section MR2
variable {G : gE} {z : hSt} {a : Nat} {A : Nat → Nat} {M : mSt} {PX : Nat → Nat → hSt → Prop} {P : Int32 → hSt → Prop} {T : List Nat} {i : Nat} {w : Int32} {D : Nat → Int32}
theorem x_here (h : mOK G a A) (hT : inp M T) (hi : i < 1000) (hP : P (hv T i) (mz z a A (prM M i w D))) : wX5_here G P PX (some a) (mz z a A (prM M i w D)) := by
  obtain ⟨h7, h60, h6⟩ := hT
  unfold wX5_here wX5_hereb0
  simp (disch := omega) only [m_i15, m_i7, prM_15, prM_7, h7, i_le, m_g6]
  refine ⟨fun q => ?_, fun q => ?_⟩
  · rw [hv_n (List.getElem?_eq_none (by omega))] at hP
    exact hP
  · have hlt : i < T.length := by omega
    have hs := List.getElem?_eq_getElem hlt
    rw [hv_s hs] at hP
    simp (disch := omega) only [m_a6 h, i_nat, iv, true_and, prM_6]
    rw [(h6 i _ hs).1]
    exact hP
theorem x_needs (h : mOK G a A) (hT : inp M T) (hi : i < 1000) {c : Nat} (hc : c < 65536) {P : hSt → Prop} (hP : ∀ i' w', neeR T c i w i' w' → P (mz z a A (prM M i' w' D))) : wX5_needs G P PX (some a) (Int32.ofNat c) (mz z a A (prM M i w D)) := by
  unfold wX5_needs wX5_needsb0 wX5_needsb16
  have go : ∀ w' : Int32, okN .boolean w' → (w' = 0 → P (mz z a A (prM M (i + 1) 0 D))) → (w' ≠ 0 → P (mz z a A (prM M i w' D))) → wX5_needsb21 G P PX (some a) (some a) w' (mz z a A (prM M i w D)) := by
    intro w' hok g0 g1
    unfold wX5_needsb21 wX5_needsb41
    refine ⟨hok, ?_⟩
    simp only [m_p16 h, prM_s16, m_i15, m_i16, prM_15, prM_16, m_p15 h]
    refine ⟨fun q => ?_, fun q => ?_⟩
    · rw [i_succ, prM_s15, q]
      exact g0 q
    · rw [Int32.add_zero, prM_s15]
      exact g1 q
  rw [m_i16, prM_16]
  refine ⟨fun q => go 1 ok_b1 (fun x => absurd x (by decide)) fun _ => hP _ _ (Or.inl ⟨q, rfl, rfl⟩), fun q => ⟨m_rcv, x_here h hT hi ?_⟩⟩
  have bad : T[i]? ≠ some c → wX5_needsb21 G P PX (some a) (some a) 1 (mz z a A (prM M i w D)) := fun q2 => go 1 ok_b1 (fun x => absurd x (by decide)) fun _ => hP _ _ (Or.inr (Or.inr ⟨q, q2, rfl, rfl⟩))
  cases hs : T[i]? with
  | none =>
    rw [hv_n hs]
    exact ⟨fun x => absurd x.symm (ofNat_ne_neg (by omega)), fun _ => bad (by rw [hs]; exact fun x => nomatch x)⟩
  | some d =>
    rw [hv_s hs]
    have hd := (hT.2.2 i d hs).2
    rw [i_eq (by omega) (by omega)]
    exact ⟨fun x => go 0 ok_b0 (fun _ => hP _ _ (Or.inr (Or.inl ⟨q, by rw [hs, x], rfl, rfl⟩))) fun x => absurd rfl x, fun x => bad (by rw [hs]; exact fun y => x (Option.some.inj y))⟩
theorem x_figure (h : mOK G a A) (hT : inp M T) (hi : i < 1000) (hP : ∀ v i' w', figR T i w v i' w' → P v (mz z a A (prM M i' w' D))) : wX5_figure G P PX (some a) (mz z a A (prM M i w D)) := by
  unfold wX5_figure wX5_figureb0 wX5_figureb24
  refine ⟨m_rcv, x_here h hT hi ?_⟩
  have go : ∀ (x w' : Int32), okN .boolean w' → (w' = 0 → P (x - 48) (mz z a A (prM M (i + 1) 0 D))) → (w' ≠ 0 → P 0 (mz z a A (prM M i w' D))) → wX5_figureb29 G P PX (some a) x (some a) w' (mz z a A (prM M i w D)) := by
    intro x w' hok g0 g1
    unfold wX5_figureb29 wX5_figureb49
    refine ⟨hok, ?_⟩
    simp only [m_p16 h, prM_s16, m_i15, m_i16, prM_15, prM_16, m_p15 h]
    refine ⟨fun q => ?_, fun q => ?_⟩
    · rw [i_succ, prM_s15, prM_16]
      exact ⟨fun _ => by rw [q]; exact g0 q, fun y => absurd q y⟩
    · rw [Int32.add_zero, prM_s15, prM_16]
      exact ⟨fun y => absurd y q, fun _ => g1 q⟩
  rw [m_i16, prM_16]
  refine ⟨fun q => go _ 1 ok_b1 (fun x => absurd x (by decide)) fun _ => hP _ _ _ (Or.inl ⟨q, rfl, rfl, rfl⟩), fun q => ?_⟩
  rw [x_in, br_1]
  have bad : ∀ x, (∀ c, T[i]? = some c → ¬ (48 ≤ c ∧ c ≤ 57)) → wX5_figureb29 G P PX (some a) x (some a) 1 (mz z a A (prM M i w D)) := fun x q2 => go x 1 ok_b1 (fun x => absurd x (by decide)) fun _ => hP _ _ _ (Or.inr (Or.inr ⟨q, q2, rfl, rfl, rfl⟩))
  cases hs : T[i]? with
  | none =>
    rw [hv_n hs]
    exact ⟨fun x => absurd x (by decide), fun _ => bad _ (fun c hc => by rw [hs] at hc; exact nomatch hc)⟩
  | some d =>
    rw [hv_s hs, show (48 : Int32) = Int32.ofNat 48 from rfl, show (57 : Int32) = Int32.ofNat 57 from rfl]
    have hd := (hT.2.2 i d hs).2
    rw [i_lt (by omega) (by omega), i_lt (by omega) (by omega)]
    refine ⟨fun x => go _ 0 ok_b0 (fun _ => ?_) fun x => absurd rfl x, fun x => bad _ fun c hc => by
      rw [hs] at hc
      cases hc
      omega⟩
    rw [show (48 : Int32) = Int32.ofNat 48 from rfl, i_sub (by omega)]
    exact hP _ _ _ (Or.inr (Or.inl ⟨q, d, hs, by omega, by omega, rfl, rfl, rfl⟩))
theorem x_kindOf {x : Int32} {y : hSt} (hP : P (if x = 100 then 0 else if x = 119 then 1 else if x = 105 then 2 else if x = 116 then 3 else -1) y) : wX5_kindOf G P PX x y := by
  unfold wX5_kindOf wX5_kindOfb0
  refine ⟨fun q0 => ⟨fun q1 => ⟨fun q2 => ⟨fun q3 => ?_, fun q3 => ?_⟩, fun q2 => ?_⟩, fun q1 => ?_⟩, fun q0 => ?_⟩
  · rw [if_neg q0, if_neg q1, if_neg q2, if_neg q3] at hP; exact hP
  · rw [if_neg q0, if_neg q1, if_neg q2, if_pos q3] at hP; exact hP
  · rw [if_neg q0, if_neg q1, if_pos q2] at hP; exact hP
  · rw [if_neg q0, if_pos q1] at hP; exact hP
  · rw [if_pos q0] at hP; exact hP
theorem x_figureBehind (h : mOK G a A) (hT : inp M T) (hi : i < 999) {c : Nat} (hc : c < 65536) (hP : ∀ i1 w1 v i' w', neeR T c i w i1 w1 → figR T i1 w1 v i' w' → P v (mz z a A (prM M i' w' D))) : wX5_figureBehind G P PX (some a) (Int32.ofNat c) (mz z a A (prM M i w D)) := by
  unfold wX5_figureBehind wX5_figureBehindb0
  refine ⟨m_rcv, x_needs h hT (by omega) hc fun i1 w1 h1 => ⟨m_rcv, x_figure h hT ?_ fun v i' w' h2 => hP i1 w1 v i' w' h1 h2⟩⟩
  rcases h1 with ⟨-, rfl, -⟩ | ⟨-, -, rfl, -⟩ | ⟨-, -, rfl, -⟩ <;> omega
end MR2
