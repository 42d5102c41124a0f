/-! the model reads: excuses, orders -/
set_option maxRecDepth 100000
section MR3
variable {G : gE} {z : hSt} {a : Nat} {A : Nat → Nat} {M : mSt} {PX : Nat → Nat → hSt → Prop} {P : hSt → Prop} {T : List Nat} {i : Nat} {w : Int32} {D : Nat → Int32}
theorem x_readsExcuse (h : mOK G a A) (hT : inp M T) (hi : i < 999) {k : Nat} (hk : k + 1 < 300) (hP : ∀ v i1 w1 v2 i' w', kndR T i w v i1 w1 → figR T i1 w1 v2 i' w' → P (mz z a A (prM M i' w' (upd (upd D k v) (k + 1) v2)))) : wX5_readsExcuse G P PX (some a) (Int32.ofNat k) (mz z a A (prM M i w D)) := by
  unfold wX5_readsExcuse wX5_readsExcuseb0 wX5_readsExcuseb21
  refine ⟨m_rcv, x_here h hT (by omega) (x_kindOf ?_)⟩
  have go : ∀ (v w' : Int32), okN .boolean w' → (w' = 0 → ∀ v2 i' w2, figR T (i + 1) 0 v2 i' w2 → P (mz z a A (prM M i' w2 (upd (upd D k v) (k + 1) v2)))) → (w' ≠ 0 → ∀ v2 i' w2, figR T i w' v2 i' w2 → P (mz z a A (prM M i' w2 (upd (upd D k v) (k + 1) v2)))) → wX5_readsExcuseb26 G P PX (some a) (Int32.ofNat k) v (some a) w' (mz z a A (prM M i w D)) := by
    intro v w' hok g0 g1
    unfold wX5_readsExcuseb26 wX5_readsExcuseb46
    refine ⟨hok, ?_⟩
    have tail : ∀ i2, i2 < 1000 → (∀ v2 i' w2, figR T i2 w' v2 i' w2 → P (mz z a A (prM M i' w2 (upd (upd D k v) (k + 1) v2)))) → wX5_figure G (fun x14 z13 => asI G z13 (some (A 17)) 0 .int (Int32.ofNat k + 1) x14 (fun z15 => P z15)) PX (some a) (mz z a A (prM M i2 w' (upd D k v))) := by
      intro i2 hi2 hg
      refine x_figure h hT hi2 fun v2 i' w2 h2 => ?_
      rw [i_succ]
      simp (disch := omega) only [m_s17 h, i_nat, iv, true_and, nar_i, prM_a17]
      exact hg v2 i' w2 h2
    simp only [m_p16 h, prM_s16, m_i15, m_i16, prM_15, prM_16, m_p15 h]
    refine ⟨fun q => ?_, fun q => ?_⟩
    · rw [i_succ, prM_s15]
      simp (disch := omega) only [m_g17, m_s17 h, i_nat, iv, true_and, nar_i, prM_a17, m_rc]
      exact tail (i + 1) (by omega) (by rw [q]; exact g0 q)
    · rw [Int32.add_zero, prM_s15]
      simp (disch := omega) only [m_g17, m_s17 h, i_nat, iv, true_and, nar_i, prM_a17, m_rc]
      exact tail i (by omega) (g1 q)
  rw [m_i16, prM_16]
  refine ⟨fun q => go _ 1 ok_b1 (fun x => absurd x (by decide)) fun _ v2 i' w2 h2 => hP _ i 1 v2 i' w2 (Or.inl ⟨q, rfl, rfl⟩) h2, fun q => ?_⟩
  have bad : ∀ v, (∀ c, T[i]? = some c → kCo c = none) → wX5_readsExcuseb26 G P PX (some a) (Int32.ofNat k) v (some a) 1 (mz z a A (prM M i w D)) := fun v q2 => go v 1 ok_b1 (fun x => absurd x (by decide)) fun _ v2 i' w2 h2 => hP v i 1 v2 i' w2 (Or.inr (Or.inr ⟨q, q2, rfl, rfl⟩)) h2
  have good : ∀ c kk, T[i]? = some c → kCo c = some kk → wX5_readsExcuseb26 G P PX (some a) (Int32.ofNat k) (Int32.ofNat kk) (some a) 0 (mz z a A (prM M i w D)) := fun c kk q2 q3 => go _ 0 ok_b0 (fun _ v2 i' w2 h2 => hP _ (i + 1) 0 v2 i' w2 (Or.inr (Or.inl ⟨q, c, kk, q2, q3, rfl, rfl, rfl⟩)) h2) fun x => absurd rfl x
  cases hs : T[i]? with
  | none =>
    rw [hv_n hs]
    exact ⟨fun x => absurd rfl x, fun _ => bad _ (fun c hc => by rw [hs] at hc; exact nomatch hc)⟩
  | some d =>
    rw [hv_s hs]
    have hd := (hT.2.2 i d hs).2
    rw [show (100 : Int32) = Int32.ofNat 100 from rfl, show (119 : Int32) = Int32.ofNat 119 from rfl, show (105 : Int32) = Int32.ofNat 105 from rfl, show (116 : Int32) = Int32.ofNat 116 from rfl]
    have e1 : ∀ n, n < 65536 → ((Int32.ofNat d = Int32.ofNat n) ↔ d = n) := fun n hn => i_eq (by omega) (by omega)
    by_cases c1 : d = 100
    · rw [if_pos ((e1 _ (by omega)).mpr c1)]
      exact ⟨fun _ => good d 0 hs (by unfold kCo; rw [if_pos c1]), fun x => absurd x (by decide)⟩
    rw [if_neg fun x => c1 ((e1 _ (by omega)).mp x)]
    by_cases c2 : d = 119
    · rw [if_pos ((e1 _ (by omega)).mpr c2)]
      exact ⟨fun _ => good d 1 hs (by unfold kCo; rw [if_neg c1, if_pos c2]), fun x => absurd x (by decide)⟩
    rw [if_neg fun x => c2 ((e1 _ (by omega)).mp x)]
    by_cases c3 : d = 105
    · rw [if_pos ((e1 _ (by omega)).mpr c3)]
      exact ⟨fun _ => good d 2 hs (by unfold kCo; rw [if_neg c1, if_neg c2, if_pos c3]), fun x => absurd x (by decide)⟩
    rw [if_neg fun x => c3 ((e1 _ (by omega)).mp x)]
    by_cases c4 : d = 116
    · rw [if_pos ((e1 _ (by omega)).mpr c4)]
      exact ⟨fun _ => good d 3 hs (by unfold kCo; rw [if_neg c1, if_neg c2, if_neg c3, if_pos c4]), fun x => absurd x (by decide)⟩
    rw [if_neg fun x => c4 ((e1 _ (by omega)).mp x)]
    exact ⟨fun x => absurd rfl x, fun _ => bad _ (fun c hc => by rw [hs] at hc; cases hc; unfold kCo; rw [if_neg c1, if_neg c2, if_neg c3, if_neg c4])⟩
end MR3
