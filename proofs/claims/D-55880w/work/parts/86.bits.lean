/-! what a school heard: a bit is set -/
set_option maxRecDepth 100000
theorem bv1 (x : BitVec 32) : x &&& 1#32 = 1#32 ↔ x.getLsbD 0 = true := by
  constructor
  · intro h
    have := congrArg (fun y => y.getLsbD 0) h
    simpa using this
  · intro h
    apply BitVec.eq_of_getLsbD_eq
    intro i hi
    by_cases e : i = 0
    · subst e; simp [h]
    · simp [e]
theorem shr_b {v : Int32} {t : Nat} (ht : t < 10) : (v >>> (Int32.ofNat t &&& 31)).toBitVec = v.toBitVec.sshiftRight t := by
  have : t = 0 ∨ t = 1 ∨ t = 2 ∨ t = 3 ∨ t = 4 ∨ t = 5 ∨ t = 6 ∨ t = 7 ∨ t = 8 ∨ t = 9 := by omega
  rcases this with rfl | rfl | rfl | rfl | rfl | rfl | rfl | rfl | rfl | rfl <;> rfl
theorem i_bit {v : Int32} {t : Nat} (ht : t < 10) : (v >>> (Int32.ofNat t &&& 31)) &&& 1 = 1 ↔ v.toBitVec.getLsbD t = true := by
  rw [← Int32.toBitVec_inj, Int32.toBitVec_and, shr_b ht]
  refine (bv1 _).trans ?_
  rw [BitVec.getLsbD_sshiftRight]
  simp
  omega
theorem i_or {v : Int32} {t t' : Nat} (ht : t < 10) (ht' : t' < 10) : ((v ||| (1 <<< (Int32.ofNat t &&& 31))) >>> (Int32.ofNat t' &&& 31)) &&& 1 = 1 ↔ ((v >>> (Int32.ofNat t' &&& 31)) &&& 1 = 1 ∨ t' = t) := by
  rw [i_bit ht', i_bit ht', Int32.toBitVec_or, BitVec.getLsbD_or]
  have : (1 <<< (Int32.ofNat t &&& 31) : Int32).toBitVec.getLsbD t' = decide (t' = t) := by
    have h1 : t = 0 ∨ t = 1 ∨ t = 2 ∨ t = 3 ∨ t = 4 ∨ t = 5 ∨ t = 6 ∨ t = 7 ∨ t = 8 ∨ t = 9 := by omega
    have h2 : t' = 0 ∨ t' = 1 ∨ t' = 2 ∨ t' = 3 ∨ t' = 4 ∨ t' = 5 ∨ t' = 6 ∨ t' = 7 ∨ t' = 8 ∨ t' = 9 := by omega
    rcases h1 with rfl | rfl | rfl | rfl | rfl | rfl | rfl | rfl | rfl | rfl <;> rcases h2 with rfl | rfl | rfl | rfl | rfl | rfl | rfl | rfl | rfl | rfl <;> rfl
  rw [this]
  simp
theorem hbit_s {g : Nat → Int32} {s p k t s' p' k' t' : Nat} (hp : p < 6) (hk : k < 4) (ht : t < 10) (hp' : p' < 6) (hk' : k' < 4) (ht' : t' < 10) : hbit (gu g (151 + (s * 6 + p) * 4 + k) (g (151 + (s * 6 + p) * 4 + k) ||| (1 <<< (Int32.ofNat t &&& 31)))) s' p' k' t' ↔ hbit g s' p' k' t' ∨ (s' = s ∧ p' = p ∧ k' = k ∧ t' = t) := by
  unfold hbit
  by_cases hi : 151 + (s' * 6 + p') * 4 + k' = 151 + (s * 6 + p) * 4 + k
  · have e1 : s' = s ∧ p' = p ∧ k' = k := by omega
    obtain ⟨rfl, rfl, rfl⟩ := e1
    rw [gu_s, i_or ht ht']
    exact or_congr Iff.rfl ⟨fun w => ⟨rfl, rfl, rfl, w⟩, fun w => w.2.2.2⟩
  · rw [gu_n hi]
    exact ⟨Or.inl, fun w => w.resolve_right fun u => hi (by obtain ⟨rfl, rfl, rfl, -⟩ := u; rfl)⟩
/-- the numbers after a story was heard -/
abbrev heaG (g : Nat → Int32) (s p k t : Nat) : Nat → Int32 := gu g (151 + (s * 6 + p) * 4 + k) (g (151 + (s * 6 + p) * 4 + k) ||| (1 <<< (Int32.ofNat t &&& 31)))
theorem hb_hea {g : Nat → Int32} {s p k t s' x : Nat} (hp : p < 6) (hk : k < 4) (ht : t < 10) : hb (heaG g s p k t) s' x = true ↔ hb g s' x = true ∨ (s' = s ∧ x = 6 * (10 * k + t) + p) := by
  rw [hb_iff, hb_iff]
  constructor
  · rintro ⟨h1, h2⟩
    rw [hbit_s hp hk ht (by omega) (by omega) (by omega)] at h2
    rcases h2 with h2 | ⟨e1, e2, e3, e4⟩
    · exact Or.inl ⟨h1, h2⟩
    · exact Or.inr ⟨e1, by omega⟩
  · rintro (⟨h1, h2⟩ | ⟨e1, e2⟩)
    · exact ⟨h1, (hbit_s hp hk ht (by omega) (by omega) (by omega)).mpr (Or.inl h2)⟩
    · subst e2
      exact ⟨by omega, (hbit_s hp hk ht (by omega) (by omega) (by omega)).mpr (Or.inr ⟨e1, by omega, by omega, by omega⟩)⟩
