/-! the size of a copy's table: the quotient by 0.75 rounded up -/
set_option maxRecDepth 100000
def dQ (n : Nat) : UInt64 := FP.ddiv (FP.i2d (Int32.ofNat n)) (FP.f2d 1061158912)
def dC (n : Nat) : UInt64 := FP.i2d (Int32.ofNat ((4 * n + 2) / 3))
def eX2 (v0 : UInt64) : Int32 := (((((v0 : UInt64).toInt64 &&& (9218868437227405312 : Int64)) >>> ((52 : Int32).toInt64 &&& 63)) - (1023 : Int64) : Int64)).toInt32
def sgF (v0 : UInt64) : Int32 := lg_cmp (((4503599627370495 : Int64) >>> ((eX2 v0).toInt64 &&& 63)) &&& ((v0 : UInt64).toInt64)) 0
def mkW (v0 : UInt64) : Int64 := (((v0 : UInt64).toInt64) &&& (((4503599627370495 : Int64) >>> ((eX2 v0).toInt64 &&& 63)) ^^^ (-1 : Int64)))
theorem cF : ∀ n, n < 10 → ¬ (dQ (n + 1) = 0) ∧ (0 ≤ eX2 (dQ (n + 1)) ∧ eX2 (dQ (n + 1)) < 52) ∧ (sgF (dQ (n + 1)) = 0 → dQ (n + 1) = dC (n + 1)) ∧ (¬ sgF (dQ (n + 1)) = 0 → vn_snl2d (mkW (dQ (n + 1))) = false ∧ vf_n64 (FP.dmul FP.dconst1 (dQ (n + 1))) ∧ ¬ (Op.cmpValue (FP.dcmp (FP.dmul FP.dconst1 (dQ (n + 1))) FP.dconst0) .l) ≤ 0 ∧ vf_n64 (FP.dadd (mkW (dQ (n + 1))).toUInt64 FP.dconst1) ∧ FP.dadd (mkW (dQ (n + 1))).toUInt64 FP.dconst1 = dC (n + 1)) := by
  unfold vf_n64
  decide +kernel
theorem cG : ∀ n, n < 10 → vf_n64 (dQ (n + 1)) ∧ vf_n64 (dC (n + 1)) ∧ ¬ 0 ≤ (Op.cmpValue (FP.dcmp (dC (n + 1)) (4742290407621132288 : UInt64)) .g) ∧ FP.d2i (dC (n + 1)) = Int32.ofNat ((4 * (n + 1) + 2) / 3) := by
  unfold vf_n64
  decide +kernel
theorem cH : vf_n64 (FP.f2d 1061158912) := by
  unfold vf_n64
  decide +kernel
/-- the table's size -/
def tsf (t : Nat) : Nat := if t ≤ 2 then 2 else if t ≤ 4 then 4 else if t ≤ 8 then 8 else 16
def nlz (v : Int32) : Int32 := if v < 4 then 31 - (v.toUInt32 >>> ((1 : Int32).toUInt32 &&& Int32.toUInt32 31)).toInt32 else (31 + (-2)) - (((v.toUInt32 >>> ((2 : Int32).toUInt32 &&& Int32.toUInt32 31)).toInt32).toUInt32 >>> ((1 : Int32).toUInt32 &&& Int32.toUInt32 31)).toInt32
section CEIL
variable {G : gE} {σ : hSt} {PX : Nat → Nat → hSt → Prop}
theorem nlz_k {P : Int32 → hSt → Prop} {v : Int32} (h0 : 0 < v) (h1 : v < 65536) (h2 : v < 256) (h3 : v < 16) (hP : P (nlz v) σ) : wJ31_numberOfLeadingZeros G P PX v σ := by
  unfold wJ31_numberOfLeadingZeros wJ31_numberOfLeadingZerosb0 wJ31_numberOfLeadingZerosb33 wJ31_numberOfLeadingZerosb48 wJ31_numberOfLeadingZerosb61 wJ31_numberOfLeadingZerosb73
  unfold nlz at hP
  refine ⟨fun _ => ⟨fun _ => ⟨fun _ => ⟨fun _ => ⟨fun w => ?_, fun w => ?_⟩, fun w => absurd h3 w⟩, fun w => absurd h2 w⟩, fun w => absurd h1 w⟩, fun w => absurd h0 w⟩
  · rw [if_pos w] at hP; exact hP
  · rw [if_neg w] at hP; exact hP
theorem tF : ∀ n, n < 10 → let t := (4 * (n + 1) + 2) / 3; 0 < Int32.ofNat t - 1 ∧ Int32.ofNat t - 1 < 65536 ∧ Int32.ofNat t - 1 < 256 ∧ Int32.ofNat t - 1 < 16 ∧ 0 ≤ (((-1 : Int32).toUInt32 >>> ((nlz (Int32.ofNat t - 1)).toUInt32 &&& Int32.toUInt32 31)).toInt32) ∧ (((-1 : Int32).toUInt32 >>> ((nlz (Int32.ofNat t - 1)).toUInt32 &&& Int32.toUInt32 31)).toInt32) < 1073741824 ∧ (((-1 : Int32).toUInt32 >>> ((nlz (Int32.ofNat t - 1)).toUInt32 &&& Int32.toUInt32 31)).toInt32) + 1 = Int32.ofNat (tsf t) := by decide +kernel
theorem tsf_k {P : Int32 → hSt → Prop} {n : Nat} (h1 : 1 ≤ n) (h2 : n ≤ 10) (hP : P (Int32.ofNat (tsf ((4 * n + 2) / 3))) σ) : wJ1_tableSizeFor G P PX (Int32.ofNat ((4 * n + 2) / 3)) σ := by
  obtain ⟨n, rfl⟩ : ∃ m, n = m + 1 := ⟨n - 1, by omega⟩
  obtain ⟨a1, a2, a3, a4, a5, a6, a7⟩ := tF n (by omega)
  unfold wJ1_tableSizeFor wJ1_tableSizeForb0
  refine nlz_k a1 a2 a3 a4 ⟨fun _ => ⟨fun _ => ?_, fun w => absurd a6 w⟩, fun w => absurd a5 w⟩
  rw [a7]; exact hP
theorem ceil_k {P : UInt64 → hSt → Prop} {n : Nat} (h1 : 1 ≤ n) (h2 : n ≤ 10) (hP : P (dC n) σ) : wJ42_ceil G P PX (dQ n) σ := by
  obtain ⟨n, rfl⟩ : ∃ m, n = m + 1 := ⟨n - 1, by omega⟩
  obtain ⟨-, ⟨b1, b2⟩, b3, b4⟩ := cF n (by omega)
  unfold wJ42_ceil wJ42_ceilb0 wJ42_floorOrCeil wJ42_floorOrCeilb0 wJ34_getExponent wJ34_getExponentb0
  refine ⟨fun _ => ⟨fun _ => ⟨fun _ => ?_, fun w => absurd w (by decide)⟩, fun w => absurd b2 w⟩, fun w => absurd b1 w⟩
  unfold wJ42_floorOrCeilb69
  refine ⟨fun w => ?_, fun w => ?_⟩
  · obtain ⟨c1, c2, c3, c4, c5⟩ := b4 w
    refine ⟨c1, c2, fun w => absurd w c3, fun _ => ⟨c4, ?_⟩⟩
    unfold wJ42_floorOrCeilb125
    have : P (FP.dadd (mkW (dQ (n + 1))).toUInt64 FP.dconst1) σ := by rw [c5]; exact hP
    exact this
  · have : P (dQ (n + 1)) σ := by rw [b3 w]; exact hP
    exact this
end CEIL
