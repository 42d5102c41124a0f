/-! the steps on the model's object, by their places: printed by gen/mk_mrules.py -/
set_option maxRecDepth 100000
section MR
variable {G : gE} {z : hSt} {a : Nat} {A : Nat → Nat} {M : mSt}
theorem m_g0 {K : Option Nat → Prop} : gtR (mz z a A M) (some a) [4] 0 K ↔ K (some (A 0)) := m_gR 0 rfl
theorem m_g1 {K : Option Nat → Prop} : gtR (mz z a A M) (some a) [4] 1 K ↔ K (some (A 1)) := m_gR 1 rfl
theorem m_g2 {K : Option Nat → Prop} : gtR (mz z a A M) (some a) [4] 2 K ↔ K (some (A 2)) := m_gR 2 rfl
theorem m_g4 {K : Option Nat → Prop} : gtR (mz z a A M) (some a) [4] 4 K ↔ K (some (A 4)) := m_gR 4 rfl
theorem m_g6 {K : Option Nat → Prop} : gtR (mz z a A M) (some a) [4] 6 K ↔ K (some (A 6)) := m_gR 6 rfl
theorem m_g12 {K : Option Nat → Prop} : gtR (mz z a A M) (some a) [4] 12 K ↔ K (some (A 12)) := m_gR 12 rfl
theorem m_g17 {K : Option Nat → Prop} : gtR (mz z a A M) (some a) [4] 17 K ↔ K (some (A 17)) := m_gR 17 rfl
theorem m_i3 {K : Int32 → Prop} : gtI (mz z a A M) (some a) [4] 3 K ↔ K (M.2 3) := m_gI 3 rfl
theorem m_p3 (h : mOK G a A) {K : hSt → Prop} {x : Int32} : ptV G (mz z a A M) (some a) [4] 3 (.int x) K ↔ K (mz z a A (upS M 3 x)) := m_pS h (by decide)
theorem m_i5 {K : Int32 → Prop} : gtI (mz z a A M) (some a) [4] 5 K ↔ K (M.2 5) := m_gI 5 rfl
theorem m_p5 (h : mOK G a A) {K : hSt → Prop} {x : Int32} : ptV G (mz z a A M) (some a) [4] 5 (.int x) K ↔ K (mz z a A (upS M 5 x)) := m_pS h (by decide)
theorem m_i7 {K : Int32 → Prop} : gtI (mz z a A M) (some a) [4] 7 K ↔ K (M.2 7) := m_gI 7 rfl
theorem m_p7 (h : mOK G a A) {K : hSt → Prop} {x : Int32} : ptV G (mz z a A M) (some a) [4] 7 (.int x) K ↔ K (mz z a A (upS M 7 x)) := m_pS h (by decide)
theorem m_i8 {K : Int32 → Prop} : gtI (mz z a A M) (some a) [4] 8 K ↔ K (M.2 8) := m_gI 8 rfl
theorem m_p8 (h : mOK G a A) {K : hSt → Prop} {x : Int32} : ptV G (mz z a A M) (some a) [4] 8 (.int x) K ↔ K (mz z a A (upS M 8 x)) := m_pS h (by decide)
theorem m_i9 {K : Int32 → Prop} : gtI (mz z a A M) (some a) [4] 9 K ↔ K (M.2 9) := m_gI 9 rfl
theorem m_p9 (h : mOK G a A) {K : hSt → Prop} {x : Int32} : ptV G (mz z a A M) (some a) [4] 9 (.int x) K ↔ K (mz z a A (upS M 9 x)) := m_pS h (by decide)
theorem m_i10 {K : Int32 → Prop} : gtI (mz z a A M) (some a) [4] 10 K ↔ K (M.2 10) := m_gI 10 rfl
theorem m_p10 (h : mOK G a A) {K : hSt → Prop} {x : Int32} : ptV G (mz z a A M) (some a) [4] 10 (.int x) K ↔ K (mz z a A (upS M 10 x)) := m_pS h (by decide)
theorem m_i11 {K : Int32 → Prop} : gtI (mz z a A M) (some a) [4] 11 K ↔ K (M.2 11) := m_gI 11 rfl
theorem m_p11 (h : mOK G a A) {K : hSt → Prop} {x : Int32} : ptV G (mz z a A M) (some a) [4] 11 (.int x) K ↔ K (mz z a A (upS M 11 x)) := m_pS h (by decide)
theorem m_i13 {K : Int32 → Prop} : gtI (mz z a A M) (some a) [4] 13 K ↔ K (M.2 13) := m_gI 13 rfl
theorem m_p13 (h : mOK G a A) {K : hSt → Prop} {x : Int32} : ptV G (mz z a A M) (some a) [4] 13 (.int x) K ↔ K (mz z a A (upS M 13 x)) := m_pS h (by decide)
theorem m_i14 {K : Int32 → Prop} : gtI (mz z a A M) (some a) [4] 14 K ↔ K (M.2 14) := m_gI 14 rfl
theorem m_p14 (h : mOK G a A) {K : hSt → Prop} {x : Int32} : ptV G (mz z a A M) (some a) [4] 14 (.int x) K ↔ K (mz z a A (upS M 14 x)) := m_pS h (by decide)
theorem m_i15 {K : Int32 → Prop} : gtI (mz z a A M) (some a) [4] 15 K ↔ K (M.2 15) := m_gI 15 rfl
theorem m_p15 (h : mOK G a A) {K : hSt → Prop} {x : Int32} : ptV G (mz z a A M) (some a) [4] 15 (.int x) K ↔ K (mz z a A (upS M 15 x)) := m_pS h (by decide)
theorem m_i16 {K : Int32 → Prop} : gtI (mz z a A M) (some a) [4] 16 K ↔ K (M.2 16) := m_gI 16 rfl
theorem m_p16 (h : mOK G a A) {K : hSt → Prop} {x : Int32} : ptV G (mz z a A M) (some a) [4] 16 (.int x) K ↔ K (mz z a A (upS M 16 x)) := m_pS h (by decide)
theorem m_a0 (h : mOK G a A) {K : Int32 → Prop} {i : Int32} : alI (mz z a A M) (some (A 0)) 0 i K ↔ vp_in i 223 ∧ K (M.1 0 i.toNatClampNeg) := m_aI h (by decide)
theorem m_s0 (h : mOK G a A) {K : hSt → Prop} {i x : Int32} : asI G (mz z a A M) (some (A 0)) 0 .int i x K ↔ vp_in i 223 ∧ K (mz z a A (upA M 0 i.toNatClampNeg (vp_nar .int x))) := m_sI h (by decide)
theorem m_a1 (h : mOK G a A) {K : Int32 → Prop} {i : Int32} : alI (mz z a A M) (some (A 1)) 0 i K ↔ vp_in i 223 ∧ K (M.1 1 i.toNatClampNeg) := m_aI h (by decide)
theorem m_s1 (h : mOK G a A) {K : hSt → Prop} {i x : Int32} : asI G (mz z a A M) (some (A 1)) 0 .int i x K ↔ vp_in i 223 ∧ K (mz z a A (upA M 1 i.toNatClampNeg (vp_nar .int x))) := m_sI h (by decide)
theorem m_a2 (h : mOK G a A) {K : Int32 → Prop} {i : Int32} : alI (mz z a A M) (some (A 2)) 0 i K ↔ vp_in i 1338 ∧ K (M.1 2 i.toNatClampNeg) := m_aI h (by decide)
theorem m_s2 (h : mOK G a A) {K : hSt → Prop} {i x : Int32} : asI G (mz z a A M) (some (A 2)) 0 .int i x K ↔ vp_in i 1338 ∧ K (mz z a A (upA M 2 i.toNatClampNeg (vp_nar .int x))) := m_sI h (by decide)
theorem m_a4 (h : mOK G a A) {K : Int32 → Prop} {i : Int32} : alI (mz z a A M) (some (A 4)) 0 i K ↔ vp_in i 223 ∧ K (M.1 4 i.toNatClampNeg) := m_aI h (by decide)
theorem m_s4 (h : mOK G a A) {K : hSt → Prop} {i x : Int32} : asI G (mz z a A M) (some (A 4)) 0 .int i x K ↔ vp_in i 223 ∧ K (mz z a A (upA M 4 i.toNatClampNeg (vp_nar .int x))) := m_sI h (by decide)
theorem m_a6 (h : mOK G a A) {K : Int32 → Prop} {i : Int32} : alI (mz z a A M) (some (A 6)) 3 i K ↔ vp_in i 60 ∧ K (M.1 6 i.toNatClampNeg) := m_aI h (by decide)
theorem m_s6 (h : mOK G a A) {K : hSt → Prop} {i x : Int32} : asI G (mz z a A M) (some (A 6)) 3 .char i x K ↔ vp_in i 60 ∧ K (mz z a A (upA M 6 i.toNatClampNeg (vp_nar .char x))) := m_sI h (by decide)
theorem m_a12 (h : mOK G a A) {K : Int32 → Prop} {i : Int32} : alI (mz z a A M) (some (A 12)) 3 i K ↔ vp_in i 60 ∧ K (M.1 12 i.toNatClampNeg) := m_aI h (by decide)
theorem m_s12 (h : mOK G a A) {K : hSt → Prop} {i x : Int32} : asI G (mz z a A M) (some (A 12)) 3 .char i x K ↔ vp_in i 60 ∧ K (mz z a A (upA M 12 i.toNatClampNeg (vp_nar .char x))) := m_sI h (by decide)
theorem m_a17 (h : mOK G a A) {K : Int32 → Prop} {i : Int32} : alI (mz z a A M) (some (A 17)) 0 i K ↔ vp_in i 300 ∧ K (M.1 17 i.toNatClampNeg) := m_aI h (by decide)
theorem m_s17 (h : mOK G a A) {K : hSt → Prop} {i x : Int32} : asI G (mz z a A M) (some (A 17)) 0 .int i x K ↔ vp_in i 300 ∧ K (mz z a A (upA M 17 i.toNatClampNeg (vp_nar .int x))) := m_sI h (by decide)
theorem m_rc : rcv (mz z a A M) (some a) 4 ↔ True := ⟨fun _ => trivial, fun _ => m_rcv⟩
end MR
theorem ix0 (e : Nat) : (0 : Int32) + Int32.ofNat e = Int32.ofNat (0 + e) := i_add 0 e
theorem it0 {n : Nat} (hn : 0 < n) : vp_in (0 : Int32) n ↔ True := ⟨fun _ => trivial, fun _ => i_in (k := 0) (by omega) hn⟩
theorem iz0 : (0 : Int32).toNatClampNeg = 0 := rfl
theorem ix6 (e : Nat) : (6 : Int32) + Int32.ofNat e = Int32.ofNat (6 + e) := i_add 6 e
theorem it6 {n : Nat} (hn : 6 < n) : vp_in (6 : Int32) n ↔ True := ⟨fun _ => trivial, fun _ => i_in (k := 6) (by omega) hn⟩
theorem iz6 : (6 : Int32).toNatClampNeg = 6 := rfl
theorem ix18 (e : Nat) : (18 : Int32) + Int32.ofNat e = Int32.ofNat (18 + e) := i_add 18 e
theorem it18 {n : Nat} (hn : 18 < n) : vp_in (18 : Int32) n ↔ True := ⟨fun _ => trivial, fun _ => i_in (k := 18) (by omega) hn⟩
theorem iz18 : (18 : Int32).toNatClampNeg = 18 := rfl
theorem ix30 (e : Nat) : (30 : Int32) + Int32.ofNat e = Int32.ofNat (30 + e) := i_add 30 e
theorem it30 {n : Nat} (hn : 30 < n) : vp_in (30 : Int32) n ↔ True := ⟨fun _ => trivial, fun _ => i_in (k := 30) (by omega) hn⟩
theorem iz30 : (30 : Int32).toNatClampNeg = 30 := rfl
theorem ix42 (e : Nat) : (42 : Int32) + Int32.ofNat e = Int32.ofNat (42 + e) := i_add 42 e
theorem it42 {n : Nat} (hn : 42 < n) : vp_in (42 : Int32) n ↔ True := ⟨fun _ => trivial, fun _ => i_in (k := 42) (by omega) hn⟩
theorem iz42 : (42 : Int32).toNatClampNeg = 42 := rfl
theorem ix54 (e : Nat) : (54 : Int32) + Int32.ofNat e = Int32.ofNat (54 + e) := i_add 54 e
theorem it54 {n : Nat} (hn : 54 < n) : vp_in (54 : Int32) n ↔ True := ⟨fun _ => trivial, fun _ => i_in (k := 54) (by omega) hn⟩
theorem iz54 : (54 : Int32).toNatClampNeg = 54 := rfl
theorem ix66 (e : Nat) : (66 : Int32) + Int32.ofNat e = Int32.ofNat (66 + e) := i_add 66 e
theorem it66 {n : Nat} (hn : 66 < n) : vp_in (66 : Int32) n ↔ True := ⟨fun _ => trivial, fun _ => i_in (k := 66) (by omega) hn⟩
theorem iz66 : (66 : Int32).toNatClampNeg = 66 := rfl
theorem ix78 (e : Nat) : (78 : Int32) + Int32.ofNat e = Int32.ofNat (78 + e) := i_add 78 e
theorem it78 {n : Nat} (hn : 78 < n) : vp_in (78 : Int32) n ↔ True := ⟨fun _ => trivial, fun _ => i_in (k := 78) (by omega) hn⟩
theorem iz78 : (78 : Int32).toNatClampNeg = 78 := rfl
theorem ix90 (e : Nat) : (90 : Int32) + Int32.ofNat e = Int32.ofNat (90 + e) := i_add 90 e
theorem it90 {n : Nat} (hn : 90 < n) : vp_in (90 : Int32) n ↔ True := ⟨fun _ => trivial, fun _ => i_in (k := 90) (by omega) hn⟩
theorem iz90 : (90 : Int32).toNatClampNeg = 90 := rfl
theorem ix102 (e : Nat) : (102 : Int32) + Int32.ofNat e = Int32.ofNat (102 + e) := i_add 102 e
theorem it102 {n : Nat} (hn : 102 < n) : vp_in (102 : Int32) n ↔ True := ⟨fun _ => trivial, fun _ => i_in (k := 102) (by omega) hn⟩
theorem iz102 : (102 : Int32).toNatClampNeg = 102 := rfl
theorem ix114 (e : Nat) : (114 : Int32) + Int32.ofNat e = Int32.ofNat (114 + e) := i_add 114 e
theorem it114 {n : Nat} (hn : 114 < n) : vp_in (114 : Int32) n ↔ True := ⟨fun _ => trivial, fun _ => i_in (k := 114) (by omega) hn⟩
theorem iz114 : (114 : Int32).toNatClampNeg = 114 := rfl
theorem ix120 (e : Nat) : (120 : Int32) + Int32.ofNat e = Int32.ofNat (120 + e) := i_add 120 e
theorem it120 {n : Nat} (hn : 120 < n) : vp_in (120 : Int32) n ↔ True := ⟨fun _ => trivial, fun _ => i_in (k := 120) (by omega) hn⟩
theorem iz120 : (120 : Int32).toNatClampNeg = 120 := rfl
theorem ix126 (e : Nat) : (126 : Int32) + Int32.ofNat e = Int32.ofNat (126 + e) := i_add 126 e
theorem it126 {n : Nat} (hn : 126 < n) : vp_in (126 : Int32) n ↔ True := ⟨fun _ => trivial, fun _ => i_in (k := 126) (by omega) hn⟩
theorem iz126 : (126 : Int32).toNatClampNeg = 126 := rfl
theorem ix132 (e : Nat) : (132 : Int32) + Int32.ofNat e = Int32.ofNat (132 + e) := i_add 132 e
theorem it132 {n : Nat} (hn : 132 < n) : vp_in (132 : Int32) n ↔ True := ⟨fun _ => trivial, fun _ => i_in (k := 132) (by omega) hn⟩
theorem iz132 : (132 : Int32).toNatClampNeg = 132 := rfl
theorem ix135 (e : Nat) : (135 : Int32) + Int32.ofNat e = Int32.ofNat (135 + e) := i_add 135 e
theorem it135 {n : Nat} (hn : 135 < n) : vp_in (135 : Int32) n ↔ True := ⟨fun _ => trivial, fun _ => i_in (k := 135) (by omega) hn⟩
theorem iz135 : (135 : Int32).toNatClampNeg = 135 := rfl
theorem ix138 (e : Nat) : (138 : Int32) + Int32.ofNat e = Int32.ofNat (138 + e) := i_add 138 e
theorem it138 {n : Nat} (hn : 138 < n) : vp_in (138 : Int32) n ↔ True := ⟨fun _ => trivial, fun _ => i_in (k := 138) (by omega) hn⟩
theorem iz138 : (138 : Int32).toNatClampNeg = 138 := rfl
theorem ix141 (e : Nat) : (141 : Int32) + Int32.ofNat e = Int32.ofNat (141 + e) := i_add 141 e
theorem it141 {n : Nat} (hn : 141 < n) : vp_in (141 : Int32) n ↔ True := ⟨fun _ => trivial, fun _ => i_in (k := 141) (by omega) hn⟩
theorem iz141 : (141 : Int32).toNatClampNeg = 141 := rfl
theorem ix151 (e : Nat) : (151 : Int32) + Int32.ofNat e = Int32.ofNat (151 + e) := i_add 151 e
theorem it151 {n : Nat} (hn : 151 < n) : vp_in (151 : Int32) n ↔ True := ⟨fun _ => trivial, fun _ => i_in (k := 151) (by omega) hn⟩
theorem iz151 : (151 : Int32).toNatClampNeg = 151 := rfl
theorem ix12 (e : Nat) : (12 : Int32) + Int32.ofNat e = Int32.ofNat (12 + e) := i_add 12 e
theorem it12 {n : Nat} (hn : 12 < n) : vp_in (12 : Int32) n ↔ True := ⟨fun _ => trivial, fun _ => i_in (k := 12) (by omega) hn⟩
theorem iz12 : (12 : Int32).toNatClampNeg = 12 := rfl
theorem ix1 (e : Nat) : (1 : Int32) + Int32.ofNat e = Int32.ofNat (1 + e) := i_add 1 e
theorem it1 {n : Nat} (hn : 1 < n) : vp_in (1 : Int32) n ↔ True := ⟨fun _ => trivial, fun _ => i_in (k := 1) (by omega) hn⟩
theorem iz1 : (1 : Int32).toNatClampNeg = 1 := rfl
theorem ix2 (e : Nat) : (2 : Int32) + Int32.ofNat e = Int32.ofNat (2 + e) := i_add 2 e
theorem it2 {n : Nat} (hn : 2 < n) : vp_in (2 : Int32) n ↔ True := ⟨fun _ => trivial, fun _ => i_in (k := 2) (by omega) hn⟩
theorem iz2 : (2 : Int32).toNatClampNeg = 2 := rfl
theorem ix3 (e : Nat) : (3 : Int32) + Int32.ofNat e = Int32.ofNat (3 + e) := i_add 3 e
theorem it3 {n : Nat} (hn : 3 < n) : vp_in (3 : Int32) n ↔ True := ⟨fun _ => trivial, fun _ => i_in (k := 3) (by omega) hn⟩
theorem iz3 : (3 : Int32).toNatClampNeg = 3 := rfl
theorem ix4 (e : Nat) : (4 : Int32) + Int32.ofNat e = Int32.ofNat (4 + e) := i_add 4 e
theorem it4 {n : Nat} (hn : 4 < n) : vp_in (4 : Int32) n ↔ True := ⟨fun _ => trivial, fun _ => i_in (k := 4) (by omega) hn⟩
theorem iz4 : (4 : Int32).toNatClampNeg = 4 := rfl
theorem ix5 (e : Nat) : (5 : Int32) + Int32.ofNat e = Int32.ofNat (5 + e) := i_add 5 e
theorem it5 {n : Nat} (hn : 5 < n) : vp_in (5 : Int32) n ↔ True := ⟨fun _ => trivial, fun _ => i_in (k := 5) (by omega) hn⟩
theorem iz5 : (5 : Int32).toNatClampNeg = 5 := rfl
theorem ix223 (e : Nat) : (223 : Int32) + Int32.ofNat e = Int32.ofNat (223 + e) := i_add 223 e
theorem it223 {n : Nat} (hn : 223 < n) : vp_in (223 : Int32) n ↔ True := ⟨fun _ => trivial, fun _ => i_in (k := 223) (by omega) hn⟩
theorem iz223 : (223 : Int32).toNatClampNeg = 223 := rfl
theorem iv {k n : Nat} (h : k < 2147483648) (hk : k < n) : vp_in (Int32.ofNat k) n ↔ True := ⟨fun _ => trivial, fun _ => i_in h hk⟩
theorem nar_i (x : Int32) : vp_nar .int x = x := rfl
theorem br_0 {c : Prop} [Decidable c] {P Q : Prop} : (((if c then (1 : Int32) else 0) = 0 → P) ∧ (¬ (if c then (1 : Int32) else 0) = 0 → Q)) ↔ ((¬ c → P) ∧ (c → Q)) := by
  by_cases h : c <;> simp [h]
theorem br_1 {c : Prop} [Decidable c] {P Q : Prop} : ((¬ (if c then (1 : Int32) else 0) = 0 → P) ∧ ((if c then (1 : Int32) else 0) = 0 → Q)) ↔ ((c → P) ∧ (¬ c → Q)) := by
  by_cases h : c <;> simp [h]
theorem ok_bi {c : Prop} [Decidable c] : okN .boolean (if c then (1 : Int32) else 0) ↔ True := by
  by_cases h : c <;> simp [h, ok_b0, ok_b1]
theorem ok_0 : okN .boolean 0 ↔ True := ⟨fun _ => trivial, fun _ => ok_b0⟩
theorem ok_1 : okN .boolean 1 ↔ True := ⟨fun _ => trivial, fun _ => ok_b1⟩
theorem br_p {c : Prop} [Decidable c] {P : Int32 → Prop} {x y : Int32} : ((c → P x) ∧ (¬ c → P y)) ↔ P (if c then x else y) := by
  by_cases h : c <;> simp [h]
theorem br_q {c : Prop} [Decidable c] {P : Int32 → Prop} {x y : Int32} : ((¬ c → P x) ∧ (c → P y)) ↔ P (if c then y else x) := by
  by_cases h : c <;> simp [h]
