/-! a command done -/
set_option maxRecDepth 100000
/-- its numbers can be -/
def cR (w : Nat) (one ot : Int32) : Prop := (w = 1 → isP one ∧ isL ot) ∧ (w = 3 → isP one ∧ isE ot) ∧ (w = 5 → isL ot) ∧ (w = 6 → isP one ∧ isS ot) ∧ (w = 7 → isS one ∧ isL ot)
/-- what it does to the numbers -/
def cDo (g : Nat → Int32) (w : Nat) (one : Int32) (k t : Nat) (ot : Int32) (o : oR) : Prop :=
  (w = 1 ∧ sEnter g one (Int32.ofNat k) (Int32.ofNat t) ot o) ∨ (w = 2 ∧ sStrike g (Int32.ofNat k) (Int32.ofNat t) o) ∨ (w = 3 ∧ ∃ to, one = Int32.ofNat to ∧ to < 6 ∧ sLend g (Int32.ofNat k) (Int32.ofNat t) to ot o) ∨ (w = 4 ∧ sBack g (Int32.ofNat k) (Int32.ofNat t) o) ∨ (w = 5 ∧ sMend g (Int32.ofNat k) (Int32.ofNat t) ot o) ∨ (w = 6 ∧ ∃ p s, one = Int32.ofNat p ∧ p < 6 ∧ ot = Int32.ofNat s ∧ s < 3 ∧ sUse g p k t s o) ∨ (w = 7 ∧ ∃ s, one = Int32.ofNat s ∧ s < 3 ∧ sStrict g s ot o) ∨ (w = 8 ∧ sWeather g ot o) ∨ (w = 9 ∧ sDay g o)
/-- what the changes ask -/
def iOK (g : Nat → Int32) : Prop := dOK g ∧ zOK g ∧ dgOK g
section CMD
variable {G : gE} {σ : hSt} {PX : Nat → Nat → hSt → Prop} {P : Int32 → hSt → Prop} {n0 : Nat} {o A : Nat → Nat} {md : Int32} {es : List eT} {g : Nat → Int32}
theorem isIn_k {v a b : Int32} (h1 : ¬ v < a ∧ ¬ b < v → P 1 σ) (h0 : ¬ (¬ v < a ∧ ¬ b < v) → P 0 σ) : wX1_isIn G P PX v a b σ := by
  unfold wX1_isIn wX1_isInb0 wX1_isInb14
  exact ⟨fun w => ⟨ok_b0, h0 fun u => u.1 w⟩, fun w => ⟨fun w2 => ⟨ok_b0, h0 fun u => u.2 w2⟩, fun w2 => ⟨ok_b1, h1 ⟨w, w2⟩⟩⟩⟩
theorem isPup_k {v : Int32} (h1 : isP v → P 1 σ) (h0 : ¬ isP v → P 0 σ) : wX1_isPupil G P PX v σ := by
  unfold wX1_isPupil wX1_isPupilb0
  exact isIn_k (fun w => ⟨ok_b1, h1 w⟩) fun w => ⟨ok_b0, h0 w⟩
theorem isSch_k {v : Int32} (h1 : isS v → P 1 σ) (h0 : ¬ isS v → P 0 σ) : wX1_isSchool G P PX v σ := by
  unfold wX1_isSchool wX1_isSchoolb0
  exact isIn_k (fun w => ⟨ok_b1, h1 w⟩) fun w => ⟨ok_b0, h0 w⟩
theorem isLev_k {v : Int32} (h1 : isL v → P 1 σ) (h0 : ¬ isL v → P 0 σ) : wX1_isLevel G P PX v σ := by
  unfold wX1_isLevel wX1_isLevelb0
  exact isIn_k (fun w => ⟨ok_b1, h1 w⟩) fun w => ⟨ok_b0, h0 w⟩
theorem isFee_k {v : Int32} (h1 : isE v → P 1 σ) (h0 : ¬ isE v → P 0 σ) : wX1_isFee G P PX v σ := by
  unfold wX1_isFee wX1_isFeeb0
  exact isIn_k (fun w => ⟨ok_b1, h1 w⟩) fun w => ⟨ok_b0, h0 w⟩
theorem hs_k {w : Nat} (hS : SI G σ) (hw : 1 ≤ w ∧ w ≤ 9) (hP : P (thash w) σ) : rcv σ (some (gA G w)) 17 ∧ wJ10_hashCode G P PX (some (gA G w)) σ := by
  obtain ⟨-, hz, hc⟩ := hS.2.2.1 w (by omega)
  have hne : ¬ thash w = 0 := by
    have : w = 1 ∨ w = 2 ∨ w = 3 ∨ w = 4 ∨ w = 5 ∨ w = 6 ∨ w = 7 ∨ w = 8 ∨ w = 9 := by omega
    rcases this with rfl | rfl | rfl | rfl | rfl | rfl | rfl | rfl | rfl <;> decide
  unfold wJ10_hashCode wJ10_hashCodeb0 wJ10_hashCodeb58
  exact ⟨rco hc, gI hc (by decide) rfl ⟨fun _ => hP, fun w => absurd w hne⟩⟩
theorem es_k {w : Nat} (hS : SI G σ) (hw : 1 ≤ w ∧ w ≤ 9) (hP : P 1 σ) : rcv σ (some (gA G w)) 17 ∧ wJ10_equals G P PX (some (gA G w)) (some (gA G w)) σ := by
  obtain ⟨-, hz, hc⟩ := hS.2.2.1 w (by omega)
  unfold wJ10_equals wJ10_equalsb0
  exact ⟨rco hc, fun w => absurd rfl w, fun _ => ⟨ok_b1, hP⟩⟩
theorem isRight_k {c w : Nat} {one ot : Int32} {r : Option Nat} (hS : SI G σ) (hc : σ.1 c = some (.inr (6, [va_rf (some (gA G w)), .int one, va_rf r, .int ot]))) (hw : 1 ≤ w ∧ w ≤ 9) (h1 : cR w one ot → P 1 σ) (h0 : ¬ cR w one ot → P 0 σ) : wX7_isRight G P PX (some c) σ := by
  unfold wX7_isRight wX7_isRightb0
  refine gR hc (by decide) rfl (hs_k hS hw ?_)
  have dflt : (w ≠ 1 ∧ w ≠ 3 ∧ w ≠ 5 ∧ w ≠ 6 ∧ w ≠ 7) → wX7_isRightb127 G P PX (some c) (-1) σ := fun u => by
    unfold wX7_isRightb127
    refine ⟨fun v => absurd v (by decide), fun v => absurd v (by decide), fun v => absurd v (by decide), fun v => absurd v (by decide), fun v => absurd v (by decide), fun _ => ⟨ok_b1, h1 ⟨fun v => absurd v u.1, fun v => absurd v u.2.1, fun v => absurd v u.2.2.1, fun v => absurd v u.2.2.2.1, fun v => absurd v u.2.2.2.2⟩⟩⟩
  have : w = 1 ∨ w = 2 ∨ w = 3 ∨ w = 4 ∨ w = 5 ∨ w = 6 ∨ w = 7 ∨ w = 8 ∨ w = 9 := by omega
  rcases this with rfl | rfl | rfl | rfl | rfl | rfl | rfl | rfl | rfl <;> (refine ⟨fun u => ?_, fun u => ?_, fun u => ?_, fun u => ?_, fun u => ?_, fun u => ?_⟩ <;> first | exact absurd u (by decide) | exact absurd (by decide) u | exact dflt ⟨by decide, by decide, by decide, by decide, by decide⟩ | refine es_k hS hw ⟨fun u => absurd u n10, fun _ => ?_⟩)
  · unfold wX7_isRightb127 wX7_isRightb188
    refine ⟨fun _ => gI hc (by decide) rfl (isPup_k (fun a1 => ⟨fun v => absurd v n10, fun _ => gI hc (by decide) rfl (isLev_k (fun a2 => ⟨fun v => absurd v n10, fun _ => ⟨ok_b1, h1 ⟨fun _ => ⟨a1, a2⟩, by omega, by omega, by omega, by omega⟩⟩⟩) fun a2 => ⟨fun _ => ⟨ok_b0, h0 fun u => a2 (u.1 rfl).2⟩, fun v => absurd rfl v⟩)⟩) fun a1 => ⟨fun _ => ⟨ok_b0, h0 fun u => a1 (u.1 rfl).1⟩, fun v => absurd rfl v⟩), fun v => absurd v (by decide), fun v => absurd v (by decide), fun v => absurd v (by decide), fun v => absurd v (by decide), fun v => absurd (by decide) v⟩
  · unfold wX7_isRightb127 wX7_isRightb216
    refine ⟨fun v => absurd v (by decide), fun _ => gI hc (by decide) rfl (isPup_k (fun a1 => ⟨fun v => absurd v n10, fun _ => gI hc (by decide) rfl (isFee_k (fun a2 => ⟨fun v => absurd v n10, fun _ => ⟨ok_b1, h1 ⟨by omega, fun _ => ⟨a1, a2⟩, by omega, by omega, by omega⟩⟩⟩) fun a2 => ⟨fun _ => ⟨ok_b0, h0 fun u => a2 (u.2.1 rfl).2⟩, fun v => absurd rfl v⟩)⟩) fun a1 => ⟨fun _ => ⟨ok_b0, h0 fun u => a1 (u.2.1 rfl).1⟩, fun v => absurd rfl v⟩), fun v => absurd v (by decide), fun v => absurd v (by decide), fun v => absurd v (by decide), fun v => absurd (by decide) v⟩
  · unfold wX7_isRightb127
    refine ⟨fun v => absurd v (by decide), fun v => absurd v (by decide), fun _ => gI hc (by decide) rfl (isLev_k (fun a2 => ⟨ok_b1, h1 ⟨by omega, by omega, fun _ => a2, by omega, by omega⟩⟩) fun a2 => ⟨ok_b0, h0 fun u => a2 (u.2.2.1 rfl)⟩), fun v => absurd v (by decide), fun v => absurd v (by decide), fun v => absurd (by decide) v⟩
  · unfold wX7_isRightb127 wX7_isRightb254
    refine ⟨fun v => absurd v (by decide), fun v => absurd v (by decide), fun v => absurd v (by decide), fun _ => gI hc (by decide) rfl (isPup_k (fun a1 => ⟨fun v => absurd v n10, fun _ => gI hc (by decide) rfl (isSch_k (fun a2 => ⟨fun v => absurd v n10, fun _ => ⟨ok_b1, h1 ⟨by omega, by omega, by omega, fun _ => ⟨a1, a2⟩, by omega⟩⟩⟩) fun a2 => ⟨fun _ => ⟨ok_b0, h0 fun u => a2 (u.2.2.2.1 rfl).2⟩, fun v => absurd rfl v⟩)⟩) fun a1 => ⟨fun _ => ⟨ok_b0, h0 fun u => a1 (u.2.2.2.1 rfl).1⟩, fun v => absurd rfl v⟩), fun v => absurd v (by decide), fun v => absurd (by decide) v⟩
  · unfold wX7_isRightb127 wX7_isRightb282
    refine ⟨fun v => absurd v (by decide), fun v => absurd v (by decide), fun v => absurd v (by decide), fun v => absurd v (by decide), fun _ => gI hc (by decide) rfl (isSch_k (fun a1 => ⟨fun v => absurd v n10, fun _ => gI hc (by decide) rfl (isLev_k (fun a2 => ⟨fun v => absurd v n10, fun _ => ⟨ok_b1, h1 ⟨by omega, by omega, by omega, by omega, fun _ => ⟨a1, a2⟩⟩⟩⟩) fun a2 => ⟨fun _ => ⟨ok_b0, h0 fun u => a2 (u.2.2.2.2 rfl).2⟩, fun v => absurd rfl v⟩)⟩) fun a1 => ⟨fun _ => ⟨ok_b0, h0 fun u => a1 (u.2.2.2.2 rfl).1⟩, fun v => absurd rfl v⟩), fun v => absurd (by decide) v⟩
theorem chk_k {K : hSt → Prop} {v : Int32} (hS : SI G σ) (hb : bd G σ 7) (h1 : v ≠ 0 → K σ) (h0 : v = 0 → ∀ τ q, ev G W0 7 σ τ → τ.1 q = some (.inr (31, [])) → PX 31 q τ) : wX1_checkState G K PX v σ := by
  unfold wX1_checkState wX1_checkStateb0
  refine ⟨h1, fun w => nE hS hb (by omega) fun a τ n e => ⟨rco n.2.1, fun q hq => ?_⟩⟩
  cases hq
  exact h0 w τ _ e n.2.1
theorem in_k {c w k t : Nat} {one ot : Int32} {r : Option Nat} (hS : SI G σ) (h : LG G σ n0 o A md es g) (hi : iOK g) (hn0 : n0 ≤ σ.2.1) (hb : bd G σ 6100) (hc : σ.1 c = some (.inr (6, [va_rf (some (gA G w)), .int one, va_rf r, .int ot]))) (hw : 1 ≤ w ∧ w ≤ 9) (hnm : w ≤ 6 → ∃ nm, r = some nm ∧ KY σ 5 nm (10 * k + t)) (hk : k < 4) (ht : t < 10)
    (hX : ¬ cR w one ot → ∀ τ q, ev G W0 7 σ τ → τ.1 q = some (.inr (31, [])) → PX 31 q τ)
    (hR : ∀ rs d τ q, cR w one ot → cDo g w one k t ot (.inl (rs, d)) → ev G W0 9 σ τ → RF τ q rs d → PX 8 q τ)
    (hP : ∀ v g' τ o' md' es', cR w one ot → cDo g w one k t ot (.inr (v, g')) → ev G (Wn n0) 3300 σ τ → LG G τ n0 o' A md' es' g' → P v τ) : wX7_in G P PX (some c) (some (A 0)) σ := by
  unfold wX7_in wX7_inb0
  refine ⟨rco hc, isRight_k hS hc hw (fun hr => chk_k hS (hb.mono (by omega)) (fun _ => ?_) fun u => absurd u n10) fun hr => chk_k hS (hb.mono (by omega)) (fun u => absurd rfl u) fun _ => hX hr⟩
  obtain ⟨c1, c2, c3, c4, c5⟩ := hr
  have hr : cR w one ot := ⟨c1, c2, c3, c4, c5⟩
  refine gR hc (by decide) rfl (hs_k hS hw ?_)
  have : w = 1 ∨ w = 2 ∨ w = 3 ∨ w = 4 ∨ w = 5 ∨ w = 6 ∨ w = 7 ∨ w = 8 ∨ w = 9 := by omega
  rcases this with rfl | rfl | rfl | rfl | rfl | rfl | rfl | rfl | rfl <;> (refine ⟨fun u => ?_, fun u => ?_, fun u => ?_, fun u => ?_, fun u => ?_, fun u => ?_, fun u => ?_, fun u => ?_, fun u => ?_⟩ <;> first | exact absurd u (by decide) | exact absurd (by decide) u | refine es_k hS hw ⟨fun u => absurd u n10, fun _ => ?_⟩ | skip)
  · obtain ⟨nm, rfl, hky⟩ := hnm (by omega)
    obtain ⟨p, hp, rfl⟩ := i_of (n := 5) (c1 rfl).1.1 (c1 rfl).1.2 (by omega)
    unfold wX7_inb203
    refine ⟨fun _ => gI hc (by decide) rfl (gR hc (by decide) rfl (gI hc (by decide) rfl ⟨h.rc, enter_k hS h hi.2.1 (hb.mono (by omega)) hn0 (by omega) hk ht hky (fun a b τ q hs e => hR a b τ q hr (Or.inl ⟨rfl, hs⟩) e) fun v g' τ o' md' es' hs e => hP v g' τ o' md' es' hr (Or.inl ⟨rfl, hs⟩) (e.le' (by omega))⟩)), fun v => absurd v (by decide), fun v => absurd v (by decide), fun v => absurd v (by decide), fun v => absurd v (by decide), fun v => absurd v (by decide), fun v => absurd v (by decide), fun v => absurd v (by decide), fun v => absurd (by decide) v⟩
  · obtain ⟨nm, rfl, hky⟩ := hnm (by omega)
    unfold wX7_inb203
    refine ⟨fun v => absurd v (by decide), fun _ => gR hc (by decide) rfl ⟨h.rc, strike_k hS h hi.1 (hb.mono (by omega)) hk ht hky (fun a b τ q hs e => hR a b τ q hr (Or.inr (Or.inl ⟨rfl, hs⟩)) e) fun v g' τ md' es' hs e => hP v g' τ o md' es' hr (Or.inr (Or.inl ⟨rfl, hs⟩)) (e.le' (by omega))⟩, fun v => absurd v (by decide), fun v => absurd v (by decide), fun v => absurd v (by decide), fun v => absurd v (by decide), fun v => absurd v (by decide), fun v => absurd v (by decide), fun v => absurd (by decide) v⟩
  · obtain ⟨nm, rfl, hky⟩ := hnm (by omega)
    obtain ⟨to, hto, rfl⟩ := i_of (n := 5) (c2 rfl).1.1 (c2 rfl).1.2 (by omega)
    unfold wX7_inb203
    refine ⟨fun v => absurd v (by decide), fun v => absurd v (by decide), fun _ => gR hc (by decide) rfl (gI hc (by decide) rfl (gI hc (by decide) rfl ⟨h.rc, lend_k hS h hi.1 (hb.mono (by omega)) hk ht (by omega) hky (fun a b τ q hs e => hR a b τ q hr (Or.inr (Or.inr (Or.inl ⟨rfl, to, rfl, by omega, hs⟩))) e) fun v g' τ hs e => hP v g' τ o md es hr (Or.inr (Or.inr (Or.inl ⟨rfl, to, rfl, by omega, hs⟩))) (e.le' (by omega))⟩)), fun v => absurd v (by decide), fun v => absurd v (by decide), fun v => absurd v (by decide), fun v => absurd v (by decide), fun v => absurd v (by decide), fun v => absurd (by decide) v⟩
  · obtain ⟨nm, rfl, hky⟩ := hnm (by omega)
    unfold wX7_inb203
    refine ⟨fun v => absurd v (by decide), fun v => absurd v (by decide), fun v => absurd v (by decide), fun _ => gR hc (by decide) rfl ⟨h.rc, back_k hS h hi.1 (hb.mono (by omega)) hk ht hky (fun a b τ q hs e => hR a b τ q hr (Or.inr (Or.inr (Or.inr (Or.inl ⟨rfl, hs⟩)))) e) fun v g' τ hs e => hP v g' τ o md es hr (Or.inr (Or.inr (Or.inr (Or.inl ⟨rfl, hs⟩)))) (e.le' (by omega))⟩, fun v => absurd v (by decide), fun v => absurd v (by decide), fun v => absurd v (by decide), fun v => absurd v (by decide), fun v => absurd (by decide) v⟩
  · obtain ⟨nm, rfl, hky⟩ := hnm (by omega)
    unfold wX7_inb203
    refine ⟨fun v => absurd v (by decide), fun v => absurd v (by decide), fun v => absurd v (by decide), fun v => absurd v (by decide), fun _ => gR hc (by decide) rfl (gI hc (by decide) rfl ⟨h.rc, mend_k hS h (hb.mono (by omega)) hk ht hky (fun a b τ q hs e => hR a b τ q hr (Or.inr (Or.inr (Or.inr (Or.inr (Or.inl ⟨rfl, hs⟩))))) e) fun v g' τ hs e => hP v g' τ o md es hr (Or.inr (Or.inr (Or.inr (Or.inr (Or.inl ⟨rfl, hs⟩))))) (e.le' (by omega))⟩), fun v => absurd v (by decide), fun v => absurd v (by decide), fun v => absurd v (by decide), fun v => absurd (by decide) v⟩
  · obtain ⟨nm, rfl, hky⟩ := hnm (by omega)
    obtain ⟨p, hp, rfl⟩ := i_of (n := 5) (c4 rfl).1.1 (c4 rfl).1.2 (by omega)
    obtain ⟨s, hs3, rfl⟩ := i_of (n := 2) (c4 rfl).2.1 (c4 rfl).2.2 (by omega)
    unfold wX7_inb203
    refine ⟨fun v => absurd v (by decide), fun v => absurd v (by decide), fun v => absurd v (by decide), fun v => absurd v (by decide), fun v => absurd v (by decide), fun _ => gI hc (by decide) rfl (gR hc (by decide) rfl (gI hc (by decide) rfl ⟨h.rc, use_k hS h hi.2.2 hn0 (hb.mono (by omega)) (by omega) hk ht (by omega) hky (fun a b τ q hs e => hR a b τ q hr (Or.inr (Or.inr (Or.inr (Or.inr (Or.inr (Or.inl ⟨rfl, p, s, rfl, by omega, rfl, by omega, hs⟩)))))) e) fun v g' τ o' hs e => hP v g' τ o' md es hr (Or.inr (Or.inr (Or.inr (Or.inr (Or.inr (Or.inl ⟨rfl, p, s, rfl, by omega, rfl, by omega, hs⟩)))))) e⟩)), fun v => absurd v (by decide), fun v => absurd v (by decide), fun v => absurd (by decide) v⟩
  · obtain ⟨s, hs3, rfl⟩ := i_of (n := 2) (c5 rfl).1.1 (c5 rfl).1.2 (by omega)
    unfold wX7_inb203
    refine ⟨fun v => absurd v (by decide), fun v => absurd v (by decide), fun v => absurd v (by decide), fun v => absurd v (by decide), fun v => absurd v (by decide), fun v => absurd v (by decide), fun _ => gI hc (by decide) rfl (gI hc (by decide) rfl ⟨h.rc, strict_k hS h (hb.mono (by omega)) (by omega) (fun a b τ q hs e => hR a b τ q hr (Or.inr (Or.inr (Or.inr (Or.inr (Or.inr (Or.inr (Or.inl ⟨rfl, s, rfl, by omega, hs⟩))))))) e) fun v g' τ hs e => hP v g' τ o md es hr (Or.inr (Or.inr (Or.inr (Or.inr (Or.inr (Or.inr (Or.inl ⟨rfl, s, rfl, by omega, hs⟩))))))) (e.le' (by omega))⟩), fun v => absurd v (by decide), fun v => absurd (by decide) v⟩
  · unfold wX7_inb203
    refine ⟨fun v => absurd v (by decide), fun v => absurd v (by decide), fun v => absurd v (by decide), fun v => absurd v (by decide), fun v => absurd v (by decide), fun v => absurd v (by decide), fun v => absurd v (by decide), fun _ => gI hc (by decide) rfl ⟨h.rc, weather_k hS h (hb.mono (by omega)) (fun a b τ q hs e => hR a b τ q hr (Or.inr (Or.inr (Or.inr (Or.inr (Or.inr (Or.inr (Or.inr (Or.inl ⟨rfl, hs⟩)))))))) e) fun v g' τ hs e => hP v g' τ o md es hr (Or.inr (Or.inr (Or.inr (Or.inr (Or.inr (Or.inr (Or.inr (Or.inl ⟨rfl, hs⟩)))))))) (e.le' (by omega))⟩, fun v => absurd (by decide) v⟩
  · unfold wX7_inb203
    refine ⟨fun v => absurd v (by decide), fun v => absurd v (by decide), fun v => absurd v (by decide), fun v => absurd v (by decide), fun v => absurd v (by decide), fun v => absurd v (by decide), fun v => absurd v (by decide), fun v => absurd v (by decide), fun _ => ⟨h.rc, day_k hS h hi.1 hn0 (hb.mono (by omega)) fun v g' τ hs e => hP v g' τ o md es hr (Or.inr (Or.inr (Or.inr (Or.inr (Or.inr (Or.inr (Or.inr (Or.inr ⟨rfl, hs⟩)))))))) (e.le' (by omega))⟩⟩
end CMD
