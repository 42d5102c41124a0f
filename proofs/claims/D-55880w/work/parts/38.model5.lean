/-! the model's changes, as they are called -/
set_option maxRecDepth 100000
/-- how a change ends: as before, or kept -/
def mA (P : Int32 → hSt → Prop) (z : hSt) (a : Nat) (A : Nat → Nat) (M : mSt) (c : Nat) (n : Int32) : oR → Prop
  | .inl (r, d) => ∀ M', mBack M M' (mR M r d n).2 → P 0 (mz z a A M')
  | .inr (v, g') => ∀ M', mPush M M' g' c → P v (mz z a A M')
def mFl (P : Int32 → hSt → Prop) (z : hSt) (a : Nat) (A : Nat → Nat) (M : mSt) (n : Int32) : Prop := ∀ M', mBack M M' (mF M n).2 → P 0 (mz z a A M')
section MK2
variable {G : gE} {z : hSt} {a : Nat} {A : Nat → Nat} {M : mSt} {PX : Nat → Nat → hSt → Prop} {P : Int32 → hSt → Prop} {c : Nat}
theorem y_out (h : mOK G a A) (hc : c ≤ 6) (h3 : M.2 3 = Int32.ofNat c) {n : Int32} (hn : n ≠ 0) {o : oR} (ho : mA P z a A M c n o) : mO (fun x y => rcv y (some a) 4 ∧ wX5_kept G P PX (some a) x y) z a A (cpN M 0 0 1 0 223) (M.1 0) n o := by
  obtain ⟨r, d⟩ | ⟨v, g'⟩ := o
  · exact ⟨m_rcv, y_back h (sc := fun N => mR N r d n) (fun _ => rfl) (fun N N' e => by simp only [mR, upS, e]) _ hn ho⟩
  · exact ⟨m_rcv, y_push h hc h3 ho⟩
theorem y_fl (h : mOK G a A) {n : Int32} (hn : n ≠ 0) (ho : mFl P z a A M n) : (fun x y => rcv y (some a) 4 ∧ wX5_kept G P PX (some a) x y) 0 (mz z a A (setG (mF (cpN M 0 0 1 0 223) n) (M.1 0))) := ⟨m_rcv, y_back h (sc := fun N => mF N n) (fun _ => rfl) (fun N N' e => by simp only [mF, upS, e]) _ hn ho⟩
theorem y_look (h : mOK G a A) {Q : hSt → Prop} (hQ : Q (mz z a A (setG (cpN M 0 0 1 0 223) (M.1 0)))) : rcv (mz z a A M) (some a) 4 ∧ wX5_looksBack G (fun z1 => rcv z1 (some a) 4 ∧ Q z1) PX (some a) (mz z a A M) := by
  refine ⟨m_rcv, x_looksBack h ⟨m_rcv, ?_⟩⟩
  have e : (cpN M 0 0 1 0 223).1 0 = M.1 0 := cpN_o (by omega)
  rw [← setG_self (cpN M 0 0 1 0 223), e]
  exact hQ
theorem X_enter (h : mOK G a A) (hg : gOK (M.1 0)) (hc : c ≤ 6) (h3 : M.2 3 = Int32.ofNat c) {p k t q : Int32} (f1 : ¬ isP p → mFl P z a A M 1) (f2 : isP p → ¬ (isX k t ∧ isL q) → mFl P z a A M 2) (hk : isP p → isX k t → isL q → ∀ o, sEnter (M.1 0) p k t q o → mA P z a A M c 3 o) : wX5_enter G P PX (some a) p k t q (mz z a A M) :=
  y_look h (x_enters h hg (fun w => y_fl h (by decide) (f1 w)) (fun w w2 => y_fl h (by decide) (f2 w w2)) fun w1 w2 w3 o ho => y_out h hc h3 (by decide) (hk w1 w2 w3 o ho))
theorem X_strike (h : mOK G a A) (hg : gOK (M.1 0)) (hc : c ≤ 6) (h3 : M.2 3 = Int32.ofNat c) {k t : Int32} (f1 : ¬ isX k t → mFl P z a A M 1) (hk : isX k t → ∀ o, sStrike (M.1 0) k t o → mA P z a A M c 2 o) : wX5_strike G P PX (some a) k t (mz z a A M) :=
  y_look h (x_strikes h hg (fun w => y_fl h (by decide) (f1 w)) fun w1 o ho => y_out h hc h3 (by decide) (hk w1 o ho))
theorem X_lend (h : mOK G a A) (hg : gOK (M.1 0)) (hc : c ≤ 6) (h3 : M.2 3 = Int32.ofNat c) {k t v q : Int32} (f1 : ¬ (isX k t ∧ isE q) → mFl P z a A M 1) (f2 : isX k t → isE q → ¬ isP v → mFl P z a A M 2) (hk : isX k t → isE q → ∀ to : Nat, v = Int32.ofNat to → to < 6 → ∀ o, sLend (M.1 0) k t to q o → mA P z a A M c 3 o) : wX5_lend G P PX (some a) k t v q (mz z a A M) :=
  y_look h (x_lends h hg (fun w => y_fl h (by decide) (f1 w)) (fun w w2 w3 => y_fl h (by decide) (f2 w w2 w3)) fun w1 w2 to w3 w4 o ho => y_out h hc h3 (by decide) (hk w1 w2 to w3 w4 o ho))
theorem X_back (h : mOK G a A) (hg : gOK (M.1 0)) (hc : c ≤ 6) (h3 : M.2 3 = Int32.ofNat c) {k t : Int32} (f1 : ¬ isX k t → mFl P z a A M 1) (hk : isX k t → ∀ o, sBack (M.1 0) k t o → mA P z a A M c 2 o) : wX5_back G P PX (some a) k t (mz z a A M) :=
  y_look h (x_givesBack h hg (fun w => y_fl h (by decide) (f1 w)) fun w1 o ho => y_out h hc h3 (by decide) (hk w1 o ho))
theorem X_mend (h : mOK G a A) (hg : gOK (M.1 0)) (hc : c ≤ 6) (h3 : M.2 3 = Int32.ofNat c) {k t q : Int32} (f1 : ¬ (isX k t ∧ isL q) → mFl P z a A M 1) (hk : isX k t → isL q → ∀ o, sMend (M.1 0) k t q o → mA P z a A M c 2 o) : wX5_mend G P PX (some a) k t q (mz z a A M) :=
  y_look h (x_mends h hg (fun w => y_fl h (by decide) (f1 w)) fun w1 w2 o ho => y_out h hc h3 (by decide) (hk w1 w2 o ho))
theorem X_strict (h : mOK G a A) (hc : c ≤ 6) (h3 : M.2 3 = Int32.ofNat c) {v x : Int32} (f1 : ¬ isS v → mFl P z a A M 1) (f2 : isS v → ¬ isL x → mFl P z a A M 2) (hk : ∀ s : Nat, v = Int32.ofNat s → s < 3 → isL x → ∀ o, sStrict (M.1 0) s x o → mA P z a A M c 3 o) : wX5_strict G P PX (some a) v x (mz z a A M) :=
  y_look h (x_stricts h (fun w => y_fl h (by decide) (f1 w)) (fun w w2 => y_fl h (by decide) (f2 w w2)) fun s w1 w2 w3 o ho => y_out h hc h3 (by decide) (hk s w1 w2 w3 o ho))
theorem X_weather (h : mOK G a A) (hc : c ≤ 6) (h3 : M.2 3 = Int32.ofNat c) {t : Int32} (f1 : ¬ isE t → mFl P z a A M 1) (hk : isE t → ∀ o, sWeather (M.1 0) t o → mA P z a A M c 2 o) : wX5_weather G P PX (some a) t (mz z a A M) :=
  y_look h (x_weathers h (fun w => y_fl h (by decide) (f1 w)) fun w1 o ho => y_out h hc h3 (by decide) (hk w1 o ho))
theorem X_day (h : mOK G a A) (hg : gOK (M.1 0)) (hc : c ≤ 6) (h3 : M.2 3 = Int32.ofNat c) (hk : ∀ o, sDay (M.1 0) o → mA P z a A M c 1 o) : wX5_day G P PX (some a) (mz z a A M) :=
  y_look h (x_ends h hg fun o ho => by
    have h1 := y_out (G := G) (PX := PX) h hc h3 (n := 1) (by decide) (hk o ho)
    unfold sDay at ho
    subst ho
    exact h1)
theorem X_use (h : mOK G a A) (hg : gOK (M.1 0)) (hc : c ≤ 6) (h3 : M.2 3 = Int32.ofNat c) {v k t w : Int32} (f1 : ¬ (isP v ∧ isS w) → mFl P z a A M 1) (f2 : isP v → isS w → ¬ isX k t → mFl P z a A M 2) (hk : ∀ p k' t' s : Nat, v = Int32.ofNat p → p < 6 → k = Int32.ofNat k' → k' < 4 → t = Int32.ofNat t' → t' < 10 → w = Int32.ofNat s → s < 3 → ∀ o, sUse (M.1 0) p k' t' s o → mA P z a A M c 3 o) : wX5_use G P PX (some a) v k t w (mz z a A M) := by
  have q0 : ∀ y : hSt, P 0 y → ((¬ (0 : Int32) = 1 → (okN .boolean 0 ∧ P 0 y)) ∧ ((0 : Int32) = 1 → (okN .boolean 1 ∧ P 1 y))) := fun y hy => ⟨fun _ => ⟨ok_b0, hy⟩, fun w => absurd w (by decide)⟩
  have q1 : ∀ y : hSt, P 1 y → ((¬ (1 : Int32) = 1 → (okN .boolean 0 ∧ P 0 y)) ∧ ((1 : Int32) = 1 → (okN .boolean 1 ∧ P 1 y))) := fun y hy => ⟨fun w => absurd rfl w, fun _ => ⟨ok_b1, hy⟩⟩
  refine y_look h (x_uses h hg (fun w => y_fl h (by decide) fun M' hM => q0 _ (f1 w M' hM)) (fun w w2 w3 => y_fl h (by decide) fun M' hM => q0 _ (f2 w w2 w3 M' hM)) fun p k' t' s w1 w2 w3 w4 w5 w6 w7 w8 o ho => y_out h hc h3 (by decide) ?_)
  have h9 := hk p k' t' s w1 w2 w3 w4 w5 w6 w7 w8 o ho
  rcases ho with ⟨-, rfl⟩ | ⟨e, he, ⟨-, rfl⟩ | ⟨-, ⟨-, rfl⟩ | ⟨-, d, is, -, ⟨-, rfl⟩ | ⟨-, rfl⟩, rfl⟩⟩⟩
  · exact fun M' hM => q0 _ (h9 M' hM)
  · exact fun M' hM => q0 _ (h9 M' hM)
  · exact fun M' hM => q0 _ (h9 M' hM)
  · exact fun M' hM => q1 _ (h9 M' hM)
  · exact fun M' hM => q0 _ (h9 M' hM)
end MK2
