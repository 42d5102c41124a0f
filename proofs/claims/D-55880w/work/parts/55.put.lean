/-! a map's put and get -/
set_option maxRecDepth 100000
/-- a new cell's later self is still new -/
theorem ev.fr {G : gE} {W W' : Nat → Nat → Prop} {c c' : Nat} {σ τ υ : hSt} (h : ev G W c σ τ) (h' : ev G W' c' τ υ) (hW : ∀ a k, W' a k → σ.2.1 ≤ a) : ev G W (c + c') σ υ := h.trans h' fun a k ha w => absurd (hW a k w) (by omega)
theorem ev.f1 {G : gE} {W : Nat → Nat → Prop} {c c' a ci : Nat} {σ τ υ : hSt} (h : ev G W c σ τ) (h' : ev G (W1 a ci) c' τ υ) (ha : σ.2.1 ≤ a) : ev G W (c + c') σ υ := h.fr h' fun b k w => by rw [w.1]; exact ha
/-- how a put makes its node: by the map's kind -/
abbrev nnD (G : gE) (PX : Nat → Nat → hSt → Prop) (m h k : Nat) (v : Option Nat) (K : Option Nat → hSt → Prop) (z : hSt) : Prop := (rcv z (some m) 12 ∧ wJ1_newNode G (fun x12 z11 => K x12 z11) PX (some m) (Int32.ofNat h) (some k) v none z) ∨ (rcv z (some m) 13 ∧ wJ2_newNode G (fun x12 z11 => K x12 z11) PX (some m) (Int32.ofNat h) (some k) v none z)
section WALK
variable {G : gE} {σ : hSt} {PX : Nat → Nat → hSt → Prop} {P : Option Nat → hSt → Prop} {kt m k x ta N : Nat} {v : Option Nat}
theorem put_loop {l : List eT} {q0 : eT} {t0 : List eT} (hk : KY σ kt k x) (hl0 : l = q0 :: t0) (hl : ch σ kt l (some q0.1)) (hne : q0.2.1 ≠ x) (hF : ∀ q ∈ l, q.2.1 = x → wJ1_putValb222 G P PX (some m) v 0 1 (some q.1) σ) (hA : ∀ l1 p n, l = l1 ++ [p] → l1.length = n → (∀ q ∈ l, q.2.1 ≠ x) → nnD G PX m (hvk kt x) k v (fun x32 z31 => wJ1_putValb155 G P PX (some m) (Int32.ofNat (hvk kt x)) v 0 1 (some ta) none (Int32.ofNat n) (some p.1) x32 z31) σ) : wJ1_putValb104 G P PX (some m) (Int32.ofNat (hvk kt x)) (some k) v 0 1 (some ta) (some q0.1) σ := by
  have hb1 := hk.hb
  subst hl0
  obtain ⟨-, hq0, nx0, ⟨c0, Y0, hc0, hn0⟩, -⟩ := id hl
  unfold wJ1_putValb104
  refine iOn hn0 (n26 hc0) ⟨fun _ => ?_, fun w => absurd rfl w⟩
  refine lp_n (fun n y => ∃ l1 p l2, q0 :: t0 = l1 ++ p :: l2 ∧ l2.length = n ∧ y = (some m, Int32.ofNat (hvk kt x), some k, v, 0, 1, some ta, some p.1, Int32.ofNat l1.length, σ) ∧ ∀ q ∈ l1 ++ [p], q.2.1 ≠ x) t0.length ⟨[], q0, t0, rfl, rfl, rfl, fun q hq => by rcases List.mem_cons.mp hq with rfl | h; exact hne; exact nomatch h⟩ ?_
  rintro n y ⟨l1, p, l2, he, rfl, rfl, hd⟩ K hK
  rw [he] at hl
  obtain ⟨mm, hl1, rfl, hp, nx, ⟨cj, Y, hc, hn⟩, hl2⟩ := ce_app.mp hl
  unfold wJ1_putValb134
  refine gR hn (n26 hc) rfl ⟨fun e => ?_, fun e => ?_⟩
  · obtain _ | ⟨q, l2⟩ := l2
    · exact absurd hl2 e
    obtain ⟨rfl, hq, nx2, ⟨cj2, Y2, hc2, hn2⟩, -⟩ := hl2
    have hb2 := hq.hb
    have hqm : q ∈ q0 :: t0 := by rw [he]; exact List.mem_append_right _ (List.mem_cons_of_mem _ List.mem_cons_self)
    have go : q.2.1 ≠ x → wJ1_putValb212 G P PX K (some m) (Int32.ofNat (hvk kt x)) (some k) v 0 1 (some ta) (some q.1) (Int32.ofNat l1.length) σ := by
      intro hx
      unfold wJ1_putValb212
      rw [i_succ]
      refine hK l2.length _ (by simp) ⟨l1 ++ [p], q, l2, by rw [he]; simp, rfl, by rw [List.length_append]; rfl, fun q' hq' => ?_⟩
      rcases List.mem_append.mp hq' with h | h
      · exact hd q' h
      · rcases List.mem_cons.mp h with rfl | h
        · exact hx
        · exact nomatch h
    refine gI hn2 (n26 hc2) rfl ⟨fun hx => go fun e => hx (by rw [e]), fun hx => gR hn2 (n26 hc2) rfl ⟨fun e2 => ?_, fun e2 => ⟨fun w => (nomatch w), fun _ => ?_⟩⟩⟩
    · cases e2
      exact hF q hqm (hq.inj hk)
    · refine eq_k hk hq (fun e3 => ?_) fun e3 => ?_
      · unfold wJ1_putValb206
        exact ⟨fun w => absurd w (by decide), fun _ => hF q hqm e3.symm⟩
      · unfold wJ1_putValb206
        exact ⟨fun _ => go (Ne.symm e3), fun w => absurd rfl w⟩
  · obtain _ | ⟨q, l2⟩ := l2
    · rw [e]
      exact hA l1 p l1.length he rfl fun q hq => hd q (by rw [← he]; exact hq)
    · rw [e] at hl2; exact nomatch hl2.1
theorem put_walk {f : Nat → Option Nat} {l : List eT} (hta : σ.1 ta = some (.inl (6, N, .inr (.inr (.inr (.inr f)))))) (hN : pw N) (hk : KY σ kt k x) (hl : ch σ kt l (f (hvk kt x % N)))
    (hF : ∀ q ∈ l, q.2.1 = x → wJ1_putValb222 G P PX (some m) v 0 1 (some q.1) σ)
    (hE : l = [] → nnD G PX m (hvk kt x) k v (fun x12 z11 => wJ1_putValb59 G P PX (some m) 1 (some ta) (Int32.ofNat (hvk kt x % N)) x12 z11) σ)
    (hA : ∀ l1 p n, l = l1 ++ [p] → l1.length = n → (∀ q ∈ l, q.2.1 ≠ x) → nnD G PX m (hvk kt x) k v (fun x32 z31 => wJ1_putValb155 G P PX (some m) (Int32.ofNat (hvk kt x)) v 0 1 (some ta) none (Int32.ofNat n) (some p.1) x32 z31) σ) : wJ1_putValb29 G P PX (some m) (Int32.ofNat (hvk kt x)) (some k) v 0 1 (some ta) (Int32.ofNat N) σ := by
  have hb1 := hk.hb
  have hNb := pw_b hN
  have e1 : (Int32.ofNat N - 1) &&& Int32.ofNat (hvk kt x) = Int32.ofNat (hvk kt x % N) := by
    obtain ⟨j, -, hj, rfl⟩ := hN
    exact bix0 j hj _ hb1
  unfold wJ1_putValb29
  rw [e1]
  refine aR hta (by decide) (by omega) (Nat.mod_lt _ (by omega)) ⟨fun e => ?_, fun e => ?_⟩
  · obtain _ | ⟨q1, t1⟩ := l
    · exact absurd hl e
    have hl' := hl
    obtain ⟨er, hq, nx, ⟨cj, Y, hc, hn⟩, -⟩ := hl'
    rw [er]
    rw [er] at hl
    have hb2 := hq.hb
    have go : q1.2.1 ≠ x → wJ1_putValb104 G P PX (some m) (Int32.ofNat (hvk kt x)) (some k) v 0 1 (some ta) (some q1.1) σ := fun hx => put_loop hk rfl hl hx hF hA
    refine gI hn (n26 hc) rfl ⟨fun hx => go fun e => hx (by rw [e]), fun hx => gR hn (n26 hc) rfl ⟨fun e2 => ?_, fun e2 => ⟨fun w => (nomatch w), fun _ => ?_⟩⟩⟩
    · unfold wJ1_putValb97
      cases e2
      exact hF q1 List.mem_cons_self (hq.inj hk)
    · refine eq_k hk hq (fun e3 => ?_) fun e3 => ?_
      · unfold wJ1_putValb94 wJ1_putValb97
        exact ⟨fun w => absurd w (by decide), fun _ => hF q1 List.mem_cons_self e3.symm⟩
      · unfold wJ1_putValb94
        exact ⟨fun _ => go (Ne.symm e3), fun w => absurd rfl w⟩
  · refine hE ?_
    cases l with
    | nil => rfl
    | cons q t => rw [e] at hl; exact nomatch hl.1
/-- a plain node made -/
theorem node_k {K : Option Nat → hSt → Prop} {h : Nat} (hS : SI G σ) (hb : bd G σ 5) (hK : ∀ τ a, a = σ.2.1 → σ.1 a = none → ev G W0 5 σ τ → τ.1 a = some (.inr (26, [.int (Int32.ofNat h), va_rf (some k), va_rf v, va_rf none])) → (∀ b, b ≠ a → τ.1 b = σ.1 b) → K (some a) τ) : wJ1_newNode G K PX (some m) (Int32.ofNat h) (some k) v none σ := by
  unfold wJ1_newNode wJ1_newNodeb0
  refine nO hS hb (fun w => by omega) fun a τ n hX e => ⟨⟨a, rfl⟩, ?_⟩
  unfold wJ37_init wJ37_initb0
  refine ⟨⟨a, rfl⟩, pO e.t n.2.1 (by decide) (by simp) (by decide) fun τ1 w1 e1 => pO e1.t w1.1 (by decide) (by simp) (by decide) fun τ2 w2 e2 => pO e2.t w2.1 (by decide) (by simp) (by decide) fun τ3 w3 e3 => pO e3.t w3.1 (by decide) (by simp) (by decide) fun τ4 w4 e4 => ?_⟩
  have ha : σ.2.1 ≤ a := by rw [n.1]; exact Nat.le_refl _
  refine hK τ4 a n.1 n.2.2.2 (((((e.f1 e1 ha).f1 e2 ha).f1 e3 ha).f1 e4 ha).le' (by omega)) w4.1 fun b hb => ?_
  rw [w4.o hb, w3.o hb, w2.o hb, w1.o hb, n.2.2.1 b hb]
end WALK
-- ===== how many keys a bin may hold =====
theorem nd_le {l s : List Nat} (hn : l.Nodup) (h : ∀ x ∈ l, x ∈ s) : l.length ≤ s.length := by
  induction l generalizing s with
  | nil => exact Nat.zero_le _
  | cons x t ih =>
    rw [List.nodup_cons] at hn
    have h1 := h x List.mem_cons_self
    have h2 := ih hn.2 (s := s.erase x) fun y hy => (List.mem_erase_of_ne (by rintro rfl; exact hn.1 hy)).mpr (h y (List.mem_cons_of_mem _ hy))
    rw [List.length_erase_of_mem h1] at h2
    have h3 := List.length_pos_of_mem h1
    simp only [List.length_cons]
    omega
theorem few9 : ∀ i, i < 64 → ((List.range 240).filter fun x => decide ((31 * (x / 6) + x % 6) % 64 = i)).length ≤ 7 := by decide +kernel
theorem few0 : ∀ i, i < 64 → ((List.range 240).filter fun x => decide (x % 64 = i)).length ≤ 7 := by decide +kernel
theorem few16 : ∀ i, i < 16 → ((List.range 40).filter fun x => decide (x % 16 = i)).length ≤ 3 := by decide +kernel
theorem bin_few {σ : hSt} {kt ta N : Nat} {B : Nat → List eT} (h : BK σ kt ta N B) (hW : WB kt N B) (hN : pw N) (h64 : 64 ≤ N) {i : Nat} (hi : i < N) : (B i).length ≤ 7 := by
  obtain ⟨f, -, hc⟩ := h
  have hd : 64 ∣ N := by
    obtain ⟨j, -, hj, rfl⟩ := hN
    have h6 : 6 ≤ j := by
      rcases Nat.lt_or_ge j 6 with h9 | h9
      · have h8 : j = 0 ∨ j = 1 ∨ j = 2 ∨ j = 3 ∨ j = 4 ∨ j = 5 := by omega
        rcases h8 with rfl | rfl | rfl | rfl | rfl | rfl <;> omega
      · exact h9
    have h7 := Nat.pow_dvd_pow 2 h6
    exact h7
  have key : ∀ q ∈ B i, q.2.1 < 240 ∧ hvk kt q.2.1 % 64 = i % 64 := by
    intro q hq
    refine ⟨(ce_in (hc i hi) hq).1.xb, ?_⟩
    have := (hW i hi).1 q hq
    rw [← this, Nat.mod_mod_of_dvd _ hd]
  have hl : (B i).length = ((B i).map fun q => q.2.1).length := by simp
  rw [hl]
  have hi64 : i % 64 < 64 := Nat.mod_lt _ (by omega)
  by_cases h9 : kt = 9
  · subst h9
    refine Nat.le_trans (nd_le (hW i hi).2 (s := (List.range 240).filter fun x => decide ((31 * (x / 6) + x % 6) % 64 = i % 64)) fun x hx => ?_) (few9 _ hi64)
    obtain ⟨q, hq, rfl⟩ := List.mem_map.mp hx
    obtain ⟨h1, h2⟩ := key q hq
    exact List.mem_filter.mpr ⟨List.mem_range.mpr h1, decide_eq_true h2⟩
  · refine Nat.le_trans (nd_le (hW i hi).2 (s := (List.range 240).filter fun x => decide (x % 64 = i % 64)) fun x hx => ?_) (few0 _ hi64)
    obtain ⟨q, hq, rfl⟩ := List.mem_map.mp hx
    obtain ⟨h1, h2⟩ := key q hq
    have h3 : hvk kt q.2.1 = q.2.1 := if_neg h9
    rw [h3] at h2
    exact List.mem_filter.mpr ⟨List.mem_range.mpr h1, decide_eq_true h2⟩
-- ===== a HashMap =====
/-- m is a HashMap that holds the entries E, n of them; its table has N places; its own cells lie in D -/
def HM (G : gE) (σ : hSt) (D : Nat → Prop) (kt m n N : Nat) (E : eT → Prop) : Prop := ∃ t md th, mm σ m 12 t (Int32.ofNat n) md th [] ∧ D m ∧ (n = 0 → ∀ q, ¬ E q) ∧ ((t = none ∧ N = 0 ∧ (∀ q, ¬ E q) ∧ (th = 0 ∨ ∃ T, pw T ∧ th = Int32.ofNat T)) ∨ ∃ ta B, t = some ta ∧ D ta ∧ ¬ gX G ta ∧ pw N ∧ th = Int32.ofNat (N * 3 / 4) ∧ BK σ kt ta N B ∧ WB kt N B ∧ (∀ i, i < N → ∀ q ∈ B i, D q.1) ∧ ∀ q, E q ↔ ∃ i, i < N ∧ q ∈ B i)
theorem mm.ev {G : gE} {W : Nat → Nat → Prop} {c : Nat} {σ τ : hSt} {m ci : Nat} {t : Option Nat} {sz md th : Int32} {Y : List Value} (h : mm σ m ci t sz md th Y) (he : ev G W c σ τ) (hW : ¬ W m ci) : mm τ m ci t sz md th Y := by
  obtain ⟨h1, k0, k1, k3, h2⟩ := h
  exact ⟨h1, he.m h2 hW⟩
theorem nq.ev {G : gE} {W : Nat → Nat → Prop} {c : Nat} {σ τ : hSt} {a h ka : Nat} {v nx : Option Nat} (hn : nq σ a h ka v nx) (he : ev G W c σ τ) (hW : ¬ W a 26 ∧ ¬ W a 27) : nq τ a h ka v nx := by
  obtain ⟨ci, Y, hc, q⟩ := hn
  refine ⟨ci, Y, hc, ?_⟩
  rcases hc with rfl | rfl
  · exact he.o q hW.1 (by decide) (by decide)
  · exact he.o q hW.2 (by decide) (by decide)
theorem BK.ev {G : gE} {W : Nat → Nat → Prop} {c : Nat} {σ τ : hSt} {kt ta N : Nat} {B : Nat → List eT} (h : BK σ kt ta N B) (he : ev G W c σ τ) (hk : Wk W) (ht : ¬ W ta 106) (hn : ∀ i, i < N → ∀ q ∈ B i, ¬ W q.1 26 ∧ ¬ W q.1 27) : BK τ kt ta N B := by
  obtain ⟨f, h1, h2⟩ := h
  exact ⟨f, he.a h1 ht, fun i hi => ce_keep (fun ka x w => w.ev he hk) (fun q hq h ka v nx w => w.ev he (hn i hi q hq)) (h2 i hi)⟩
theorem HM.ev {G : gE} {W : Nat → Nat → Prop} {c : Nat} {σ τ : hSt} {D : Nat → Prop} {kt m n N : Nat} {E : eT → Prop} (h : HM G σ D kt m n N E) (he : ev G W c σ τ) (hk : Wk W) (hW : ∀ a k, D a → mkd k → ¬ W a k) : HM G τ D kt m n N E := by
  obtain ⟨t, md, th, h1, h2, h3, h4⟩ := h
  refine ⟨t, md, th, h1.ev he (hW _ _ h2 (Or.inl rfl)), h2, h3, h4.imp id ?_⟩
  rintro ⟨ta, B, q1, q2, q3, q4, q5, q6, q7, q8, q9⟩
  exact ⟨ta, B, q1, q2, q3, q4, q5, q6.ev he hk (hW _ _ q2 (Or.inr (Or.inr (Or.inr (Or.inr rfl))))) fun i hi q hq => ⟨hW _ _ (q8 i hi q hq) (Or.inr (Or.inr (Or.inl rfl))), hW _ _ (q8 i hi q hq) (Or.inr (Or.inr (Or.inr (Or.inl rfl))))⟩, q7, q8, q9⟩
theorem HM.mono {G : gE} {σ : hSt} {D D' : Nat → Prop} {kt m n N : Nat} {E : eT → Prop} (h : HM G σ D kt m n N E) (hD : ∀ a, D a → D' a) : HM G σ D' kt m n N E := by
  obtain ⟨t, md, th, h1, h2, h3, h4⟩ := h
  refine ⟨t, md, th, h1, hD _ h2, h3, h4.imp id ?_⟩
  rintro ⟨ta, B, q1, q2, q3, q4, q5, q6, q7, q8, q9⟩
  exact ⟨ta, B, q1, hD _ q2, q3, q4, q5, q6, q7, fun i hi q hq => hD _ (q8 i hi q hq), q9⟩
theorem HM.congr {G : gE} {σ : hSt} {D : Nat → Prop} {kt m n N : Nat} {E E' : eT → Prop} (h : HM G σ D kt m n N E) (hE : ∀ q, E q ↔ E' q) : HM G σ D kt m n N E' := by
  have : E = E' := funext fun q => propext (hE q)
  rw [← this]; exact h
theorem HM.key {G : gE} {σ : hSt} {D : Nat → Prop} {kt m n N : Nat} {E : eT → Prop} (h : HM G σ D kt m n N E) {q : eT} (hq : E q) : KY σ kt q.2.2.1 q.2.1 := by
  obtain ⟨t, md, th, h1, h2, h3, ⟨-, -, h4, -⟩ | ⟨ta, B, q1, q2, q3, q4, q5, ⟨f, -, hc⟩, q7, q8, q9⟩⟩ := h
  · exact absurd hq (h4 q)
  · obtain ⟨i, hi, hm⟩ := (q9 q).mp hq
    exact (ce_in (hc i hi) hm).1
/-- one key, one entry -/
theorem HM.un {G : gE} {σ : hSt} {D : Nat → Prop} {kt m n N : Nat} {E : eT → Prop} (h : HM G σ D kt m n N E) {q q' : eT} (hq : E q) (hq' : E q') (e : q.2.1 = q'.2.1) : q = q' := by
  obtain ⟨t, md, th, h1, h2, h3, ⟨-, -, h4, -⟩ | ⟨ta, B, q1, q2, q3, q4, q5, q6, q7, q8, q9⟩⟩ := h
  · exact absurd hq (h4 q)
  · obtain ⟨i, hi, hm⟩ := (q9 q).mp hq
    obtain ⟨i', hi', hm'⟩ := (q9 q').mp hq'
    have e1 := (q7 i hi).1 q hm
    have e2 := (q7 i' hi').1 q' hm'
    rw [e] at e1
    have e3 : i = i' := e1.symm.trans e2
    subst e3
    exact nd_inj (q7 i hi).2 hm hm' e
section MAP
variable {G : gE} {σ : hSt} {PX : Nat → Nat → hSt → Prop} {P : Option Nat → hSt → Prop} {kt m n N k x : Nat} {D : Nat → Prop} {E : eT → Prop} {v : Option Nat}
theorem find_k (hH : HM G σ D kt m n N E) (hk : KY σ kt k x) (h1 : ∀ q, E q → q.2.1 = x → P (some q.1) σ) (h2 : (∀ q, E q → q.2.1 ≠ x) → P none σ) : wJ1_getNode G P PX (some m) (some k) σ := by
  obtain ⟨t, md, th, hm, -, -, ⟨rfl, -, h4, -⟩ | ⟨ta, B, rfl, q2, q3, hN, q5, ⟨f, hf, hc⟩, q7, q8, q9⟩⟩ := hH
  · exact getNode_0 hm (h2 fun q hq => absurd hq (h4 q))
  · have hlt : hvk kt x % N < N := Nat.mod_lt _ (by have := pw_b hN; omega)
    refine getNode_k hm rfl hf hN hk (hc _ hlt) (fun q hq e => h1 q ((q9 q).mpr ⟨_, hlt, hq⟩) e) fun hn => h2 fun q hq e => ?_
    obtain ⟨i, hi, hm⟩ := (q9 q).mp hq
    have e1 := (q7 i hi).1 q hm
    rw [e] at e1
    subst e1
    exact hn q hm e
theorem HM.nd (hH : HM G σ D kt m n N E) {q : eT} (hq : E q) : ∃ nx, nq σ q.1 (hvk kt q.2.1) q.2.2.1 q.2.2.2 nx := by
  obtain ⟨t, md, th, h1, h2, h3, ⟨-, -, h4, -⟩ | ⟨ta, B, q1, q2, q3, q4, q5, ⟨f, -, hc⟩, q7, q8, q9⟩⟩ := hH
  · exact absurd hq (h4 q)
  · obtain ⟨i, hi, hm⟩ := (q9 q).mp hq
    exact (ce_in (hc i hi) hm).2
theorem HM.rc (hH : HM G σ D kt m n N E) : rcv σ (some m) 12 := by
  obtain ⟨t, md, th, ⟨-, k0, k1, k3, h1⟩, -⟩ := hH
  exact rco h1
theorem get_k (hH : HM G σ D kt m n N E) (hk : KY σ kt k x) (h1 : ∀ q, E q → q.2.1 = x → P q.2.2.2 σ) (h2 : (∀ q, E q → q.2.1 ≠ x) → P none σ) : wJ1_get G P PX (some m) (some k) σ := by
  unfold wJ1_get wJ1_getb0
  refine ⟨hH.rc, find_k hH hk (fun q hq e => ⟨fun _ => ?_, fun w => nomatch w⟩) fun hn => ⟨fun w => absurd rfl w, fun _ => h2 hn⟩⟩
  obtain ⟨nx, cj, Y, hc, hn⟩ := hH.nd hq
  exact gR hn (n26 hc) rfl (h1 q hq e)
theorem ckey_k {P : Int32 → hSt → Prop} (hH : HM G σ D kt m n N E) (hk : KY σ kt k x) (h1 : (∃ q, E q ∧ q.2.1 = x) → P 1 σ) (h2 : (∀ q, E q → q.2.1 ≠ x) → P 0 σ) : wJ1_containsKey G P PX (some m) (some k) σ := by
  unfold wJ1_containsKey wJ1_containsKeyb0
  exact ⟨hH.rc, find_k hH hk (fun q hq e => ⟨fun w => (nomatch w), fun _ => ⟨ok_b1, h1 ⟨q, hq, e⟩⟩⟩) fun hn => ⟨fun _ => ⟨ok_b0, h2 hn⟩, fun w => absurd rfl w⟩⟩
/-- the end of a put that added: the counts, perhaps a longer table -/
theorem put_end {ta : Nat} {B : Nat → List eT} {md : Int32} {E' : eT → Prop} (hS : SI G σ) (hn : n ≤ 240) (hm : mm σ m 12 (some ta) (Int32.ofNat n) md (Int32.ofNat (N * 3 / 4)) []) (hDm : D m) (hDa : D ta) (hXa : ¬ gX G ta) (hN : pw N) (hB : BK σ kt ta N B) (hW : WB kt N B) (hDn : ∀ i, i < N → ∀ q ∈ B i, D q.1) (hE' : ∀ q, E' q ↔ ∃ i, i < N ∧ q ∈ B i) (hDf : ∀ a, σ.2.1 ≤ a → D a) (hb : bd G σ 600) (hP : ∀ τ N', N ≤ N' → N' ≤ 512 → ev G (Wm D) (3 * (N' - N)) σ τ → HM G τ D kt m (n + 1) N' E' → P none τ) : wJ1_putValb259 G P PX (some m) 1 σ := by
  have hNb := pw_b hN
  obtain ⟨hci, k0, k1, k3, hm⟩ := hm
  unfold wJ1_putValb259
  refine gI hm (by decide) rfl (pM hS hm (by decide) (by simp) hci (by decide) (by decide) (by decide) fun τ1 w1 e1 => ?_)
  refine gI w1.1 (by decide) rfl (pM e1.t w1.1 (by decide) (by simp) hci (by decide) (by decide) (by decide) fun τ2 w2 e2 => ?_)
  refine gI w2.1 (by decide) rfl ?_
  rw [i_succ, i_le (by omega) (by omega)]
  have e12 : ev G (Wm D) 0 σ τ2 := ((e1.up hDm (by unfold mkd; omega)).tr (e2.up hDm (by unfold mkd; omega))).le' (by omega)
  have hm2 : mm τ2 m 12 (some ta) (Int32.ofNat (n + 1)) (md + 1) (Int32.ofNat (N * 3 / 4)) [] := ⟨hci, k0, k1, k3, by rw [← i_succ]; exact w2.1⟩
  have hta : ta ≠ m := by
    obtain ⟨f, hf, -⟩ := hB
    rintro rfl
    rw [hm] at hf; exact nomatch hf
  have hB2 : BK τ2 kt ta N B := by
    refine (hB.ev e1 (W1_k (by omega)) (fun w => hta w.1) fun i hi q hq => ⟨fun w => by have := w.2; omega, fun w => by have := w.2; omega⟩).ev e2 (W1_k (by omega)) (fun w => hta w.1) fun i hi q hq => ⟨fun w => by have := w.2; omega, fun w => by have := w.2; omega⟩
  have fin : ∀ τ N', N ≤ N' → N' ≤ 512 → ev G (Wm D) (3 * (N' - N)) σ τ → HM G τ D kt m (n + 1) N' E' → wJ1_putValb292 G P PX (some m) 1 τ := by
    intro τ N' h1 h2 h3 h4
    unfold wJ1_putValb292 wJ1_putValb298 wJ1_afterNodeInsertion wJ1_afterNodeInsertionb0
    exact Or.inl ⟨h4.rc, hP τ N' h1 h2 h3 h4⟩
  refine ⟨fun q => fin τ2 N (Nat.le_refl _) (by omega) (e12.le' (by omega)) ⟨_, _, _, hm2, hDm, fun w => by omega, Or.inr ⟨ta, B, rfl, hDa, hXa, hN, rfl, hB2, hW, hDn, hE'⟩⟩, fun q => Or.inl ⟨rco w2.1, ?_⟩⟩
  have hN2 : N ≤ 256 := by
    obtain ⟨j, h1, h2, rfl⟩ := hN
    rcases Nat.lt_or_ge j 9 with h9 | h9
    · have : 2 ^ j ≤ 2 ^ 8 := Nat.pow_le_pow_right (by omega) (by omega)
      omega
    · have : j = 9 := by omega
      subst this
      omega
  refine resize_1 e2.t hm2 hDm hDa hXa hN hN2 hB2 hW hDn (fun a ha => hDf a (Nat.le_trans e12.le ha)) (e12.rm hb (by omega)) fun τ tb e3 hm3 hDb hXb hB3 hW3 => ?_
  unfold wJ1_putValb291
  refine fin τ (2 * N) (by omega) (by omega) ((e12.tr e3).le' (by omega)) ⟨_, _, _, hm3, hDm, fun w => by omega, Or.inr ⟨tb, _, rfl, hDb, hXb, ?_, rfl, hB3, hW3, ?_, fun q => (hE' q).trans (B2_in q).symm⟩⟩
  · obtain ⟨i, hi1, hi, rfl⟩ := hN
    refine ⟨i + 1, by omega, ?_, by rw [Nat.pow_succ, Nat.mul_comm]⟩
    by_cases h9 : i = 9
    · subst h9; omega
    · omega
  · intro i hi q hq
    obtain ⟨i', hi', hq'⟩ := (B2_in (kt := kt) q).mp ⟨i, hi, hq⟩
    exact hDn i' hi' q hq'
end MAP
