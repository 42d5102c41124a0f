/-! copies: the dogs' map -/
set_option maxRecDepth 100000
theorem cntB_z {p : Nat → Bool} {n : Nat} (h : cntB p n = 0) : ∀ x, x < n → p x = false := by
  induction n with
  | zero => intro x hx; omega
  | succ n ih =>
    rw [cntB_s] at h
    intro x hx
    by_cases hp : p n = true
    · rw [if_pos hp] at h; omega
    · by_cases e : x = n
      · subst e; simpa using hp
      · exact ih (by omega) x (by omega)
theorem pw_tsf {n : Nat} : pw (tsf n) := by
  unfold tsf
  by_cases h1 : n ≤ 2
  · rw [if_pos h1]; exact ⟨1, by omega, by omega, rfl⟩
  · rw [if_neg h1]
    by_cases h2 : n ≤ 4
    · rw [if_pos h2]; exact ⟨2, by omega, by omega, rfl⟩
    · rw [if_neg h2]
      by_cases h3 : n ≤ 8
      · rw [if_pos h3]; exact ⟨3, by omega, by omega, rfl⟩
      · rw [if_neg h3]; exact ⟨4, by omega, by omega, rfl⟩
section CP3
variable {G : gE} {σ : hSt} {PX : Nat → Nat → hSt → Prop} {K : hSt → Prop} {D Dn : Nat → Prop} {d d' N : Nat} {g : Nat → Int32}
theorem ents_all {E : eT → Prop} {n T : Nat} (hS : SI G σ) (hH : HM G σ D 25 d n N E) (hm' : mm σ d' 12 none 0 0 (Int32.ofNat T) []) (hT : pw T) (hd' : Dn d') (hDn : ∀ a, σ.2.1 ≤ a → Dn a) (hdis : ∀ a, D a → a < σ.2.1 → ¬ Dn a) (hn : n ≤ 10) (hE : ∀ q, E q → q.2.1 < 10 ∧ isN σ q.1) (hb : bd G σ 4000) (hP : ∀ τ N' E', ev G (Wm Dn) 1650 σ τ → HM G τ Dn 25 d' n N' E' → (∀ t, (∃ q, E' q ∧ q.2.1 = t) ↔ ∃ q, E q ∧ q.2.1 = t) → (∀ q, E' q → isN τ q.1 ∧ ∃ q0, E q0 ∧ q0.2.1 = q.2.1 ∧ q0.2.2.2 = q.2.2.2) → K τ) (hrn : ∀ r : List eT, (r.map fun q => q.2.1).Nodup → (∀ q, q ∈ r ↔ E q) → r.length = n) : wJ1_putMapEntriesb97 G K PX (some d') (some d) 1 σ := by
  have hHr := hH.res hS
  have hH0 : HM G σ Dn 25 d' 0 0 (fun _ => False) := ⟨none, 0, Int32.ofNat T, hm', hd', fun _ _ w => w, Or.inl ⟨rfl, rfl, fun _ w => w, Or.inr ⟨T, hT, rfl⟩⟩⟩
  unfold wJ1_putMapEntriesb97 wJ43_iterator wJ43_iteratorb0 wJ21_init wJ21_initb0
  refine ⟨hHr.rc, ents_k hS hHr (hb.mono (by omega)) fun τ v e1 hv => ⟨rco hv, nO e1.t (e1.rm hb (by omega)) (fun w => by omega) fun it τ2 n2 hX e2 => gR (n2.o hv) (by decide) rfl ⟨⟨it, rfl⟩, ⟨it, rfl⟩, ?_⟩⟩⟩
  have e12 := e1.tr e2
  have hE2 := hHr.ev e12 W0_k fun _ _ _ _ w => w
  have hit : σ.2.1 ≤ it := by rw [n2.1]; exact e1.le
  refine hinit_k (Or.inl rfl) e2.t hE2 (by omega) n2.2.1 fun τ3 r e3 hi hnd hmem => ?_
  have e13 : ev G W0 8 σ τ3 := (e12.f1 e3 hit).le' (by omega)
  have hrl := hrn r hnd hmem
  refine lp_n (fun n y => ∃ dn r' z N' E', r = dn ++ r' ∧ n = r'.length ∧ N' ≤ 512 ∧ y = (some d', 1, some it, z) ∧ ev G (Wm Dn) (8 + 5 * dn.length + 3 * N') σ z ∧ HI z it 20 d 25 r' ∧ HM G z Dn 25 d' dn.length N' E' ∧ (∀ t, (∃ q, E' q ∧ q.2.1 = t) ↔ t ∈ dn.map fun q => q.2.1) ∧ ∀ q, E' q → isN z q.1 ∧ ∃ q0, E q0 ∧ q0.2.1 = q.2.1 ∧ q0.2.2.2 = q.2.2.2) r.length ⟨[], r, τ3, 0, fun _ => False, rfl, rfl, by omega, rfl, e13.up0, hi, hH0.ev e13 W0_k fun _ _ _ _ w => w, fun t => ⟨fun ⟨_, w, _⟩ => w.elim, fun w => nomatch w⟩, fun q w => w.elim⟩ ?_
  rintro k y ⟨dn, r', z, N', E', hr, rfl, hN', rfl, ez, hiz, hz', hk1, hk2⟩ K' hK'
  unfold wJ1_putMapEntriesb110
  have hdl : dn.length + r'.length = n := by rw [← hrl, hr, List.length_append]
  refine ⟨hiz.rc, hhas_k hiz (fun hr0 => ⟨fun _ => ?_, fun w => absurd rfl w⟩) fun hr1 => ⟨fun w => absurd w n10, fun _ => ⟨hiz.rc, ?_⟩⟩⟩
  · subst hr0
    have : dn.length = n := by simpa using hdl
    rw [this] at hz' ez
    rw [List.append_nil] at hr
    subst hr
    refine hP z N' E' (ez.le' (by omega)) hz' (fun t => ?_) hk2
    rw [hk1, List.mem_map]
    exact ⟨fun ⟨q, hq, e⟩ => ⟨q, (hmem q).mp hq, e⟩, fun ⟨q, hq, e⟩ => ⟨q, (hmem q).mpr hq, e⟩⟩
  · obtain ⟨q, r2, rfl⟩ : ∃ q r2, r' = q :: r2 := by
      cases r' with
      | nil => exact absurd rfl hr1
      | cons q r2 => exact ⟨q, r2, rfl⟩
    have hqE : E q := (hmem q).mp (by rw [hr]; exact List.mem_append_right _ List.mem_cons_self)
    have hl2 : dn.length + (r2.length + 1) = n := by simpa using hdl
    unfold wJ21_next wJ21_nextb0 wJ21_next_2 wJ21_next_2b0
    refine ⟨hiz.rc, hiz.rc, hnext_k ez.t hiz fun τ2 nx e2 hi2 hk hnq => ?_⟩
    have e02 : ev G (Wm Dn) (8 + 5 * dn.length + 3 * N') σ τ2 := (ez.fr e2 fun b k w => by rw [w.1]; exact hit).le' (by omega)
    obtain ⟨ci, Y, hci, hqc⟩ := hnq
    have hqN := (hE q hqE).2.ev e02
    have h2' := hz'.ev e2 (W1_k (by omega)) fun a k _ hk w => by have := w.2; unfold mkd at hk; omega
    unfold wJ37_getKey wJ37_getKeyb0 wJ37_getValue wJ37_getValueb0
    refine ⟨cO hqc (by rcases hci with rfl | rfl <;> decide), hqN.rc, gR hqc (by rcases hci with rfl | rfl <;> decide) rfl ⟨hqN.rc, gR hqc (by rcases hci with rfl | rfl <;> decide) rfl (hash_k hk ⟨h2'.rc, put_k e02.t h2' hk (by omega) (fun a ha => hDn a (Nat.le_trans e02.le ha)) (e02.rm hb (by omega)) (fun q' hq' hx => ?_) fun _ τ3 a N3 hN3 hN3' e3 h3' hNa => ?_⟩)⟩⟩
    · exfalso
      have := (hk1 q.2.1).mp ⟨q', hq', hx⟩
      rw [hr, List.map_append, List.nodup_append] at hnd
      exact hnd.2.2 _ this _ List.mem_cons_self rfl
    · have hHz := hHr.ev (W := Wm Dn) e02 (Wm_k _) fun a k ha hk w => hdis a ha.1 ha.2 w.1
      refine hK' r2.length _ (by simp) ⟨dn ++ [q], r2, τ3, N3, fun q' => E' q' ∨ q' = (a, q.2.1, q.2.2.1, q.2.2.2), by rw [hr, List.append_assoc]; rfl, rfl, hN3', rfl, ?_, ?_, ?_, fun t => ?_, fun q' hq' => ?_⟩
      · refine (e02.trans e3 fun a k _ w => w).le' ?_
        rw [List.length_append, List.length_singleton]
        omega
      · refine hi2.keep hHz (fun q' hq' => (hmem q').mp ?_) e3 (Wm_k _) ⟨fun w => by have := w.2; unfold mkd at this; omega, fun w => by have := w.2; unfold mkd at this; omega⟩ fun a k ha hk w => hdis a ha.1 ha.2 w.1
        rw [hr]
        exact List.mem_append_right _ (List.mem_cons_of_mem _ hq')
      · rw [List.length_append, List.length_singleton]
        exact h3'
      · rw [List.map_append, List.mem_append, ← hk1]
        constructor
        · rintro ⟨q', hq' | rfl, e⟩
          · exact Or.inl ⟨q', hq', e⟩
          · exact Or.inr (List.mem_singleton.mpr e.symm)
        · rintro (⟨q', hq', e⟩ | w)
          · exact ⟨q', Or.inl hq', e⟩
          · exact ⟨_, Or.inr rfl, (List.mem_singleton.mp w).symm⟩
      · rcases hq' with hq' | rfl
        · obtain ⟨w1, w2⟩ := hk2 q' hq'
          exact ⟨(w1.ev e2).ev e3, w2⟩
        · exact ⟨hNa, q, hqE, rfl, rfl⟩
theorem dogs_k (hS : SI G σ) (h : lgD G σ D d g) (hm' : mm σ d' 12 none 0 0 0 []) (hd' : Dn d') (hDn : ∀ a, σ.2.1 ≤ a → Dn a) (hdis : ∀ a, D a → a < σ.2.1 → ¬ Dn a) (hb : bd G σ 4100) (hP : ∀ τ, ev G (Wm Dn) 1700 σ τ → lgD G τ Dn d' g → K τ) : wJ1_putAll G K PX (some d') (some d) σ := by
  obtain ⟨pr, N, E, hH, h1, h2, h3⟩ := h
  obtain ⟨t, md, th, hm, hDm, h0, hor⟩ := id hH
  obtain ⟨-, k0, k1, k3, hmc⟩ := id hm
  obtain ⟨-, j0, j1, j3, hmc'⟩ := id hm'
  have hn := cntB_le (p := pr) (n := 10)
  unfold wJ1_putAll wJ1_putAllb0 wJ1_putMapEntries wJ1_putMapEntriesb0 wJ1_size wJ1_sizeb0
  refine ⟨rco hmc', hH.rc, gI hmc (by decide) rfl ⟨fun w => ?_, fun w => gR hmc' (by decide) rfl ⟨fun w => absurd rfl w, fun _ => gFl hmc' (by decide) rfl ?_⟩⟩⟩
  · rw [show (0 : Int32) = Int32.ofNat 0 from rfl, i_le (by omega) (by omega)] at w
    have hz := cntB_z (p := pr) (n := 10) (by omega)
    exact hP σ ((ev.refl hS).le' (by omega)) ⟨fun _ => false, 0, _, mm.HM hm' hd', fun t => ⟨fun w => (nomatch w), fun ⟨_, w, _⟩ => w.elim⟩, fun _ w => w.elim, fun t ht _ => h3 t ht (hz t ht)⟩
  · rw [show (0 : Int32) = Int32.ofNat 0 from rfl, i_le (by omega) (by omega)] at w
    obtain ⟨n, hn1⟩ : ∃ m, cntB pr 10 = m + 1 := ⟨cntB pr 10 - 1, by omega⟩
    obtain ⟨g1, g2, g3, g4⟩ := cG n (by omega)
    rw [← hn1] at g1 g2 g3 g4
    refine ⟨cH, g1, ceil_k (by omega) hn ⟨g2, fun w => absurd w g3, fun _ => ?_⟩⟩
    rw [g4]
    unfold wJ1_putMapEntriesb48 wJ1_putMapEntriesb68
    refine gI hmc' (by decide) rfl ⟨fun w => ?_, fun _ => tsf_k (by omega) hn (pM hS hmc' (by decide) (by simp) (Or.inl rfl) (by decide) (by decide) (by decide) fun τ w2 e2 => ?_)⟩
    · rw [show (0 : Int32) = Int32.ofNat 0 from rfl, i_le (by omega) (by omega)] at w
      omega
    · have hdd : d ≠ d' := by
        rintro rfl
        exact hdis d hDm (hS.lt hmc) hd'
      have e2' : ev G (Wm Dn) 0 σ τ := e2.up hd' (Or.inl rfl)
      have hHr := (hH.res hS).ev e2' (Wm_k _) fun a k ha hk w => hdis a ha.1 ha.2 w.1
      refine ents_all e2.t hHr ⟨Or.inl rfl, _, _, _, w2.1⟩ pw_tsf hd' (fun a ha => hDn a (Nat.le_trans e2.le ha)) (fun a ha _ => hdis a ha.1 ha.2) hn (fun q hq => ⟨(h2 q hq).1, (h2 q hq).2.1.ev e2⟩) (e2.rm hb (by omega)) (fun υ N' E' e3 h4 h5 h6 => hP υ ((e2'.trans e3 fun a k _ w => w).le' (by omega)) ⟨pr, N', E', h4, fun t => (h1 t).trans (h5 t).symm, fun q hq => ?_, h3⟩) fun r hnd hr => ?_
      · obtain ⟨w1, q0, w3, w4, w5⟩ := h6 q hq
        obtain ⟨u1, -, v, u3, u4⟩ := h2 q0 w3
        rw [w4] at u1 u4
        exact ⟨u1, w1, v, by rw [← w5]; exact u3, (e2'.trans e3 fun a k _ w => w).o u4 (fun w => by have := w.2; unfold mkd at this; omega) (by decide) (by decide)⟩
      · rw [← List.length_map (f := fun q : eT => q.2.1)]
        exact cntB_nd hnd fun x => ⟨fun w => by
          obtain ⟨q, hq, rfl⟩ := List.mem_map.mp w
          exact ⟨(h2 q ((hr q).mp hq)).1, (h1 _).mpr ⟨q, (hr q).mp hq, rfl⟩⟩, fun w => by
          obtain ⟨q, hq, e⟩ := (h1 x).mp w.2
          exact List.mem_map.mpr ⟨q, (hr q).mpr hq, e⟩⟩
end CP3
