/-! copies: an excuse, a pupil, a set, a map -/
set_option maxRecDepth 100000
section CP2
variable {G : gE} {σ : hSt} {PX : Nat → Nat → hSt → Prop} {K : hSt → Prop} {P : Option Nat → hSt → Prop}
theorem xcopy_k {x nm : Nat} {q ow hd w u b d : Int32} (hS : SI G σ) (hb : bd G σ 9) (hx : σ.1 x = some (.inr (7, [va_rf (some nm), .int q, .int ow, .int hd, .int w, .int u, .int b, .int d]))) (hP : ∀ τ a, ev G W0 9 σ τ → σ.2.1 ≤ a → τ.1 a = some (.inr (7, [va_rf (some nm), .int q, .int ow, .int hd, .int w, .int u, .int b, .int d])) → P (some a) τ) : wX8_copy G P PX (some x) σ := by
  unfold wX8_copy wX8_copyb0 wX8_init wX8_initb0
  refine nO hS hb (fun w => by omega) fun a τ n hX e => ?_
  have hne : x ≠ a := n.ne hx
  have hx0 := n.o hx
  have ha : σ.2.1 ≤ a := by rw [n.1]; exact Nat.le_refl _
  refine gR hx0 (by decide) rfl (gI hx0 (by decide) rfl (gI hx0 (by decide) rfl ⟨⟨a, rfl⟩, ⟨a, rfl⟩, pO e.t n.2.1 (by decide) (by simp) (by decide) fun τ1 w1 e1 => pO e1.t w1.1 (by decide) (by simp) (by decide) fun τ2 w2 e2 => pO e2.t w2.1 (by decide) (by simp) (by decide) fun τ3 w3 e3 => pO e3.t w3.1 (by decide) (by simp) (by decide) fun τ4 w4 e4 => pO e4.t w4.1 (by decide) (by simp) (by decide) fun τ5 w5 e5 => ?_⟩))
  have f5 := e1.tr (e2.tr (e3.tr (e4.tr e5)))
  have hx5 := f5.o hx0 (fun w => hne w.1) (by decide) (by decide)
  refine gI hx5 (by decide) rfl (pO e5.t w5.1 (by decide) (by simp) (by decide) fun τ6 w6 e6 => ?_)
  have hx6 := e6.o hx5 (fun w => hne w.1) (by decide) (by decide)
  refine gI hx6 (by decide) rfl (pO e6.t w6.1 (by decide) (by simp) (by decide) fun τ7 w7 e7 => ?_)
  have hx7 := e7.o hx6 (fun w => hne w.1) (by decide) (by decide)
  refine gI hx7 (by decide) rfl (pO e7.t w7.1 (by decide) (by simp) (by decide) fun τ8 w8 e8 => ?_)
  have hx8 := e8.o hx7 (fun w => hne w.1) (by decide) (by decide)
  refine gI hx8 (by decide) rfl (pO e8.t w8.1 (by decide) (by simp) (by decide) fun τ9 w9 e9 => ?_)
  have hx9 := e9.o hx8 (fun w => hne w.1) (by decide) (by decide)
  refine gI hx9 (by decide) rfl (pO e9.t w9.1 (by decide) (by simp) (by decide) fun τA wA eA => ?_)
  have fA := f5.tr (e6.tr (e7.tr (e8.tr (e9.tr eA))))
  exact hP τA a ((e.f1 fA ha).le' (by omega)) ha wA.1
theorem pcopy_k {x : Nat} {c u b : Int32} (hS : SI G σ) (hb : bd G σ 4) (hx : σ.1 x = some (.inr (3, [.int c, .int u, .int b]))) (hP : ∀ τ a, ev G W0 4 σ τ → σ.2.1 ≤ a → τ.1 a = some (.inr (3, [.int c, .int u, .int b])) → P (some a) τ) : wX4_copy G P PX (some x) σ := by
  unfold wX4_copy wX4_copyb0 wX4_init wX4_initb0
  refine nO hS hb (fun w => by omega) fun a τ n hX e => ?_
  have hne : x ≠ a := n.ne hx
  have hx0 := n.o hx
  have ha : σ.2.1 ≤ a := by rw [n.1]; exact Nat.le_refl _
  refine ⟨⟨a, rfl⟩, ⟨a, rfl⟩, pO e.t n.2.1 (by decide) (by simp) (by decide) fun τ1 w1 e1 => ?_⟩
  have hx1 := e1.o hx0 (fun w => hne w.1) (by decide) (by decide)
  refine gI hx1 (by decide) rfl (pO e1.t w1.1 (by decide) (by simp) (by decide) fun τ2 w2 e2 => ?_)
  have hx2 := e2.o hx1 (fun w => hne w.1) (by decide) (by decide)
  refine gI hx2 (by decide) rfl (pO e2.t w2.1 (by decide) (by simp) (by decide) fun τ3 w3 e3 => ?_)
  have hx3 := e3.o hx2 (fun w => hne w.1) (by decide) (by decide)
  refine gI hx3 (by decide) rfl (pO e3.t w3.1 (by decide) (by simp) (by decide) fun τ4 w4 e4 => ?_)
  exact hP τ4 a ((e.f1 (e1.tr (e2.tr (e3.tr e4))) ha).le' (by omega)) ha w4.1
/-- a HashSet's iterator -/
theorem sit_k {D : Nat → Prop} {h m n N : Nat} {E : eT → Prop} (hS : SI G σ) (hc : σ.1 h = some (.inr (14, [va_rf (some m)]))) (hE : HM G σ D 9 m n N E) (hn : n ≤ 240) (hb : bd G σ 8) (hP : ∀ τ it r, ev G W0 8 σ τ → σ.2.1 ≤ it → HI τ it 21 m 9 r → (r.map fun q => q.2.1).Nodup → (∀ q, q ∈ r ↔ E q) → P (some it) τ) : wJ5_iterator G P PX (some h) σ := by
  unfold wJ5_iterator wJ5_iteratorb0 wJ23_iterator wJ23_iteratorb0 wJ22_init wJ22_initb0
  refine gR hc (by decide) rfl ⟨hE.rc, keys_k hS hE (hb.mono (by omega)) fun τ v e1 hv => ⟨rco hv, nO e1.t (e1.rm hb (by omega)) (fun w => by omega) fun it τ2 n2 hX e2 => gR (n2.o hv) (by decide) rfl ⟨⟨it, rfl⟩, ⟨it, rfl⟩, ?_⟩⟩⟩
  have e12 := e1.tr e2
  have hE2 := hE.ev e12 W0_k fun _ _ _ _ w => w
  have hit : σ.2.1 ≤ it := by rw [n2.1]; exact e1.le
  exact hinit_k (Or.inr rfl) e2.t hE2 hn n2.2.1 fun τ3 r e3 hi hnd hr => hP τ3 it r ((e12.f1 e3 hit).le' (by omega)) hit hi hnd hr
/-- all of one set into another, an empty one -/
theorem addAll_k {P : Int32 → hSt → Prop} {D Dn : Nat → Prop} {h m N h' m' : Nat} {p : Nat → Bool} (hS : SI G σ) (hh : HS G σ D h m (cntB p 240) N (fun x => p x = true)) (hh' : HS G σ Dn h' m' 0 0 (fun _ => False)) (hDn : ∀ a, σ.2.1 ≤ a → Dn a) (hdis : ∀ a, D a → a < σ.2.1 → ¬ Dn a) (hc1 : ∀ x, p x = true → x < 240) (hb : bd G σ 6000) (hP : ∀ τ N' v, N' ≤ 512 → ev G (Wm Dn) (8 + 5 * 240 + 3 * 512) σ τ → HS G τ Dn h' m' (cntB p 240) N' (fun x => p x = true) → P v τ) : wJ3_addAll G P PX (some h') (some h) σ := by
  have hn := cntB_le (p := p) (n := 240)
  have hhr := hh.res hS
  unfold wJ3_addAll wJ3_addAllb0
  obtain ⟨hcc, E, hHM, -, hSE⟩ := id hhr
  refine ⟨rco hcc, sit_k hS hcc hHM hn (hb.mono (by omega)) fun τ it r e1 hit hi hnd hmem => ?_⟩
  have hSr : ∀ x, p x = true ↔ x ∈ r.map fun q => q.2.1 := fun x => by
    refine (hSE x).trans ?_
    rw [List.mem_map]
    exact ⟨fun ⟨q, hq, e⟩ => ⟨q, (hmem q).mpr hq, e⟩, fun ⟨q, hq, e⟩ => ⟨q, (hmem q).mp hq, e⟩⟩
  have hrl : r.length = cntB p 240 := by
    rw [← List.length_map (f := fun q : eT => q.2.1)]
    exact cntB_nd hnd fun x => ⟨fun w => ⟨hc1 x ((hSr x).mpr w), (hSr x).mpr w⟩, fun w => (hSr x).mp w.2⟩
  have h1' := hh'.ev e1 W0_k (fun _ _ _ _ w => w) fun w => w
  refine lp_n (fun n y => ∃ d r' v z N', r = d ++ r' ∧ n = r'.length ∧ N' ≤ 512 ∧ y = (some h', v, some it, z) ∧ (v = 0 ∨ v = 1) ∧ ev G (Wm Dn) (8 + 5 * d.length + 3 * N') σ z ∧ HI z it 21 m 9 r' ∧ HS G z Dn h' m' d.length N' (fun x => x ∈ d.map fun q => q.2.1)) r.length ⟨[], r, 0, τ, 0, rfl, rfl, by omega, rfl, Or.inl rfl, e1.up0, hi, h1'.congr fun x => ⟨fun w => w.elim, fun w => nomatch w⟩⟩ ?_
  rintro n y ⟨d, r', v, z, N', hr, rfl, hN', rfl, hv, ez, hiz, hz'⟩ K hK
  unfold wJ3_addAllb9
  have hdl : d.length + r'.length = cntB p 240 := by rw [← hrl, hr, List.length_append]
  refine ⟨hiz.rc, hhas_k hiz (fun hr0 => ⟨fun _ => ?_, fun w => absurd rfl w⟩) fun hr1 => ⟨fun w => absurd w n10, fun _ => ⟨hiz.rc, ?_⟩⟩⟩
  · subst hr0
    have : d.length = cntB p 240 := by simpa using hdl
    rw [this] at hz' ez
    rw [List.append_nil] at hr
    subst hr
    refine ⟨?_, hP z N' v hN' (ez.le' (by omega)) (hz'.congr fun x => (hSr x).symm)⟩
    rcases hv with rfl | rfl
    · exact ok_b0
    · exact ok_b1
  · obtain ⟨q, r2, rfl⟩ : ∃ q r2, r' = q :: r2 := by
      cases r' with
      | nil => exact absurd rfl hr1
      | cons q r2 => exact ⟨q, r2, rfl⟩
    unfold wJ22_next wJ22_nextb0
    have hitD : ∀ τ', ev G (W1 it 21) 0 z τ' → ev G (Wm Dn) (8 + 5 * d.length + 3 * N') σ τ' := fun τ' e2 => (ez.fr e2 fun b k w => by rw [w.1]; exact hit).le' (by omega)
    refine ⟨hiz.rc, hnext_k ez.t hiz fun τ2 nx e2 hi2 hk hnq => ?_⟩
    obtain ⟨ci, Y, hci, hqc⟩ := hnq
    have e02 := hitD τ2 e2
    have h2' := hz'.ev e2 (W1_k (by omega)) (fun a k _ hk w => by have := w.2; unfold mkd at hk; omega) fun w => by have := w.2; omega
    have hl2 : d.length + (r2.length + 1) = cntB p 240 := by simpa using hdl
    refine gR hqc (by rcases hci with rfl | rfl <;> decide) rfl ⟨rco h2'.1, sadd_k e02.t h2' hk (by omega) (fun a ha => hDn a (Nat.le_trans e02.le ha)) (e02.rm hb (by omega)) (fun hx => ?_) fun _ τ3 N3 hN3 hN3' e3 h3' => ⟨fun w => absurd w n10, fun _ => ?_⟩⟩
    · exfalso
      rw [hr, List.map_append, List.nodup_append] at hnd
      exact hnd.2.2 _ hx _ List.mem_cons_self rfl
    · unfold wJ3_addAllb37
      have hHz := hHM.ev (W := Wm Dn) e02 (Wm_k _) fun a k ha hk w => hdis a ha.1 ha.2 w.1
      refine hK r2.length _ (by simp) ⟨d ++ [q], r2, 1, τ3, N3, by rw [hr, List.append_assoc]; rfl, rfl, hN3', rfl, Or.inr rfl, ?_, ?_, ?_⟩
      · refine (e02.trans e3 fun a k _ w => w).le' ?_
        rw [List.length_append, List.length_singleton]
        omega
      · refine hi2.keep hHz (fun q' hq' => (hmem q').mp ?_) e3 (Wm_k _) ⟨fun w => by have := w.2; unfold mkd at this; omega, fun w => by have := w.2; unfold mkd at this; omega⟩ fun a k ha hk w => hdis a ha.1 ha.2 w.1
        rw [hr]
        exact List.mem_append_right _ (List.mem_cons_of_mem _ hq')
      · rw [List.length_append, List.length_singleton]
        refine h3'.congr fun x => ?_
        rw [List.map_append, List.mem_append]
        exact or_congr Iff.rfl ⟨fun w => by rw [w]; exact List.mem_singleton_self _, fun w => List.mem_singleton.mp w⟩
end CP2
