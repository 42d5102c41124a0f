/-! the changes of a ledger: a loan -/
set_option maxRecDepth 100000
section CH2
variable {G : gE} {σ : hSt} {PX : Nat → Nat → hSt → Prop} {P : Int32 → hSt → Prop} {n0 : Nat} {o A : Nat → Nat} {md : Int32} {es : List eT} {g : Nat → Int32}
theorem kne {a b ca cb : Nat} {fa fb : List Value} (ha : σ.1 a = some (.inr (ca, fa))) (hb : σ.1 b = some (.inr (cb, fb))) (hc : ca ≠ cb) : a ≠ b := by
  rintro rfl
  rw [ha] at hb
  injection hb with v; injection v with v; injection v with v1 v2
  exact hc v1
theorem lend_k {k t nm to : Nat} {fee : Int32} (hS : SI G σ) (h : LG G σ n0 o A md es g) (hd : dOK g) (hb : bd G σ 20) (hk : k < 4) (ht : t < 10) (hto : to < 6) (hn : KY σ 5 nm (10 * k + t))
    (hR : ∀ r d τ q, sLend g (Int32.ofNat k) (Int32.ofNat t) to fee (.inl (r, d)) → ev G W0 9 σ τ → RF τ q r d → PX 8 q τ)
    (hP : ∀ v g' τ, sLend g (Int32.ofNat k) (Int32.ofNat t) to fee (.inr (v, g')) → ev G (Wn n0) 9 σ τ → LG G τ n0 o A md es g' → P v τ) : wX2_lend G P PX (some (A 0)) (some nm) (Int32.ofNat to) fee σ := by
  unfold wX2_lend wX2_lendb0
  refine ⟨h.rc, excuse_k hS h (hb.mono (by omega)) hk ht hn (fun e he hxE => ?_) fun hno τ q e hq => hR 3 _ τ q (Or.inl ⟨hno, rfl⟩) e hq⟩
  obtain ⟨q, hq, hx, hxc, hxn⟩ := xq_of h he.1
  have h12 := h.ok.1.1
  have hec := he.1
  have hb9 := hb.mono (m := 9) (by omega)
  obtain ⟨-, -, ⟨ho, ho'⟩, -⟩ := h.ok.2 e he.1
  refine ⟨rco hxc, isLent_k hxc (hd e he.1) (fun w1 => gI hxc (by decide) rfl (refuse_k hS hb9 (fun _ => gI hxc (by decide) rfl ?_) fun w => absurd rfl w)) fun w1 => gI hxc (by decide) rfl (refuse_k hS hb9 (fun w => absurd w n10) fun _ τ q e1 hq => hR 7 _ τ q (Or.inr ⟨e, he, Or.inl ⟨w1, rfl⟩⟩) e1 hq)⟩
  rw [ho', i_eq (by omega) (by omega)]
  unfold wX2_lendb36
  refine ⟨fun w2 => refuse_k hS hb9 (fun _ => h.aP hto (gI (h.pup hto) (by decide) rfl ⟨fun w3 => ?_, fun w3 => ?_⟩)) fun w => absurd rfl w, fun w2 => refuse_k hS hb9 (fun w => absurd w n10) fun _ τ q e1 hq => hR 8 _ τ q (Or.inr ⟨e, he, Or.inr ⟨w1, Or.inl ⟨w2.symm, rfl⟩⟩⟩) e1 hq⟩
  · unfold wX2_lendb60
    refine h.aP hto (gI (h.pup hto) (by decide) rfl (refuse_k hS hb9 (fun _ => h.aP hto (gI (h.pup hto) (by decide) rfl (pO hS (h.pup hto) (by decide) (by simp) (by decide) fun τ1 u1 e1 => ?_))) fun w => absurd rfl w))
    -- the borrower pays
    have s1 := setP_ (g' := gu g (114 + to) (g (114 + to) - fee)) hto h e1 (by rw [u1.1, gu_s, gu_n (by omega), gu_n (by omega)]; rfl) fun i i1 _ _ => gu_n i1
    have hx1 := e1.o hxc (fun w => kne hxc (h.pup hto) (by omega) w.1) (by decide) (by decide)
    obtain ⟨f, hh, q1, q2, q3, q4⟩ := s1.2.2.2.1
    refine gR s1.L (by decide) (by rfl) (gI hx1 (by decide) rfl ?_)
    rw [ho']
    refine aR q3 (by decide) (by omega) ho ?_
    rw [q4 _ ho]
    refine gI (s1.pup ho) (by decide) (by rfl) (pO e1.t (s1.pup ho) (by decide) (by simp) (by decide) fun τ2 u2 e2 => ?_)
    -- the owner is paid
    have s2 := setP_ (g' := gu (gu g (114 + to) (g (114 + to) - fee)) (114 + oOf g e) (g (114 + oOf g e) + fee)) ho s1 e2 (by
      rw [u2.1, gu_s]
      simp (disch := omega) only [gu_n]
      rfl) fun i i1 _ _ => gu_n i1
    have hx2 := e2.o hx1 (fun w => kne hx1 (s1.pup ho) (by omega) w.1) (by decide) (by decide)
    refine pO e2.t hx2 (by decide) (by simp) (by decide) fun τ3 u3 e3 => pO e3.t u3.1 (by decide) (by simp) (by decide) fun τ4 u4 e4 => ?_
    have e34 : ev G (W1 (xa es e) 7) 0 τ2 τ4 := (e3.tr e4).le' (by omega)
    have s4 := setX_ (g' := gu (gu (gu (gu g (114 + to) (g (114 + to) - fee)) (114 + oOf g e) (g (114 + oOf g e) + fee)) (66 + e) (Int32.ofNat to)) (102 + e) 1) s2 hq hx e34 (by
      rw [u4.1]
      unfold excF
      simp (disch := omega) only [gu_s, gu_n]
      rfl) (fun i hi => by rw [gu_n (by omega), gu_n (by omega)]) (ok_D (e := e) s2.ok hto (by rw [gu_n (by omega), gu_s]) (fun i hi hne => by rw [gu_n (by omega), gu_n hne]) (by omega))
    refine gI s4.L (by decide) (by rfl) (pO e4.t s4.L (by decide) (by simp) (by decide) fun τ5 u5 e5 => ?_)
    have s5g : ∀ i, i = 0 ∨ 6 ≤ i → lenG g e to (oOf g e) fee i = gu (gu (gu (gu g (114 + to) (g (114 + to) - fee)) (114 + oOf g e) (g (114 + oOf g e) + fee)) (66 + e) (Int32.ofNat to)) (102 + e) 1 i := fun i hi => gu_n (by omega)
    have s5 := setL_ (g' := lenG g e to (oOf g e) fee) s4 e5 (by
      rw [u5.1]
      unfold lenG
      simp (disch := omega) only [gu_s, gu_n]
      rfl) s5g (ok_L s4.ok s5g)
    have hx5 := e5.o u4.1 (fun w => kne u4.1 s4.L (by omega) w.1) (by decide) (by decide)
    obtain ⟨f', hh', r1, r2, r3, r4⟩ := s5.2.2.2.1
    refine gR s5.L (by decide) (by rfl) (gI hx5 (by decide) rfl ?_)
    rw [ho']
    refine aR r3 (by decide) (by omega) ho ?_
    rw [r4 _ ho]
    refine gI (s5.pup ho) (by decide) (by rfl) ?_
    have hv : lenG g e to (oOf g e) fee (114 + oOf g e) = g (114 + oOf g e) + fee := by
      unfold lenG
      simp (disch := omega) only [gu_s, gu_n]
    rw [hv]
    refine hP _ _ τ5 (Or.inr ⟨e, he, Or.inr ⟨w1, Or.inr ⟨fun w => w2 w.symm, Or.inr ⟨w3, rfl⟩⟩⟩⟩) ?_ s5
    exact (((e1.w1n (h.An (by omega)) (Nat.le_refl _)).tr (e2.w1n (h.An (by omega)) (Nat.le_refl _))).tr ((e34.w1n hxn (Nat.le_refl _)).tr (e5.w1n (h.An (by omega)) (Nat.le_refl _)))).le' (by omega)
  · unfold wX2_lendb60
    exact h.aP hto (gI (h.pup hto) (by decide) rfl (refuse_k hS hb9 (fun w => absurd w n10) fun _ τ q e1 hq => hR 6 _ τ q (Or.inr ⟨e, he, Or.inr ⟨w1, Or.inr ⟨fun w => w2 w.symm, Or.inl ⟨w3, rfl⟩⟩⟩⟩) e1 hq))
/-- the own addresses chosen anew: what comes is the map's i -/
def oi (σ : hSt) (o : Nat → Nat) (i : Nat) : Nat → Nat := fun x => if x < σ.2.1 then o x else i
theorem own_k (i : Nat) (hS : SI G σ) (h : LG G σ n0 o A md es g) : LG G σ n0 (oi σ o i) A md es g := by
  have key : ∀ j x, (oD o n0 j x ∧ x < σ.2.1) → oD (oi σ o i) n0 j x := fun j x w => ⟨by unfold oi; rw [if_pos w.2]; exact w.1.1, w.1.2⟩
  obtain ⟨h1, h2, h3, h4, h5, h6, ⟨h7, h7'⟩, h8, h9, h10⟩ := h
  refine ⟨h1, h2, h3, h4, h5, h6, ⟨(h7.res hS).mono (key 0), h7'⟩, h8, ?_, fun s hs => ?_⟩
  · obtain ⟨pr, N, E, q1, q2⟩ := h9
    exact ⟨pr, N, E, (q1.res hS).mono (key 1), q2⟩
  · obtain ⟨N, q⟩ := h10 s hs
    exact ⟨N, (q.res hS).mono (key _)⟩
theorem own_n {i x : Nat} (hn : n0 ≤ σ.2.1) (hx : σ.2.1 ≤ x) : oD (oi σ o i) n0 i x := ⟨by unfold oi; rw [if_neg (by omega)], by omega⟩
theorem own_d {i j x : Nat} (h : oD o n0 i x) (h' : oD o n0 j x) : i = j := h.1.symm.trans h'.1
end CH2
