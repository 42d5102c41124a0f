/-! the model does an order that it read -/
set_option maxRecDepth 100000
section MD1
variable {G : gE} {z : hSt} {a : Nat} {A : Nat → Nat} {M : mSt} {g : Nat → Int32} {PX : Nat → Nat → hSt → Prop} {P : Int32 → hSt → Prop}
theorem nO_isX {k t : Nat} (hk : k < 4) (ht : t < 10) : isX (Int32.ofNat k) (Int32.ofNat t) := ⟨⟨i_nn (by omega), by rw [show (3 : Int32) = Int32.ofNat 3 from rfl, i_lt (by omega) (by omega)]; omega⟩, ⟨i_nn (by omega), by rw [show (9 : Int32) = Int32.ofNat 9 from rfl, i_lt (by omega) (by omega)]; omega⟩⟩
theorem x_does (h : mOK G a A) (hg : gOK g) {k : Nat} {q : cT} (hq : qOK q) (hk : k + 4 < 300) (hD : tld (M.1 17) k q)
    (f : ¬ cR q.1 q.2.1 q.2.2.2.2 → ∀ n, n ≠ 0 → P 0 (mz z a A (setG (mF M n) g)))
    (hR : ∀ r d n, cR q.1 q.2.1 q.2.2.2.2 → cDo g q.1 q.2.1 q.2.2.1 q.2.2.2.1 q.2.2.2.2 (.inl (r, d)) → n ≠ 0 → P 0 (mz z a A (setG (mR M r d n) g)))
    (hO : ∀ v g', cR q.1 q.2.1 q.2.2.2.2 → cDo g q.1 q.2.1 q.2.2.1 q.2.2.2.1 q.2.2.2.2 (.inr (v, g')) → P v (mz z a A (setG (upS M 14 0) g'))) : wX5_does G P PX (some a) (Int32.ofNat k) (mz z a A (setG M g)) := by
  obtain ⟨w, one, kk, t, ot⟩ := q
  obtain ⟨hw, hk4, ht10, h8⟩ := hq
  dsimp only at hw hk4 ht10 h8 f hR hO
  have hx := nO_isX hk4 ht10
  have out : cR w one ot → ∀ n, n ≠ 0 → ∀ o, cDo g w one kk t ot o → mO P z a A M g n o := by
    intro c n hn o ho
    cases o with
    | inl x => obtain ⟨r, d⟩ := x; exact hR r d n c ho hn
    | inr x => obtain ⟨v, g'⟩ := x; exact hO v g' c ho
  have e17 : (setG M g).1 17 = M.1 17 := setG_n (by decide)
  unfold wX5_does wX5_doesb0
  rw [show (2 : Int32) = Int32.ofNat 2 from rfl, show (3 : Int32) = Int32.ofNat 3 from rfl, show (4 : Int32) = Int32.ofNat 4 from rfl]
  simp (disch := omega) only [m_g17, m_a17 h, i_succ, i_add, i_nat, iv, true_and, m_rc, e17]
  rcases hD with ⟨e, d0, d1, d2, d3, d4⟩ | ⟨e, d0, d1, d2⟩ | ⟨e, d0, d1, d2, d3, d4⟩ | ⟨e, d0, d1, d2⟩ | ⟨e, d0, d1, d2, d3⟩ | ⟨e, d0, d1, d2, d3, d4⟩ | ⟨e, d0, d1, d2⟩ | ⟨e, d0, d1⟩ | ⟨e, d0⟩ <;> dsimp only at e <;> subst e
  · dsimp only at d1 d2 d3 d4
    rw [d0, d1, d2, d3, d4]
    refine ⟨fun u => ?_, fun u => ?_, fun u => ?_, fun u => ?_, fun u => ?_, fun u => ?_, fun u => ?_, fun u => ?_, fun u => ?_⟩ <;> first | exact absurd u (by decide) | exact absurd (by decide) u | skip
    exact x_enters h hg (fun c => f (fun r => c (r.1 rfl).1) 1 (by decide)) (fun _ c => f (fun r => c ⟨hx, (r.1 rfl).2⟩) 2 (by decide)) fun c1 _ c3 o ho => out ⟨fun _ => ⟨c1, c3⟩, fun e => absurd e (by decide), fun e => absurd e (by decide), fun e => absurd e (by decide), fun e => absurd e (by decide)⟩ 3 (by decide) o (Or.inl ⟨rfl, ho⟩)
  · dsimp only at d1 d2
    rw [d0, d1, d2]
    refine ⟨fun u => ?_, fun u => ?_, fun u => ?_, fun u => ?_, fun u => ?_, fun u => ?_, fun u => ?_, fun u => ?_, fun u => ?_⟩ <;> first | exact absurd u (by decide) | exact absurd (by decide) u | skip
    exact x_strikes h hg (fun c => absurd hx c) fun _ o ho => out (cR_0 (by omega)) 2 (by decide) o (Or.inr (Or.inl ⟨rfl, ho⟩))
  · dsimp only at d1 d2 d3 d4
    rw [d0, d1, d2, d3, d4]
    refine ⟨fun u => ?_, fun u => ?_, fun u => ?_, fun u => ?_, fun u => ?_, fun u => ?_, fun u => ?_, fun u => ?_, fun u => ?_⟩ <;> first | exact absurd u (by decide) | exact absurd (by decide) u | skip
    exact x_lends h hg (fun c => f (fun r => c ⟨hx, (r.2.1 rfl).2⟩) 1 (by decide)) (fun _ _ c => f (fun r => c (r.2.1 rfl).1) 2 (by decide)) fun _ c2 to hto ht6 o ho => out ⟨fun e => absurd e (by decide), fun _ => ⟨by rw [hto]; exact ⟨i_nn (by omega), by rw [show (5 : Int32) = Int32.ofNat 5 from rfl, i_lt (by omega) (by omega)]; omega⟩, c2⟩, fun e => absurd e (by decide), fun e => absurd e (by decide), fun e => absurd e (by decide)⟩ 3 (by decide) o (Or.inr (Or.inr (Or.inl ⟨rfl, to, hto, ht6, ho⟩)))
  · dsimp only at d1 d2
    rw [d0, d1, d2]
    refine ⟨fun u => ?_, fun u => ?_, fun u => ?_, fun u => ?_, fun u => ?_, fun u => ?_, fun u => ?_, fun u => ?_, fun u => ?_⟩ <;> first | exact absurd u (by decide) | exact absurd (by decide) u | skip
    exact x_givesBack h hg (fun c => absurd hx c) fun _ o ho => out (cR_0 (by omega)) 2 (by decide) o (Or.inr (Or.inr (Or.inr (Or.inl ⟨rfl, ho⟩))))
  · dsimp only at d1 d2 d3
    rw [d0, d1, d2, d3]
    refine ⟨fun u => ?_, fun u => ?_, fun u => ?_, fun u => ?_, fun u => ?_, fun u => ?_, fun u => ?_, fun u => ?_, fun u => ?_⟩ <;> first | exact absurd u (by decide) | exact absurd (by decide) u | skip
    exact x_mends h hg (fun c => f (fun r => c ⟨hx, r.2.2.1 rfl⟩) 1 (by decide)) fun _ c2 o ho => out ⟨fun e => absurd e (by decide), fun e => absurd e (by decide), fun _ => c2, fun e => absurd e (by decide), fun e => absurd e (by decide)⟩ 2 (by decide) o (Or.inr (Or.inr (Or.inr (Or.inr (Or.inl ⟨rfl, ho⟩)))))
  · dsimp only at d1 d2 d3 d4
    rw [d0, d1, d2, d3, d4]
    refine ⟨fun u => ?_, fun u => ?_, fun u => ?_, fun u => ?_, fun u => ?_, fun u => ?_, fun u => ?_, fun u => ?_, fun u => ?_⟩ <;> first | exact absurd u (by decide) | exact absurd (by decide) u | skip
    refine x_uses h hg (fun c => f (fun r => c (r.2.2.2.1 rfl)) 1 (by decide)) (fun _ _ c => absurd hx c) fun p k' t' s hp hp6 hk' hk4' ht' ht10' hs hs3 o ho => ?_
    have ek : kk = k' := (i_eq (by omega) (by omega)).mp hk'
    have et : t = t' := (i_eq (by omega) (by omega)).mp ht'
    subst ek
    subst et
    exact out ⟨fun e => absurd e (by decide), fun e => absurd e (by decide), fun e => absurd e (by decide), fun _ => ⟨by rw [hp]; exact ⟨i_nn (by omega), by rw [show (5 : Int32) = Int32.ofNat 5 from rfl, i_lt (by omega) (by omega)]; omega⟩, by rw [hs]; exact ⟨i_nn (by omega), by rw [show (2 : Int32) = Int32.ofNat 2 from rfl, i_lt (by omega) (by omega)]; omega⟩⟩, fun e => absurd e (by decide)⟩ 3 (by decide) o (Or.inr (Or.inr (Or.inr (Or.inr (Or.inr (Or.inl ⟨rfl, p, s, hp, hp6, hs, hs3, ho⟩))))))
  · dsimp only at d1 d2
    rw [d0, d1, d2]
    refine ⟨fun u => ?_, fun u => ?_, fun u => ?_, fun u => ?_, fun u => ?_, fun u => ?_, fun u => ?_, fun u => ?_, fun u => ?_⟩ <;> first | exact absurd u (by decide) | exact absurd (by decide) u | skip
    exact x_stricts h (fun c => f (fun r => c (r.2.2.2.2 rfl).1) 1 (by decide)) (fun _ c => f (fun r => c (r.2.2.2.2 rfl).2) 2 (by decide)) fun s hs hs3 c2 o ho => out ⟨fun e => absurd e (by decide), fun e => absurd e (by decide), fun e => absurd e (by decide), fun e => absurd e (by decide), fun _ => ⟨by rw [hs]; exact ⟨i_nn (by omega), by rw [show (2 : Int32) = Int32.ofNat 2 from rfl, i_lt (by omega) (by omega)]; omega⟩, c2⟩⟩ 3 (by decide) o (Or.inr (Or.inr (Or.inr (Or.inr (Or.inr (Or.inr (Or.inl ⟨rfl, s, hs, hs3, ho⟩)))))))
  · dsimp only at d1
    rw [d0, d1]
    refine ⟨fun u => ?_, fun u => ?_, fun u => ?_, fun u => ?_, fun u => ?_, fun u => ?_, fun u => ?_, fun u => ?_, fun u => ?_⟩ <;> first | exact absurd u (by decide) | exact absurd (by decide) u | skip
    exact x_weathers h (fun c => absurd (h8 rfl) c) fun _ o ho => out (cR_0 (by omega)) 2 (by decide) o (Or.inr (Or.inr (Or.inr (Or.inr (Or.inr (Or.inr (Or.inr (Or.inl ⟨rfl, ho⟩))))))))
  · rw [d0]
    refine ⟨fun u => ?_, fun u => ?_, fun u => ?_, fun u => ?_, fun u => ?_, fun u => ?_, fun u => ?_, fun u => ?_, fun u => ?_⟩ <;> first | exact absurd u (by decide) | exact absurd (by decide) u | skip
    unfold wX5_doesb217
    refine ⟨m_rcv, x_ends h hg fun o ho => ?_⟩
    cases o with
    | inl x => exact nomatch (show (Sum.inl x : oR) = _ from ho)
    | inr x => obtain ⟨v, g'⟩ := x; exact hO v g' (cR_0 (by omega)) (Or.inr (Or.inr (Or.inr (Or.inr (Or.inr (Or.inr (Or.inr (Or.inr ⟨rfl, ho⟩))))))))
end MD1
